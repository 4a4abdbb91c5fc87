set_option maxRecDepth 100000
/-! the Model: a term -/
def bc (t : Nat) : Nat := t % 2 + t / 2 % 2 + t / 4 % 2
theorem bc_f1 : ∀ t, t < 8 → ∀ u, u < 3 → bc t ≤ 3 ∧ (t / 2 ^ u % 2 = 0 → t + 2 ^ u < 8 ∧ bc (t + 2 ^ u) = bc t + 1 ∧ t ||| 2 ^ u = t + 2 ^ u) := by decide +kernel
theorem bc_f2 (t : Nat) (ht : t < 8) (u : Nat) (hu : u < 3) (w : Nat) (hw : w < 3) (h : t / 2 ^ u % 2 = 0 ∧ (t + 2 ^ u) / 2 ^ w % 2 = 0) : w ≠ u ∧ t / 2 ^ w % 2 = 0 := by
  have a : u = 0 ∨ u = 1 ∨ u = 2 := by omega
  have b : w = 0 ∨ w = 1 ∨ w = 2 := by omega
  rcases a with a | a | a <;> rcases b with b | b | b <;> subst a b <;> omega
theorem bc_f (t : Nat) (ht : t < 8) (u : Nat) (hu : u < 3) : bc t ≤ 3 ∧ (t / 2 ^ u % 2 = 0 → t + 2 ^ u < 8 ∧ bc (t + 2 ^ u) = bc t + 1 ∧ t ||| 2 ^ u = t + 2 ^ u ∧ ∀ w, w < 3 → (t + 2 ^ u) / 2 ^ w % 2 = 0 → w ≠ u ∧ t / 2 ^ w % 2 = 0) := ⟨(bc_f1 t ht u hu).1, fun h => ⟨((bc_f1 t ht u hu).2 h).1, ((bc_f1 t ht u hu).2 h).2.1, ((bc_f1 t ht u hu).2 h).2.2, fun w hw hz => bc_f2 t ht u hu w hw ⟨h, hz⟩⟩⟩
theorem ex_or {key e u : Nat} (hk : key < 4096) (hu : u < 3) (he : e < 16) (h0 : ex key u = 0) : key ||| e * 16 ^ u = key + e * 16 ^ u ∧ key + e * 16 ^ u < 4096 ∧ ∀ w, w < 3 → w ≠ u → ex (key + e * 16 ^ u) w = ex key w := by
  have e0 := ex_0 key
  have e1 := ex_1 key
  have e2 := ex_2 key
  have hs : key ||| e * 16 ^ u = key + e * 16 ^ u := by
    apply Nat.eq_of_testBit_eq
    have key2 : ∀ k2 lo, k2 = lo + (k2 / 16 ^ (u + 1)) * 16 ^ (u + 1) → lo < 16 ^ u → k2 ||| e * 16 ^ u = k2 + e * 16 ^ u := fun k2 lo h1 h2 => by
      have h3 : lo + (k2 / 16 ^ (u + 1)) * 16 ^ (u + 1) = lo ||| (k2 / 16 ^ (u + 1)) * 16 ^ (u + 1) := by
        rw [show (16 : Nat) ^ (u + 1) = 2 ^ (4 * (u + 1)) by rw [pow16]]
        rw [n_or_add]
        rw [pow16]
        exact Nat.lt_of_lt_of_le h2 (Nat.pow_le_pow_right (by omega) (by omega))
      have h4 : e * 16 ^ u + (k2 / 16 ^ (u + 1)) * 16 ^ (u + 1) = e * 16 ^ u ||| (k2 / 16 ^ (u + 1)) * 16 ^ (u + 1) := by
        rw [show (16 : Nat) ^ (u + 1) = 2 ^ (4 * (u + 1)) by rw [pow16], n_or_add]
        rw [pow16, Nat.pow_succ]
        have := Nat.mul_lt_mul_of_pos_right he (show 0 < 16 ^ u from Nat.pow_pos (by omega))
        omega
      have h5 : lo ||| (e + (k2 / 16 ^ (u + 1)) * 16) * 16 ^ u = lo + (e + (k2 / 16 ^ (u + 1)) * 16) * 16 ^ u := by
        rw [show (16 : Nat) ^ u = 2 ^ (4 * u) by rw [pow16], n_or_add (by rw [pow16]; exact h2)]
      have h6 : (e + (k2 / 16 ^ (u + 1)) * 16) * 16 ^ u = e * 16 ^ u + (k2 / 16 ^ (u + 1)) * 16 ^ (u + 1) := by
        rw [Nat.add_mul, Nat.pow_succ, Nat.mul_assoc, Nat.mul_comm 16]
      calc k2 ||| e * 16 ^ u = (lo + (k2 / 16 ^ (u + 1)) * 16 ^ (u + 1)) ||| e * 16 ^ u := by rw [← h1]
        _ = lo ||| (e * 16 ^ u + (k2 / 16 ^ (u + 1)) * 16 ^ (u + 1)) := by rw [h3, h4, Nat.or_assoc, Nat.or_comm (e * 16 ^ u)]
        _ = lo + (e * 16 ^ u + (k2 / 16 ^ (u + 1)) * 16 ^ (u + 1)) := by rw [← h6]; exact h5
        _ = lo + (k2 / 16 ^ (u + 1)) * 16 ^ (u + 1) + e * 16 ^ u := by omega
        _ = k2 + e * 16 ^ u := by rw [← h1]
    intro i
    have := key2 key (key % 16 ^ u) (by
      have h1 := mod_s key u
      rw [h0, Nat.zero_mul] at h1
      have h1 : key % 16 ^ (u + 1) = key % 16 ^ u := h1
      rw [← h1]
      have := Nat.div_add_mod key (16 ^ (u + 1))
      rw [Nat.mul_comm]
      omega) (Nat.mod_lt _ (Nat.pow_pos (by omega)))
    rw [this]
  refine ⟨hs, ?_⟩
  have q : u = 0 ∨ u = 1 ∨ u = 2 := by omega
  rcases q with q | q | q <;> subst q
  · rw [show (16 : Nat) ^ 0 = 1 from rfl]
    rw [ex_0] at h0
    refine ⟨by omega, fun w hw hw2 => ?_⟩
    have q : w = 1 ∨ w = 2 := by omega
    rcases q with q | q <;> subst q
    · rw [ex_1, ex_1]; omega
    · rw [ex_2, ex_2]; omega
  · rw [show (16 : Nat) ^ 1 = 16 from rfl]
    rw [ex_1] at h0
    refine ⟨by omega, fun w hw hw2 => ?_⟩
    have q : w = 0 ∨ w = 2 := by omega
    rcases q with q | q <;> subst q
    · rw [ex_0, ex_0]; omega
    · rw [ex_2, ex_2]; omega
  · rw [show (16 : Nat) ^ 2 = 256 from rfl]
    rw [ex_2] at h0
    refine ⟨by omega, fun w hw hw2 => ?_⟩
    have q : w = 0 ∨ w = 1 := by omega
    rcases q with q | q <;> subst q
    · rw [ex_0, ex_0]; omega
    · rw [ex_1, ex_1]; omega
/-- what a term's digits know -/
def tdk (told key : Nat) : Prop := told < 8 ∧ key < 4096 ∧ ∀ u, u < 3 → told / 2 ^ u % 2 = 0 → ex key u = 0
theorem tdk_s {told key u e : Nat} (h : tdk told key) (hu : u < 3) (h0 : told / 2 ^ u % 2 = 0) (he : e < 16) : tdk (told + 2 ^ u) (key + e * 16 ^ u) ∧ key ||| e * 16 ^ u = key + e * 16 ^ u ∧ told ||| 2 ^ u = told + 2 ^ u ∧ bc (told + 2 ^ u) = bc told + 1 := by
  obtain ⟨h1, h2, h3⟩ := h
  obtain ⟨b1, b2⟩ := bc_f told h1 u hu
  obtain ⟨b3, b4, b5, b6⟩ := b2 h0
  obtain ⟨c1, c2, c3⟩ := ex_or h2 hu he (h3 u hu h0)
  refine ⟨⟨b3, c2, fun w hw hz => ?_⟩, c1, b5, b4⟩
  obtain ⟨d1, d2⟩ := b6 w hw hz
  rw [c3 w hw d1]
  exact h3 w hw d2
theorem pTl_r {c : Nat → Nat} {n f told key : Nat} {x : Cu} {t : Tk} (h : (pTl c n f told key x).1 = .inr t) : ∃ t', x = .inr t' := by
  cases x with
  | inr t' => exact ⟨t', rfl⟩
  | inl q =>
    cases f with
    | zero => cases h
    | succ f => cases h
/-- one round -/
theorem pTl_s {c : Nat → Nat} {n f told key : Nat} {t : Tk} : pTl c n (f + 1) told key (.inr t) = (match cUn (.inr t) with
      | none => (.inr t, key)
      | some u =>
        if told / 2 ^ u % 2 = 1 then (cF 3 (.inr t), key)
        else
          if cK (cN c n (.inr t)) = 3 then (if 1 ≤ cV (cN c n (.inr t)) ∧ cV (cN c n (.inr t)) ≤ 15 then pTl c n f (told + 2 ^ u) (key + cV (cN c n (.inr t)) * 16 ^ u) (cN c n (cN c n (.inr t))) else (cF 4 (cN c n (.inr t)), key))
          else pTl c n f (told + 2 ^ u) (key + 16 ^ u) (cN c n (.inr t))) := rfl
def pTz (c : Nat → Nat) (n : Nat) (x : Cu) : Cu × Nat := pTl c n 4 0 0 (if cK x = 3 then cN c n x else if cUn x = none then cF 1 x else x)
theorem pTm_i {c : Nat → Nat} {n : Nat} {less : Bool} {ps : PS} {x : Cu} {e : Nat × Nat} (h : (pTz c n x).1 = .inl e) : pTm c n less ps x = (.inl e, ps) := by
  unfold pTm
  unfold pTz at h
  dsimp only
  rw [h]
theorem pTm_r {c : Nat → Nat} {n : Nat} {less : Bool} {ps : PS} {x : Cu} {t : Tk} (h : (pTz c n x).1 = .inr t) : pTm c n less ps x = (.inr t, (ps.1, ps.2.1, ps.2.2.1, ps.2.2.2.1, ps.2.2.2.2.1, tbs ps.1 ps.2.2.2.2.2 ps.2.2.2.2.1 (pTz c n x).2 less (if cK x = 3 then cV x else 1))) := by
  unfold pTm
  unfold pTz at h ⊢
  dsimp only
  rw [h]
theorem sp_readTerm {c : Nat → Nat} {n : Nat} {less : Bool} {S : St} {x : Cu} {ps : PS} {post : St → Prop} (hc : cds c n) (h : mck c n S) (hx : mgo n S x ps) (hr : ∀ t, x = .inr t → 0 < ps.1 ∧ ps.2.2.2.2.1 < 6) (hpost : ∀ S', ft S S' → mgo n S' (pTm c n less ps x).1 (pTm c n less ps x).2 → post S') : wp_readTerm (if less then 1 else 0) S post := by
  obtain ⟨hx, hps⟩ := hx
  have hcr : ∀ t, (pTz c n x).1 = .inr t → ∃ t', x = .inr t' := fun t ht => by
    obtain ⟨t1, e1⟩ := pTl_r ht
    split at e1
    · exact cN_r e1
    · split at e1
      · exact absurd e1 cF_r
      · exact ⟨t1, e1⟩
  -- the end
  have fin : ∀ (k2 : Nat) (x2 x4 : Int32) (S1 : St), fq S S1 → mcu n S1 (pTz c n x).1 → ((∃ t, (pTz c n x).1 = .inr t) → x2 = nI ((if cK x = 3 then cV x else 1) % ps.1) ∧ x4 = nI (pTz c n x).2 ∧ (pTz c n x).2 < 4096) → wp_readTerm_j174 (if less then 1 else 0) post x2 x4 S1 := fun k2 x2 x4 S1 f1 y1 w1 => by
    unfold wp_readTerm_j174
    cases hz : (pTz c n x).1 with
    | inl e =>
      rw [hz] at y1
      have y1' := y1
      obtain ⟨a1, a2, a3, _⟩ := y1
      rw [a1, li_0, nI_leI (by omega) (by omega)]
      refine ⟨fun q => absurd q (by omega), fun _ => hpost S1 (ft_q f1) ?_⟩
      rw [pTm_i hz]
      exact ⟨y1', fun t w => by cases w⟩
    | inr t =>
      obtain ⟨b1, b2, b3⟩ := w1 ⟨t, hz⟩
      obtain ⟨t', ex'⟩ := hcr t hz
      obtain ⟨r1, r2⟩ := hr t' ex'
      have hm := mps_q (hps t' ex') f1
      obtain ⟨q1, q2, q3, q4, q5⟩ := hm
      obtain ⟨pr1, _⟩ := q2 r1
      have p1 := pr1.1
      have p2 := pr1.2.1
      rw [hz] at y1
      have y1' := y1
      obtain ⟨a1, _⟩ := y1
      rw [a1, li_0, nI_leI (by omega) (by omega)]
      refine ⟨fun _ x6 e6 => ?_, fun q => absurd (by omega) q⟩
      have e6 : x6 = nI (4096 * ps.2.2.2.2.1 + (pTz c n x).2) := by rw [e6, q3, b2, li_4096, pk_mul, nI_add]
      subst e6
      obtain ⟨v1, v2, v3⟩ := q5 _ _ r2 b3
      have v2 := v2 r1
      have cm := Nat.mod_lt (if cK x = 3 then cV x else 1) (show 0 < ps.1 by omega)
      refine ⟨_, by omega, rfl, ?_⟩
      have last : ∀ S2, S2 = bw S1 2 (4096 * ps.2.2.2.2.1 + (pTz c n x).2) (nI ((ps.2.2.2.2.2 ps.2.2.2.2.1 (pTz c n x).2 + (if less then ps.1 - (if cK x = 3 then cV x else 1) % ps.1 else (if cK x = 3 then cV x else 1) % ps.1)) % ps.1)) → post S2 := fun S2 e2 => by
        refine hpost S2 (ft_tr (ft_q f1) (by rw [e2]; exact ft_bw (by omega))) ?_
        rw [pTm_r hz]
        refine ⟨mcu_b y1' e2 (Or.inl (by omega)), fun t2 _ => ⟨?_, fun w => ⟨pr1, ?_⟩, ?_, q4, fun i k hi hk => ?_⟩⟩
        · rw [e2, bw_at, if_neg (by omega)]; exact q1
        · have o : ∀ i, S2 0 i = S1 0 i := fun i => by rw [e2, bw_at, if_neg (by omega)]
          rw [o 10, o 11, o 12]; exact (q2 r1).2
        · rw [e2, bw_at, if_neg (by omega)]; exact q3
        · have tb0 : tbs ps.1 ps.2.2.2.2.2 ps.2.2.2.2.1 (pTz c n x).2 less (if cK x = 3 then cV x else 1) i k = if i = ps.2.2.2.2.1 ∧ k = (pTz c n x).2 then (ps.2.2.2.2.2 i k + (if less then ps.1 - (if cK x = 3 then cV x else 1) % ps.1 else (if cK x = 3 then cV x else 1) % ps.1)) % ps.1 else ps.2.2.2.2.2 i k := rfl
          show S2 2 (4096 * i + k) = nI (tbs ps.1 ps.2.2.2.2.2 ps.2.2.2.2.1 (pTz c n x).2 less (if cK x = 3 then cV x else 1) i k) ∧ (0 < ps.1 → tbs ps.1 ps.2.2.2.2.2 ps.2.2.2.2.1 (pTz c n x).2 less (if cK x = 3 then cV x else 1) i k < ps.1) ∧ (ps.1 = 0 → _)
          rw [tb0, e2, bw_at]
          by_cases w : i = ps.2.2.2.2.1 ∧ k = (pTz c n x).2
          · rw [if_pos w, if_pos ⟨rfl, by omega⟩]
            obtain ⟨w1, w2⟩ := w
            subst w1 w2
            exact ⟨rfl, fun _ => Nat.mod_lt _ (by omega), fun z => absurd z (by omega)⟩
          · rw [if_neg w, if_neg (by omega)]
            exact ⟨(q5 i k hi hk).1, fun _ => (q5 i k hi hk).2.1 r1, fun z => absurd z (by omega)⟩
      rw [q1, nI_eq (by omega) (by omega), v1, b1]
      cases less with
      | false =>
        refine ⟨fun _ => ⟨by omega, _, by omega, rfl, fun S2 e2 => last S2 ?_⟩, fun q => absurd rfl q⟩
        rw [nI_add, n_rem (by omega) (by omega) (by omega)] at e2
        exact e2
      | true =>
        refine ⟨fun q => absurd q (by decide), fun _ => ⟨by omega, _, by omega, rfl, fun S2 e2 => last S2 ?_⟩⟩
        rw [pk_sub (by omega), nI_add, n_rem (by omega) (by omega) (by omega)] at e2
        exact e2
  -- the loop
  have loop : ∀ (x2 : Int32) (S1 : St), fq S S1 → mcu n S1 (if cK x = 3 then cN c n x else if cUn x = none then cF 1 x else x) → ((∃ t, x = .inr t) → x2 = nI ((if cK x = 3 then cV x else 1) % ps.1)) → wp_readTerm_j50 (if less then 1 else 0) post x2 S1 := fun x2 S1 f1 y1 hx2 => by
    unfold wp_readTerm_j50 wp_readTerm_l56
    refine wl_n (fun m (v : Int32 × Int32 × St) => fq S v.2.2 ∧ ((∃ e, m = 0 ∧ mcu n v.2.2 (.inl e) ∧ (pTz c n x).1 = .inl e) ∨ (∃ told key y, m + bc told = 4 ∧ tdk told key ∧ v.1 = nI key ∧ v.2.1 = nI told ∧ mcu n v.2.2 y ∧ pTl c n m told key y = pTz c n x))) 4 ⟨f1, Or.inr ⟨0, 0, _, rfl, ⟨by omega, by omega, fun u hu _ => ?_⟩, rfl, rfl, y1, rfl⟩⟩ ?_
    · have : ∀ u, u < 3 → ex 0 u = 0 := by decide
      exact this u hu
    rintro m ⟨x4, x5, S2⟩ ⟨f2, hJ⟩ R hR
    dsimp only at f2 hJ ⊢
    have fail : ∀ e (x4 : Int32), mcu n S2 (.inl e) → (pTz c n x).1 = .inl e → wp_readTerm_b56 (if less then 1 else 0) post (fun x4 x5 S => R (x4, x5, S)) x2 x4 x5 S2 := fun e x4 y2 hz => by
      unfold wp_readTerm_b56
      have y2' := y2
      obtain ⟨a1, a2, a3, _⟩ := y2
      refine ⟨fun _ => fin 0 x2 x4 S2 f2 (by rw [hz]; exact y2') (fun ⟨t, w⟩ => by rw [hz] at w; cases w), fun q => ?_⟩
      rw [a1, li_0, nI_eq (by omega) (by omega)] at q
      exact absurd q (by omega)
    rcases hJ with ⟨e, _, y2, hz⟩ | ⟨told, key, y, hm, hd, e4, e5, y2, hz⟩
    · exact fail e x4 y2 hz
    · cases y with
      | inl e =>
        refine fail e x4 y2 ?_
        rw [← hz]
        cases m <;> rfl
      | inr t =>
        subst e4 e5
        have hb := (bc_f told hd.1 0 (by omega)).1
        obtain ⟨f, rfl⟩ : ∃ f, m = f + 1 := ⟨m - 1, by omega⟩
        rw [pTl_s] at hz
        obtain ⟨d1, d2, d3⟩ := hd
        unfold wp_readTerm_b56
        have a1 := y2.1
        refine ⟨fun q => absurd (by rw [a1]; rfl) q, fun _ => ?_⟩
        refine sp_unknownHere y2 ?_
        have em : (oI (cUn (.inr t)) = -1) ↔ cUn (.inr t) = none := oI_eq (b := none) (fun u w => cUn_lt w) (fun u w => by cases w)
        rw [em]
        cases hu : cUn (.inr t) with
        | none =>
          rw [hu] at hz
          have hz : (Sum.inr t, key) = pTz c n x := hz
          refine ⟨fun _ => fin 0 x2 (nI key) S2 f2 (by rw [← hz]; exact y2) (fun ⟨t2, w⟩ => ⟨hx2 (hcr t2 w), by rw [← hz], by rw [← hz]; exact d2⟩), fun q => absurd rfl q⟩
        | some u =>
          have u3 := cUn_lt hu
          rw [hu] at hz
          dsimp only at hz
          refine ⟨(fun q => by cases q), fun _ => sp_unknownHere y2 ?_⟩
          rw [hu]
          have sh : (jshr (nI told) (oI (some u)) &&& 1) = nI (told / 2 ^ u % 2) := by
            show (jshr (nI told) (nI u) &&& 1) = _
            rw [n_shr (by omega) (by omega), li_1, n_and, show (1 : Nat) = 2 ^ 1 - 1 from rfl, Nat.and_two_pow_sub_one_eq_mod]
          have hm2 := Nat.mod_lt (told / 2 ^ u) (show 0 < 2 by omega)
          rw [sh, li_1, nI_eq (by omega) (by omega)]
          refine ⟨fun q => ?_, fun q => ?_⟩
          · rw [if_neg q] at hz
            have q0 : told / 2 ^ u % 2 = 0 := by omega
            unfold wp_readTerm_j93
            intro x5' e5'
            have e5' : x5' = nI (told + 2 ^ u) := by
              rw [e5', li_1]
              show nI told ||| jshl (nI 1) (nI u) = _
              have h8 : 2 ^ u < 2 ^ 3 := Nat.pow_lt_pow_right (by omega) u3
              rw [n_shl (by omega) (by omega), Nat.one_mul, n_or, (tdk_s (e := 0) ⟨d1, d2, d3⟩ u3 q0 (by omega)).2.2.1]
            subst e5'
            have f2' := f2
            refine sp_next hc (mck_q h f2) y2 (fun S3 f3 y3 => ?_)
            have f3 := fq_tr f2 f3
            have j152 : ∀ v S4, 1 ≤ v → v ≤ 15 → fq S S4 → ∀ y4, mcu n S4 y4 → pTl c n f (told + 2 ^ u) (key + v * 16 ^ u) y4 = pTz c n x → wp_readTerm_j152 (if less then 1 else 0) post (fun x4 x5 S => R (x4, x5, S)) x2 (nI key) (nI (told + 2 ^ u)) (oI (some u)) (nI v) S4 := fun v S4 hv1 hv2 f4 y4 my4 hz4 => by
              obtain ⟨k1, k2, k3, k4⟩ := tdk_s (e := v) ⟨d1, d2, d3⟩ u3 q0 (by omega)
              unfold wp_readTerm_j152
              refine ⟨fun z => ?_, fun z x4' e4' => ?_⟩
              · cases y4 with
                | inr t4 => exact absurd (by rw [my4.1]; rfl) z
                | inl e =>
                  refine hR 0 _ (by omega) ⟨f4, Or.inl ⟨e, rfl, my4, ?_⟩⟩
                  rw [← hz4]
                  cases f <;> rfl
              · have e4' : x4' = nI (key + v * 16 ^ u) := by
                  rw [e4', show oI (some u) = nI u from rfl, n_shl16 (by omega) u3, n_or, k2]
                subst e4'
                exact hR f _ (by omega) ⟨f4, Or.inr ⟨_, _, y4, by omega, k1, rfl, rfl, my4, hz4⟩⟩
            rw [(mcu_k y3).1, li_3, nI_eq (by have := (mcu_k y3).2; omega) (by omega)]
            have one : ¬ cK (cN c n (.inr t)) = 3 → wp_readTerm_j152 (if less then 1 else 0) post (fun x4 x5 S => R (x4, x5, S)) x2 (nI key) (nI (told + 2 ^ u)) (oI (some u)) (nI 1) S3 := fun w => by
              rw [if_neg w] at hz
              exact j152 1 S3 (by omega) (by omega) f3 _ y3 (by rw [Nat.one_mul]; exact hz)
            have hk3 : ∃ t3, cN c n (.inr t) = .inr t3 := ⟨_, rfl⟩
            refine ⟨fun z => absurd ((mcu_l y3).2 hk3) z, fun _ => ⟨fun z => one z, fun z => ?_⟩⟩
            obtain ⟨v1, v2, _⟩ := mcu_v y3 z
            rw [if_pos z] at hz
            rw [v1]
            unfold wp_in
            rw [li_1, li_15, nI_ltI (by omega) (by omega), nI_ltI (by omega) (by omega)]
            have bad : ¬ (1 ≤ cV (cN c n (.inr t)) ∧ cV (cN c n (.inr t)) ≤ 15) → wp_flaw 4 S3 (fun S_19 => wp_readTerm_j142 (if less then 1 else 0) post (fun x4 x5 S => R (x4, x5, S)) x2 (nI key) (nI (told + 2 ^ u)) (oI (some u)) S_19) := fun w => by
              rw [if_neg w] at hz
              rw [li_4]
              refine sp_flaw hc.1 (by omega) (by omega) y3 (fun S4 f4 y4 => ?_)
              have f4 := fq_tr f3 f4
              unfold wp_readTerm_j142
              refine sp_next hc (mck_q h f4) y4 (fun S5 f5 y5 => ?_)
              have f5 := fq_tr f4 f5
              obtain ⟨t3, et3⟩ := hk3
              rw [et3] at y5 hz
              unfold wp_readTerm_j152
              have y5' : mcu n S5 (.inl (4, t3.2.1)) := y5
              refine ⟨fun _ => hR 0 _ (by omega) ⟨f5, Or.inl ⟨_, rfl, y5', ?_⟩⟩, fun z => ?_⟩
              · rw [← hz]; rfl
              · exfalso
                obtain ⟨_, w2⟩ := (mcu_l y5').1 (by rw [z]; rfl)
                cases w2
            refine ⟨fun w => b02 rfl (bad (by omega)), fun w => ⟨fun w2 => b02 rfl (bad (by omega)), fun w2 => b12 rfl ?_⟩⟩
            rw [if_pos (by omega)] at hz
            unfold wp_readTerm_j142
            refine sp_next hc (mck_q h f3) y3 (fun S4 f4 y4 => ?_)
            rw [v1]
            exact j152 _ S4 (by omega) (by omega) (fq_tr f3 f4) _ y4 hz
          · rw [if_pos q] at hz
            rw [li_3]
            refine sp_flaw hc.1 (by omega) (by omega) y2 (fun S3 f3 y3 => ?_)
            have f3 := fq_tr f2 f3
            unfold wp_readTerm_j93
            intro x5' _
            have y3' : mcu n S3 (.inl (3, t.2.1)) := y3
            refine sp_next hc (mck_q h f3) y3' (fun S4 f4 y4 => ?_)
            have f4 := fq_tr f3 f4
            have y4' : mcu n S4 (.inl (3, t.2.1)) := y4
            have nz : ¬ S4 0 22 = 0 := fun z => by
              obtain ⟨_, w2⟩ := (mcu_l y4').1 (by rw [z]; rfl)
              cases w2
            refine ⟨fun _ => ?_, fun z => absurd z nz⟩
            unfold wp_readTerm_j152
            refine ⟨fun _ => hR 0 _ (by omega) ⟨f4, Or.inl ⟨_, rfl, y4', ?_⟩⟩, fun z => absurd z nz⟩
            rw [← hz]; rfl
  unfold wp_readTerm wp_readTerm_j16
  rw [(mcu_k hx).1, li_3, nI_eq (by have := (mcu_k hx).2; omega) (by omega)]
  refine ⟨fun q => b01 rfl ?_, fun q => b11 rfl ?_⟩
  · rw [if_neg q] at loop
    refine sp_unknownHere hx ?_
    have em : (oI (cUn x) = -1) ↔ cUn x = none := oI_eq (b := none) (fun u w => cUn_lt w) (fun u w => by cases w)
    rw [em]
    have h1 : (∃ t, x = .inr t) → (1 : Int32) = nI ((if cK x = 3 then cV x else 1) % ps.1) := fun ⟨t, et⟩ => by
      have := ((hps t et).2.1 (hr t et).1).1.1
      rw [if_neg q, Nat.mod_eq_of_lt (by omega)]; rfl
    refine ⟨fun w => loop 1 S (fq_rfl _) (by rw [if_neg w]; exact hx) h1, fun w => ?_⟩
    rw [li_1]
    exact sp_flaw hc.1 (by omega) (by omega) hx (fun S1 f1 y1 => loop 1 S1 f1 (by rw [if_pos w]; exact y1) h1)
  · rw [if_pos q] at loop
    obtain ⟨v1, v2, t, et⟩ := mcu_v hx q
    obtain ⟨r1, r2⟩ := hr t et
    obtain ⟨q1, q2, _⟩ := hps t et
    have h97 := (q2 r1).1.2.1
    rw [q1, li_0, nI_eq (by omega) (by omega)]
    refine ⟨by omega, fun x2 e2 => ?_⟩
    rw [v1, n_rem (by omega) (by omega) (by omega)] at e2
    exact sp_next hc h hx (fun S1 f1 y1 => loop x2 S1 f1 y1 (fun _ => by rw [if_pos q]; exact e2))
