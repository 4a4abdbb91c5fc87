set_option maxRecDepth 100000
/-! TermDesk's text: what is seen; a word's string -/
def xck (c : Nat → Nat) (n : Nat) (T : XT) : Prop := xi T 80 6 = nI n ∧ ∀ j, j < n → (xi T 79 j) &&& 255 = nI (c j)
theorem xs_see {c : Nat → Nat} {n k : Nat} {K : XK} {T : XT} {post : Int32 → Prop} (hc : cds c n) (h : xck c n T) (hk : k ≤ 700) (hp : post (cI (c k))) : wx4_see (nI k) K T post := by
  have h7 := hc.1
  unfold wx4_see
  rw [h.1, nI_leI (by omega) (by omega)]
  refine ⟨fun q => ?_, fun q => ⟨k, by omega, rfl, ?_⟩⟩
  · have e := (hc.2 k).2 q
    unfold cI at hp
    rw [if_pos e] at hp
    exact hp
  · have e := (hc.2 k).1 (by omega)
    unfold cI at hp
    rw [if_neg (by omega)] at hp
    rw [h.2 k (by omega)]
    exact hp
theorem xs_inc {x lo hi : Nat} {K : XK} {T : XT} {post : Int32 → Prop} (hx : x ≤ 256) (hh : hi < 256) (hl : lo ≤ hi) (h1 : lo ≤ x ∧ x ≤ hi → post 1) (h0 : ¬ (lo ≤ x ∧ x ≤ hi) → post 0) : wx1_in (cI x) (nI lo) (nI hi) K T post := sp_inc (S := fun _ _ => 0) hx hh hl h1 h0
theorem xs_small {x : Nat} {K : XK} {T : XT} {post : Int32 → Prop} (hx : x ≤ 256) (h1 : 97 ≤ x ∧ x ≤ 122 → post 1) (h0 : ¬ (97 ≤ x ∧ x ≤ 122) → post 0) : wx4_isSmall (cI x) K T post := by
  unfold wx4_isSmall
  rw [li_97, li_122]
  exact xs_inc hx (by omega) (by omega) (fun q => ⟨rfl, h1 q⟩) (fun q => ⟨rfl, h0 q⟩)
theorem xs_digit {x : Nat} {K : XK} {T : XT} {post : Int32 → Prop} (hx : x ≤ 256) (h1 : 48 ≤ x ∧ x ≤ 57 → post 1) (h0 : ¬ (48 ≤ x ∧ x ≤ 57) → post 0) : wx4_isDigit (cI x) K T post := by
  unfold wx4_isDigit
  rw [li_48, li_57]
  exact xs_inc hx (by omega) (by omega) (fun q => ⟨rfl, h1 q⟩) (fun q => ⟨rfl, h0 q⟩)
theorem b_i8 : ∀ x, x < 128 → ((nI x).toInt8.toInt32).toInt8.toInt32 = nI x := by decide
theorem b_u16 : ∀ x, x < 256 → (((nI x).toUInt32 % 65536).toInt32).toUInt32.toUInt16.toUInt32.toInt32 = nI x := by decide
theorem xs_str {b : Nat → Nat} {v L Z Y : Nat} {K : XK} {T : XT} {post : XT → XK → Prop} (h82 : kl K 82 = 5) (hz : 90 ≤ kz K) (hv : v < kz K) (hv9 : 90 ≤ v) (hL1 : 1 ≤ L) (hL5 : L ≤ 5) (hb : ∀ j, j < L → xi T 82 j = nI (b j) ∧ b j < 128) (hZ : kc K + 1 ≤ Z) (hY : ks K + L ≤ Y)
    (hp : ∀ T' K', (∀ k, k ≠ v → k ≠ kz K → xi T' k = xi T k ∧ xr T' k = xr T k) → kx K K' → kz K' = kz K + 1 → kl K' (kz K) = L → kc K' = Z → ks K' = Y → (∀ j, j < L → xi T' (kz K) j = nI (b j)) → xi T' v 1 = nI 0 → (∀ j, j ≠ 1 → xi T' v j = xi T v j) → xr T' v 0 = some (kz K) → post T' K') : wxJ4_init v 82 0 (nI L) K T Z Y post := by
  unfold wxJ4_init wxJ4_rangeCheck
  refine ⟨L, hL5, rfl, rfl, by rw [h82], Z, Y, by omega, Nat.le_refl _, by omega, Nat.le_refl _, ?_⟩
  unfold wxJ4_init_2
  rw [li_0, nI_eq (by omega) (by omega)]
  refine ⟨fun _ => ⟨fun q => absurd q (by decide), fun _ => ⟨Z, Y, by omega, Nat.le_refl _, by omega, Nat.le_refl _, ?_⟩⟩, fun q => absurd q (by omega)⟩
  unfold wxJ6_compress
  refine ⟨L, by omega, rfl, hZ, hY, fun K1 eK1 T1 eT1 => ?_⟩
  have k1 : kl K1 (kz K) = L := by rw [eK1, kl_new, if_pos rfl]
  have k2 : kl K1 82 = 5 := by rw [eK1, kl_new, if_neg (by omega)]; exact h82
  unfold wxJ6_compress_2 wxJ6_compress_2_l3
  refine wl_up L (fun i (w : Int32 × Int32 × Int32 × XT) => w.1 = nI i ∧ w.2.1 = nI i ∧ w.2.2.1 = nI i ∧ (∀ k, k ≠ kz K → xi w.2.2.2 k = xi T k ∧ xr w.2.2.2 k = xr T k) ∧ ∀ j, j < i → xi w.2.2.2 (kz K) j = nI (b j)) 0 (by omega) ⟨rfl, rfl, rfl, fun k hk => ?_, fun j hj => absurd hj (by omega)⟩ ?_
  · dsimp only
    rw [eT1]
    refine ⟨funext fun j => by rw [xi_nil, if_neg hk], funext fun j => by rw [xr_nil, if_neg hk]⟩
  rintro i ⟨x1, x3, x5, T2⟩ hi ⟨e1, e3, e5, f2, g2⟩ R hR
  dsimp only at e1 e3 e5 f2 g2 ⊢
  subst e1 e3 e5
  unfold wxJ6_compress_2_b3
  rw [nI_leI (by omega) (by omega)]
  refine ⟨fun q => ?_, fun q => ?_⟩
  · have ei : i = L := by omega
    subst ei
    refine ⟨fun _ => ?_, fun w => absurd rfl w⟩
    unfold wxJ6_coderFromArrayLen
    rw [show kl (kset K1 Z Y) (kz K) = i from k1]
    have e0 : ((((nI i - nI i).toUInt32 >>> (Int32.toUInt32 31 &&& Int32.toUInt32 31)).toInt32).toInt8.toInt32) = nI 0 := by
      have : nI i - nI i = nI 0 := by rw [pk_sub (Nat.le_refl _), Nat.sub_self]
      rw [this]; decide
    rw [e0]
    refine ⟨by decide, rfl, fun T3 e3 T4 e4 => ?_⟩
    have hne : kz K ≠ v := by omega
    refine hp T4 _ (fun k hk1 hk2 => ?_) ?_ ?_ ?_ rfl rfl (fun j hj => ?_) ?_ (fun j hj => ?_) ?_
    · rw [e4, xi_wr, e3]
      refine ⟨funext fun j => ?_, funext fun j => ?_⟩
      · rw [xi_wi, if_neg (fun z => hk1 z.1), (f2 k hk2).1]
      · rw [xr_wr, if_neg (fun z => hk1 z.1), xr_wi, (f2 k hk2).2]
    · exact kx_tr (kx_tr (kx_tr (by rw [eK1]; exact kx_new _ _ _ _) (kx_set _ _ _)) (kx_set _ _ _)) (kx_set _ _ _)
    · show kz K1 = _
      rw [eK1, kz_new]
    · exact k1
    · rw [e4, xi_wr, e3, xi_wi, if_neg (fun z => hne z.1)]; exact g2 j hj
    · rw [e4, xi_wr, e3, xi_wi, if_pos ⟨rfl, rfl⟩]
    · rw [e4, xi_wr, e3, xi_wi, if_neg (fun z => hj z.2), (f2 v (by omega)).1]
    · rw [e4, xr_wr, if_pos ⟨rfl, rfl⟩]
  · obtain ⟨b1, b2⟩ := hb i (by omega)
    refine ⟨i, by omega, rfl, ?_⟩
    have e82 : xi T2 82 i = nI (b i) := by rw [(f2 82 (by omega)).1]; exact b1
    rw [e82, li_255, nI_leI (by omega) (by omega)]
    refine ⟨fun _ => ⟨i, by omega, rfl, fun T3 e3 y1 ey1 y3 ey3 y5 ey5 => ?_⟩, fun z => absurd (by omega) z⟩
    rw [b_i8 _ b2] at e3
    rw [li_1, nI_add] at ey1 ey3 ey5
    refine hR (by omega) _ ⟨ey1, ey3, ey5, fun k hk => ?_, fun j hj => ?_⟩
    · show xi T3 k = xi T k ∧ xr T3 k = xr T k
      rw [e3, xr_wi]
      refine ⟨funext fun j => ?_, (f2 k hk).2⟩
      rw [xi_wi, if_neg (fun z => hk z.1), (f2 k hk).1]
    · show xi T3 (kz K) j = _
      rw [e3, xi_wi]
      by_cases w : j = i
      · rw [if_pos ⟨rfl, w⟩, w]
      · rw [if_neg (fun z => w z.2)]; exact g2 j (by omega)
/-- the token's sign -/
def tkc (k : Nat) : Nat := if k = 0 then 1 else if k = 1 then 0 else if k = 4 then 59 else if k = 5 then 43 else if k = 6 then 45 else k
theorem tkc_i : ∀ a, a < 7 → ∀ b, b < 7 → (tkc a = tkc b ↔ a = b) := by decide
theorem tkc_l : ∀ a, a < 7 → tkc a < 60 := by decide
def xwo (c : Nat → Nat) (z : Nat) (K : XK) (T : XT) (t : Tk) : Prop := ∃ v w L, xr T 80 14 = some v ∧ 90 ≤ v ∧ v < kz K ∧ 90 ≤ w ∧ w < kz K ∧ xi T v 1 = nI 0 ∧ xi T v 2 = nI 0 ∧ xi T v 3 = nI 0 ∧ xr T v 0 = some w ∧ kl K w = L ∧ 1 ≤ L ∧ L ≤ 5 ∧ (∀ j, j < L → xi T w j = nI (c (t.2.1 + j)) ∧ 97 ≤ c (t.2.1 + j) ∧ c (t.2.1 + j) ≤ 122) ∧ t.2.2.1 = vln c 256 0 t.2.1 L ∧ v ≠ w ∧ z ≤ v
/-- the token that TermDesk holds -/
def xcu (c : Nat → Nat) (n z : Nat) (K : XK) (T : XT) (t : Tk) : Prop := xi T 80 7 = nI t.2.2.2 ∧ xi T 80 8 = nI (tkc t.1) ∧ xi T 80 9 = nI t.2.1 ∧ t.2.2.2 ≤ n ∧ t.2.1 ≤ n ∧ t.1 < 7 ∧ (t.1 = 3 → xi T 80 10 = nI t.2.2.1 ∧ t.2.2.1 < 10000) ∧ (t.1 = 2 → xwo c z K T t)
/-- a step's frame -/
def fs (z : Nat) (T T' : XT) : Prop := xf (fun k => k = 80 ∨ k = 82 ∨ z ≤ k) T T' ∧ ∀ j, ¬ (7 ≤ j ∧ j ≤ 10) → j ≠ 14 → xi T' 80 j = xi T 80 j
theorem fs_rfl (z : Nat) (T : XT) : fs z T T := ⟨xf_rfl _ _, fun _ _ _ => rfl⟩
theorem fs_tr {z : Nat} {T T' T'' : XT} (h1 : fs z T T') (h2 : fs z T' T'') : fs z T T'' := ⟨xf_tr h1.1 h2.1, fun j a b => (h2.2 j a b).trans (h1.2 j a b)⟩
theorem fs_w {z j : Nat} {v : Int32} {T : XT} (hj : (7 ≤ j ∧ j ≤ 10) ∨ j = 14) : fs z T (xwi T 80 j v) := ⟨xf_wi (Or.inl rfl), fun i a b => by rw [xi_wi, if_neg (fun q => by have := q.2; omega)]⟩
theorem xck_s {c : Nat → Nat} {n z : Nat} {T T' : XT} (hz : 90 ≤ z) (h : xck c n T) (f : fs z T T') : xck c n T' := ⟨by rw [f.2 6 (by omega) (by omega)]; exact h.1, fun j hj => by rw [(f.1 79 (by omega)).1]; exact h.2 j hj⟩
theorem xcu_z {c : Nat → Nat} {n z z' : Nat} {K : XK} {T : XT} {t : Tk} (h : xcu c n z' K T t) (hz : z ≤ z') : xcu c n z K T t := by
  obtain ⟨a1, a2, a3, a4, a5, a6, a7, a8⟩ := h
  refine ⟨a1, a2, a3, a4, a5, a6, a7, fun w => ?_⟩
  obtain ⟨v, w', L, r1, r2, r3, r4, r5, r6, r7, r8, r9, r10, r11, r12, r13, r14, r15, r16⟩ := a8 w
  exact ⟨v, w', L, r1, r2, r3, r4, r5, r6, r7, r8, r9, r10, r11, r12, r13, r14, r15, Nat.le_trans hz r16⟩
