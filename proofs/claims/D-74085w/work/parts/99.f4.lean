set_option maxRecDepth 100000
/-! TermDesk's text: what is held while reading -/
def ff (z : Nat) (T T' : XT) : Prop := xf (fun k => (80 ≤ k ∧ k ≤ 86) ∨ z ≤ k) T T'
theorem ff_s {z z' : Nat} {T T' : XT} (h : fs z' T T') (hz : z ≤ z') : ff z T T' := xf_mono h.1 (fun k hk => by omega)
theorem fs_mono {z z' : Nat} {T T' : XT} (h : fs z' T T') (hz : z ≤ z') : fs z T T' := ⟨xf_mono h.1 (fun k hk => by omega), h.2⟩
def xb (c : Nat → Nat) (n z : Nat) (K0 : XK) (T0 : XT) (K : XK) (T : XT) : Prop := xck c n T ∧ kl K 82 = 5 ∧ 90 ≤ z ∧ z ≤ kz K ∧ ff z T0 T ∧ kx K0 K
theorem xb_w {c : Nat → Nat} {n z k j : Nat} {v : Int32} {K0 K : XK} {T0 T : XT} (h : xb c n z K0 T0 K T) (hk : 80 ≤ k ∧ k ≤ 86) (hj : ¬ (k = 80 ∧ j = 6)) : xb c n z K0 T0 K (xwi T k j v) := by
  obtain ⟨h1, h2, h3, h4, h5, h6⟩ := h
  refine ⟨⟨by rw [xi_wi, if_neg (by omega)]; exact h1.1, fun i hi => by rw [xi_wi, if_neg (by omega)]; exact h1.2 i hi⟩, h2, h3, h4, xf_tr h5 (xf_wi (by omega)), h6⟩
theorem xb_s {c : Nat → Nat} {n z : Nat} {K0 K K' : XK} {T0 T T' : XT} (h : xb c n z K0 T0 K T) (f : fs (kz K) T T') (hK : kx K K') : xb c n z K0 T0 K' T' := by
  obtain ⟨h1, h2, h3, h4, h5, h6⟩ := h
  exact ⟨xck_s (by omega) h1 f, by rw [hK.2 82 (by omega)]; exact h2, h3, Nat.le_trans h4 hK.1, xf_tr h5 (ff_s f h4), kx_tr h6 hK⟩
theorem xb_bad {c : Nat → Nat} {n z e p : Nat} {K0 K : XK} {T0 T T' : XT} (h : xb c n z K0 T0 K T) (f : xbad e p T T') : ff z T0 T' := xf_tr h.2.2.2.2.1 (xf_mono f.1 (fun k hk => by omega))
theorem xb_k {c : Nat → Nat} {n z Z Y : Nat} {K0 K : XK} {T0 T : XT} (h : xb c n z K0 T0 K T) : xb c n z K0 T0 (kset K Z Y) T := ⟨h.1, h.2.1, h.2.2.1, h.2.2.2.1, h.2.2.2.2.1, kx_tr h.2.2.2.2.2 (kx_set _ _ _)⟩
theorem xs_go {c : Nat → Nat} {n z s Z Y : Nat} {K0 K : XK} {T0 T : XT} {Q : XT → XK → Prop} (hc : cds c n) (hb : xb c n z K0 T0 K T) (h7 : xi T 80 7 = nI s) (hs : s ≤ n) (hZ : kc K + 2 ≤ Z) (hY : ks K + 9 ≤ Y) (hp : ∀ T' K', xb c n z K0 T0 K' T' → fs z T T' → kx K K' → kc K' = kc K + 2 → ks K' = ks K + 9 → xcu c n z K' T' (tok c n s) → Q T' K') : ∃ Z_7 Y_8 : Nat, kc K ≤ Z_7 ∧ Z_7 ≤ Z ∧ ks K ≤ Y_8 ∧ Y_8 ≤ Y ∧ wx4_step K T Z_7 Y_8 Q := by
  have h3 := hb.2.2.1
  have h4 := hb.2.2.2.1
  exact ⟨kc K + 2, ks K + 9, by omega, hZ, by omega, hY, xs_tstep hc hb.1 hb.2.1 (by omega) hs h7 (Nat.le_refl _) (Nat.le_refl _) (fun T' K' f x a b y => hp T' K' (xb_s hb f x) (fs_mono f h4) x a b (xcu_z y h4))⟩
theorem xs_tk {c : Nat → Nat} {n z i Z Y : Nat} {K0 K : XK} {T0 T : XT} {t : Tk} {Q xQ : XT → XK → Prop} (hi : i < 10) (hc : cds c n) (hb : xb c n z K0 T0 K T) (hx : xcu c n z K T t) (hZ : kc K + 2 ≤ Z) (hY : ks K + 9 ≤ Y) (hp : cIs i (.inr t) = true → ∀ T' K', xb c n z K0 T0 K' T' → fs z T T' → kx K K' → kc K' = kc K + 2 → ks K' = ks K + 9 → xcu c n z K' T' (tok c n t.2.2.2) → Q T' K') (hn : cIs i (.inr t) = false → ∀ T' K', xbad 1 t.2.1 T T' → kx K K' → xQ T' K') : ∃ Z_7 Y_8 : Nat, kc K ≤ Z_7 ∧ Z_7 ≤ Z ∧ ks K ≤ Y_8 ∧ Y_8 ≤ Y ∧ wx4_takes (i + 11) K T Z_7 Y_8 Q xQ := by
  refine ⟨kc K + 2, ks K + 9, by omega, hZ, by omega, hY, ?_⟩
  unfold wx4_takes
  refine xs_tis hi hx (fun q => xs_must1 ?_) (fun q => xs_must0 hx.2.2.1 (fun T' b => hn q T' _ b (kx_set _ _ _)))
  refine xs_go hc hb hx.1 hx.2.2.2.1 (Nat.le_refl _) (Nat.le_refl _) (fun T' K' b' f' x' c' s' y' => ?_)
  refine hp q T' _ (xb_k b') f' (kx_tr x' (kx_set _ _ _)) rfl rfl ?_
  exact y'
/-- folding what was told -/
def fdt (p : Nat) (at' co : Nat → Nat) (ls : Nat → Bool) : Nat → Nat → Nat
  | 0, _ => 0
  | j + 1, k => if k = at' j then (fdt p at' co ls j k + (if ls j then p - co j % p else co j % p)) % p else fdt p at' co ls j k
def xen (p : Nat) (T : XT) (i : Nat) (tab : Nat → Nat) (m : Nat) : Prop := xi T 85 i = nI m ∧ m ≤ 12 ∧ ∃ (at' co : Nat → Nat) (ls : Nat → Bool), (∀ j, j < m → xi T 83 (12 * i + j) = nI (at' j) ∧ at' j < 4096 ∧ xi T 84 (12 * i + j) = (if ls j then - nI (co j) else nI (co j)) ∧ co j < 10000) ∧ ∀ k, k < 4096 → tab k = fdt p at' co ls m k
def xps (T : XT) (ps : PS) : Prop := xi T 80 15 = nI (if 0 < ps.1 then 1 else 0) ∧ (0 < ps.1 → xi T 80 11 = nI ps.1 ∧ xi T 80 12 = nI ps.2.1 ∧ xi T 86 0 = nI ps.2.2.1 ∧ xi T 86 1 = nI ps.2.2.2.1) ∧ xi T 80 13 = nI ps.2.2.2.2.1 ∧ (∀ i, i < ps.2.2.2.2.1 → ∃ m, xen ps.1 T i (ps.2.2.2.2.2 i) m) ∧ (ps.1 = 0 → ps.2.2.2.2.1 = 0)
theorem xen_g {p i m : Nat} {tab : Nat → Nat} {T T' : XT} (h : xen p T i tab m) (h83 : xi T' 83 = xi T 83) (h84 : xi T' 84 = xi T 84) (h85 : xi T' 85 = xi T 85) : xen p T' i tab m := by
  unfold xen at h ⊢
  rw [h83, h84, h85]
  exact h
theorem xps_s {z : Nat} {T T' : XT} {ps : PS} (hz : 90 ≤ z) (h : xps T ps) (f : fs z T T') : xps T' ps := by
  obtain ⟨h1, h2, h3, h4, h5⟩ := h
  have e83 := (f.1 83 (by omega)).1
  have e84 := (f.1 84 (by omega)).1
  have e85 := (f.1 85 (by omega)).1
  have e86 := (f.1 86 (by omega)).1
  refine ⟨by rw [f.2 15 (by omega) (by omega)]; exact h1, fun w => ?_, by rw [f.2 13 (by omega) (by omega)]; exact h3, fun i hi => ?_, h5⟩
  · rw [f.2 11 (by omega) (by omega), f.2 12 (by omega) (by omega), e86]; exact h2 w
  · obtain ⟨m, hm⟩ := h4 i hi
    exact ⟨m, xen_g hm e83 e84 e85⟩
/-! absorbing -/
theorem cNd_l {c : Nat → Nat} {n i : Nat} {q : Nat × Nat} : cNd c n i (.inl q) = .inl q := by
  unfold cNd
  split <;> rfl
theorem cRu_l {c : Nat → Nat} {n : Nat} {a b : Option Nat} {q : Nat × Nat} : cRu c n a b (.inl q) = .inl q := by
  unfold cRu
  rw [cUn_l]
  rfl
theorem rg2_l {q : Nat × Nat} : rg2 (.inl q) = .inl q := by
  unfold rg2
  rw [if_neg (by show ¬ 0 = 3; omega)]
  rfl
theorem rg3_l {c : Nat → Nat} {n : Nat} {q : Nat × Nat} : rg3 c n (.inl q) = .inl q := cNd_l
theorem cHw_l {q : Nat × Nat} : cHw (.inl q) = none := by
  unfold cHw
  rw [cIs_l, cIs_l, cIs_l]
  rfl
theorem rg4_l {c : Nat → Nat} {n : Nat} {q : Nat × Nat} : rg4 c n (.inl q) = .inl q := by
  unfold rg4
  rw [cHw_l]
  rfl
/-- the three unknowns of a ring -/
def xk (c : Nat → Nat) (n : Nat) (x4 : Cu) : Nat → Cu
  | 0 => x4
  | 1 => cRu c n none none x4
  | 2 => cRu c n (cUn x4) none (cRu c n none none x4)
  | _ => cRu c n (cUn x4) (cUn (cRu c n none none x4)) (cRu c n (cUn x4) none (cRu c n none none x4))
theorem xk_l {c : Nat → Nat} {n k : Nat} {x4 : Cu} {q : Nat × Nat} (hk : k ≤ 3) (h : xk c n x4 k = .inl q) : xk c n x4 3 = .inl q := by
  have e : k = 0 ∨ k = 1 ∨ k = 2 ∨ k = 3 := by omega
  rcases e with e | e | e | e <;> subst e
  · have h : x4 = .inl q := h
    subst h
    show cRu c n (cUn (.inl q)) (cUn (cRu c n none none (.inl q))) (cRu c n (cUn (.inl q)) none (cRu c n none none (.inl q))) = _
    rw [cRu_l, cRu_l, cRu_l]
  · have h : cRu c n none none x4 = .inl q := h
    show cRu c n (cUn x4) (cUn (cRu c n none none x4)) (cRu c n (cUn x4) none (cRu c n none none x4)) = _
    rw [h, cRu_l, cRu_l]
  · have h : cRu c n (cUn x4) none (cRu c n none none x4) = .inl q := h
    show cRu c n (cUn x4) (cUn (cRu c n none none x4)) (cRu c n (cUn x4) none (cRu c n none none x4)) = _
    rw [h, cRu_l]
  · exact h
theorem cRu_c {c : Nat → Nat} {n : Nat} {a b : Option Nat} {t : Tk} : (cUn (.inr t) = none → cRu c n a b (.inr t) = .inl (1, t.2.1)) ∧ ∀ u, cUn (.inr t) = some u → ((a = some u ∨ b = some u) → cRu c n a b (.inr t) = .inl (3, t.2.1)) ∧ (¬ (a = some u ∨ b = some u) → cRu c n a b (.inr t) = .inr (tok c n t.2.2.2)) := by
  unfold cRu
  refine ⟨fun h => by rw [h]; rfl, fun u h => ⟨fun w => ?_, fun w => ?_⟩⟩
  · rw [h]
    dsimp only
    rw [if_pos w]; rfl
  · rw [h]
    dsimp only
    rw [if_neg w]; rfl
theorem xk_s {c : Nat → Nat} {n k : Nat} {x4 : Cu} {t : Tk} (hk : k < 3) (h : xk c n x4 k = .inr t) : (cUn (.inr t) = none → xk c n x4 (k + 1) = .inl (1, t.2.1)) ∧ ∀ u, cUn (.inr t) = some u → ((∃ j, j < k ∧ cUn (xk c n x4 j) = some u) → xk c n x4 (k + 1) = .inl (3, t.2.1)) ∧ (¬ (∃ j, j < k ∧ cUn (xk c n x4 j) = some u) → xk c n x4 (k + 1) = .inr (tok c n t.2.2.2)) := by
  have e : k = 0 ∨ k = 1 ∨ k = 2 := by omega
  rcases e with e | e | e <;> subst e
  · have h : x4 = .inr t := h
    subst h
    obtain ⟨a1, a2⟩ := cRu_c (c := c) (n := n) (a := none) (b := none) (t := t)
    refine ⟨a1, fun u hu => ⟨fun ⟨j, hj, _⟩ => absurd hj (by omega), fun _ => (a2 u hu).2 (fun z => by rcases z with z | z <;> cases z)⟩⟩
  · have h : cRu c n none none x4 = .inr t := h
    have e2 : xk c n x4 2 = cRu c n (cUn x4) none (.inr t) := by rw [← h]; rfl
    obtain ⟨a1, a2⟩ := cRu_c (c := c) (n := n) (a := cUn x4) (b := none) (t := t)
    show (_ → xk c n x4 2 = _) ∧ ∀ u, _ → (_ → xk c n x4 2 = _) ∧ (_ → xk c n x4 2 = _)
    rw [e2]
    refine ⟨a1, fun u hu => ⟨fun ⟨j, hj, hw⟩ => (a2 u hu).1 (Or.inl ?_), fun w => (a2 u hu).2 (fun z => ?_)⟩⟩
    · have : j = 0 := by omega
      subst this; exact hw
    · rcases z with z | z
      · exact w ⟨0, by omega, z⟩
      · cases z
  · have h : cRu c n (cUn x4) none (cRu c n none none x4) = .inr t := h
    have e2 : xk c n x4 3 = cRu c n (cUn x4) (cUn (cRu c n none none x4)) (.inr t) := by rw [← h]; rfl
    obtain ⟨a1, a2⟩ := cRu_c (c := c) (n := n) (a := cUn x4) (b := cUn (cRu c n none none x4)) (t := t)
    show (_ → xk c n x4 3 = _) ∧ ∀ u, _ → (_ → xk c n x4 3 = _) ∧ (_ → xk c n x4 3 = _)
    rw [e2]
    refine ⟨a1, fun u hu => ⟨fun ⟨j, hj, hw⟩ => (a2 u hu).1 ?_, fun w => (a2 u hu).2 (fun z => ?_)⟩⟩
    · have : j = 0 ∨ j = 1 := by omega
      rcases this with q | q <;> subst q
      · exact Or.inl hw
      · exact Or.inr hw
    · rcases z with z | z
      · exact w ⟨0, by omega, z⟩
      · exact w ⟨1, by omega, z⟩
theorem sprime_p : ∀ v, v < 98 → (sprime.getD v 0 = 1 ↔ prb v = true) := by decide +kernel
