set_option maxRecDepth 100000
theorem xv1 {K : XK} {T : XT} {Z Y : Nat} {x0 : Int32} {Q : XK → XT → Prop} (hZ : kc K + 1 ≤ Z) (hY : ks K + 1 ≤ Y) (h : ∀ K' T', xf (xsc K) T T' → kx K K' → kl K' (kz K) = 1 → (∀ j, j < 1 → xi T' (kz K) j = ([x0] : List Int32).getD j 0) → kc K' = kc K + 1 → ks K' = ks K + 1 → kz K' = kz K + 1 → Q K' T') : kc K + 1 ≤ Z ∧ ks K + 1 ≤ Y ∧ ∀ K_1 : XK, K_1 = knew K 1 1 1 → ∀ T_a : XT, T_a = xnil T (kz K) → ∃ j_0 : Nat, j_0 < kl K_1 (kz K) ∧ 0 = nI j_0 ∧ ∀ T_0 : XT, T_0 = xwi T_a (kz K) j_0 x0 → Q K_1 T_0 := by
  have hk : xsc K (kz K) := by unfold xsc; omega
  refine ⟨hZ, hY, fun K1 e1 Ta ea => ?_⟩
  have hl : kl K1 (kz K) = 1 := by rw [e1, kl_new, if_pos rfl]
  refine ⟨0, by rw [hl]; omega, rfl, fun T0 h0 => ?_⟩
  refine h K1 T0 (by rw [h0, ea]; exact xf_tr (xf_nil hk) (xf_wi hk)) (by rw [e1]; exact kx_new _ _ _ _) hl (fun j hj => ?_) (by rw [e1]; rfl) (by rw [e1]; rfl) (by rw [e1]; rfl)
  have hj : j = 0 := by omega
  have e := hj
  rw [e, h0, xi_wi, if_pos ⟨rfl, rfl⟩]; rfl
theorem xv2 {K : XK} {T : XT} {Z Y : Nat} {x0 x1 : Int32} {Q : XK → XT → Prop} (hZ : kc K + 1 ≤ Z) (hY : ks K + 2 ≤ Y) (h : ∀ K' T', xf (xsc K) T T' → kx K K' → kl K' (kz K) = 2 → (∀ j, j < 2 → xi T' (kz K) j = ([x0, x1] : List Int32).getD j 0) → kc K' = kc K + 1 → ks K' = ks K + 2 → kz K' = kz K + 1 → Q K' T') : kc K + 1 ≤ Z ∧ ks K + 2 ≤ Y ∧ ∀ K_1 : XK, K_1 = knew K 1 2 2 → ∀ T_a : XT, T_a = xnil T (kz K) → ∃ j_0 : Nat, j_0 < kl K_1 (kz K) ∧ 0 = nI j_0 ∧ ∀ T_0 : XT, T_0 = xwi T_a (kz K) j_0 x0 → ∃ j_1 : Nat, j_1 < kl K_1 (kz K) ∧ 1 = nI j_1 ∧ ∀ T_1 : XT, T_1 = xwi T_0 (kz K) j_1 x1 → Q K_1 T_1 := by
  have hk : xsc K (kz K) := by unfold xsc; omega
  refine ⟨hZ, hY, fun K1 e1 Ta ea => ?_⟩
  have hl : kl K1 (kz K) = 2 := by rw [e1, kl_new, if_pos rfl]
  refine ⟨0, by rw [hl]; omega, rfl, fun T0 h0 => ⟨1, by rw [hl]; omega, rfl, fun T1 h1 => ?_⟩⟩
  refine h K1 T1 (by rw [h1, h0, ea]; exact xf_tr (xf_tr (xf_nil hk) (xf_wi hk)) (xf_wi hk)) (by rw [e1]; exact kx_new _ _ _ _) hl (fun j hj => ?_) (by rw [e1]; rfl) (by rw [e1]; rfl) (by rw [e1]; rfl)
  have hj : j = 0 ∨ j = 1 := by omega
  rcases hj with e | e
  · rw [e, h1, xi_wi, if_neg (by omega), h0, xi_wi, if_pos ⟨rfl, rfl⟩]; rfl
  · rw [e, h1, xi_wi, if_pos ⟨rfl, rfl⟩]; rfl
theorem xv3 {K : XK} {T : XT} {Z Y : Nat} {x0 x1 x2 : Int32} {Q : XK → XT → Prop} (hZ : kc K + 1 ≤ Z) (hY : ks K + 3 ≤ Y) (h : ∀ K' T', xf (xsc K) T T' → kx K K' → kl K' (kz K) = 3 → (∀ j, j < 3 → xi T' (kz K) j = ([x0, x1, x2] : List Int32).getD j 0) → kc K' = kc K + 1 → ks K' = ks K + 3 → kz K' = kz K + 1 → Q K' T') : kc K + 1 ≤ Z ∧ ks K + 3 ≤ Y ∧ ∀ K_1 : XK, K_1 = knew K 1 3 3 → ∀ T_a : XT, T_a = xnil T (kz K) → ∃ j_0 : Nat, j_0 < kl K_1 (kz K) ∧ 0 = nI j_0 ∧ ∀ T_0 : XT, T_0 = xwi T_a (kz K) j_0 x0 → ∃ j_1 : Nat, j_1 < kl K_1 (kz K) ∧ 1 = nI j_1 ∧ ∀ T_1 : XT, T_1 = xwi T_0 (kz K) j_1 x1 → ∃ j_2 : Nat, j_2 < kl K_1 (kz K) ∧ 2 = nI j_2 ∧ ∀ T_2 : XT, T_2 = xwi T_1 (kz K) j_2 x2 → Q K_1 T_2 := by
  have hk : xsc K (kz K) := by unfold xsc; omega
  refine ⟨hZ, hY, fun K1 e1 Ta ea => ?_⟩
  have hl : kl K1 (kz K) = 3 := by rw [e1, kl_new, if_pos rfl]
  refine ⟨0, by rw [hl]; omega, rfl, fun T0 h0 => ⟨1, by rw [hl]; omega, rfl, fun T1 h1 => ⟨2, by rw [hl]; omega, rfl, fun T2 h2 => ?_⟩⟩⟩
  refine h K1 T2 (by rw [h2, h1, h0, ea]; exact xf_tr (xf_tr (xf_tr (xf_nil hk) (xf_wi hk)) (xf_wi hk)) (xf_wi hk)) (by rw [e1]; exact kx_new _ _ _ _) hl (fun j hj => ?_) (by rw [e1]; rfl) (by rw [e1]; rfl) (by rw [e1]; rfl)
  have hj : j = 0 ∨ j = 1 ∨ j = 2 := by omega
  rcases hj with e | e | e
  · rw [e, h2, xi_wi, if_neg (by omega), h1, xi_wi, if_neg (by omega), h0, xi_wi, if_pos ⟨rfl, rfl⟩]; rfl
  · rw [e, h2, xi_wi, if_neg (by omega), h1, xi_wi, if_pos ⟨rfl, rfl⟩]; rfl
  · rw [e, h2, xi_wi, if_pos ⟨rfl, rfl⟩]; rfl
theorem xv6 {K : XK} {T : XT} {Z Y : Nat} {x0 x1 x2 x3 x4 x5 : Int32} {Q : XK → XT → Prop} (hZ : kc K + 1 ≤ Z) (hY : ks K + 6 ≤ Y) (h : ∀ K' T', xf (xsc K) T T' → kx K K' → kl K' (kz K) = 6 → (∀ j, j < 6 → xi T' (kz K) j = ([x0, x1, x2, x3, x4, x5] : List Int32).getD j 0) → kc K' = kc K + 1 → ks K' = ks K + 6 → kz K' = kz K + 1 → Q K' T') : kc K + 1 ≤ Z ∧ ks K + 6 ≤ Y ∧ ∀ K_1 : XK, K_1 = knew K 1 6 6 → ∀ T_a : XT, T_a = xnil T (kz K) → ∃ j_0 : Nat, j_0 < kl K_1 (kz K) ∧ 0 = nI j_0 ∧ ∀ T_0 : XT, T_0 = xwi T_a (kz K) j_0 x0 → ∃ j_1 : Nat, j_1 < kl K_1 (kz K) ∧ 1 = nI j_1 ∧ ∀ T_1 : XT, T_1 = xwi T_0 (kz K) j_1 x1 → ∃ j_2 : Nat, j_2 < kl K_1 (kz K) ∧ 2 = nI j_2 ∧ ∀ T_2 : XT, T_2 = xwi T_1 (kz K) j_2 x2 → ∃ j_3 : Nat, j_3 < kl K_1 (kz K) ∧ 3 = nI j_3 ∧ ∀ T_3 : XT, T_3 = xwi T_2 (kz K) j_3 x3 → ∃ j_4 : Nat, j_4 < kl K_1 (kz K) ∧ 4 = nI j_4 ∧ ∀ T_4 : XT, T_4 = xwi T_3 (kz K) j_4 x4 → ∃ j_5 : Nat, j_5 < kl K_1 (kz K) ∧ 5 = nI j_5 ∧ ∀ T_5 : XT, T_5 = xwi T_4 (kz K) j_5 x5 → Q K_1 T_5 := by
  have hk : xsc K (kz K) := by unfold xsc; omega
  refine ⟨hZ, hY, fun K1 e1 Ta ea => ?_⟩
  have hl : kl K1 (kz K) = 6 := by rw [e1, kl_new, if_pos rfl]
  refine ⟨0, by rw [hl]; omega, rfl, fun T0 h0 => ⟨1, by rw [hl]; omega, rfl, fun T1 h1 => ⟨2, by rw [hl]; omega, rfl, fun T2 h2 => ⟨3, by rw [hl]; omega, rfl, fun T3 h3 => ⟨4, by rw [hl]; omega, rfl, fun T4 h4 => ⟨5, by rw [hl]; omega, rfl, fun T5 h5 => ?_⟩⟩⟩⟩⟩⟩
  refine h K1 T5 (by rw [h5, h4, h3, h2, h1, h0, ea]; exact xf_tr (xf_tr (xf_tr (xf_tr (xf_tr (xf_tr (xf_nil hk) (xf_wi hk)) (xf_wi hk)) (xf_wi hk)) (xf_wi hk)) (xf_wi hk)) (xf_wi hk)) (by rw [e1]; exact kx_new _ _ _ _) hl (fun j hj => ?_) (by rw [e1]; rfl) (by rw [e1]; rfl) (by rw [e1]; rfl)
  have hj : j = 0 ∨ j = 1 ∨ j = 2 ∨ j = 3 ∨ j = 4 ∨ j = 5 := by omega
  rcases hj with e | e | e | e | e | e
  · rw [e, h5, xi_wi, if_neg (by omega), h4, xi_wi, if_neg (by omega), h3, xi_wi, if_neg (by omega), h2, xi_wi, if_neg (by omega), h1, xi_wi, if_neg (by omega), h0, xi_wi, if_pos ⟨rfl, rfl⟩]; rfl
  · rw [e, h5, xi_wi, if_neg (by omega), h4, xi_wi, if_neg (by omega), h3, xi_wi, if_neg (by omega), h2, xi_wi, if_neg (by omega), h1, xi_wi, if_pos ⟨rfl, rfl⟩]; rfl
  · rw [e, h5, xi_wi, if_neg (by omega), h4, xi_wi, if_neg (by omega), h3, xi_wi, if_neg (by omega), h2, xi_wi, if_pos ⟨rfl, rfl⟩]; rfl
  · rw [e, h5, xi_wi, if_neg (by omega), h4, xi_wi, if_neg (by omega), h3, xi_wi, if_pos ⟨rfl, rfl⟩]; rfl
  · rw [e, h5, xi_wi, if_neg (by omega), h4, xi_wi, if_pos ⟨rfl, rfl⟩]; rfl
  · rw [e, h5, xi_wi, if_pos ⟨rfl, rfl⟩]; rfl
