set_option maxRecDepth 100000
theorem xdv_0 {o : Nat → Nat} {set L N : Nat} {s : DS} {T T' : XT} (h : xdv o set s T L N) (hf : xf (fun k => k = 0) T T') : xdv o set s T' L N := by
  obtain ⟨x1, x2, x3, x4, x5, x6, x7, x8, x9⟩ := h
  obtain ⟨b1, b2, b3⟩ := lnx_b x1
  have k6 := hf 6 (by omega)
  exact ⟨x1, by rw [k6.2]; exact x2, by rw [k6.2]; exact x3, rwl_keep x4 hf (by omega) (by omega) (by omega), rwl_keep x5 hf (by omega) (by omega) (by omega), fun d hd => rwl_keep (x6 d hd) hf (by omega) (by omega) (by omega), by rw [k6.1]; exact x7, by rw [k6.1]; exact x8, by rw [k6.1]; exact x9⟩
theorem xh_div {A : AB} {K : XK} {T : XT} {p1 p2 x y : Int32} {P : Int32 → XT → Prop} (h : rx A K T) (hw : wf A) (hr : p1 ≠ 0 → ∃ r, r < 8 ∧ x = nI r) (h1 : ¬ (aN A 0 = 1 ∧ p1 ≠ 0) → ∀ T', rx (aS A 1 (-1)) K T' → P 1 T') (h2 : aN A 0 = 1 → p1 ≠ 0 → ¬ (p2 ≠ 0 ∧ ∃ s, iset y s) → ∀ T', rx (aS A 2 (-1)) K T' → P 1 T') (h5 : aN A 0 = 1 → p1 ≠ 0 → p2 ≠ 0 → ∀ s, iset y s → hzr A s → ∀ T', rx (aS A 5 (-1)) K T' → P 1 T')
    (h3 : aN A 0 = 1 → p1 ≠ 0 → p2 ≠ 0 → ∀ r s, r < 8 → x = nI r → iset y s → ¬ hzr A s → dvr A r s = none → ∀ T', rx (aS A 3 (-1)) K T' → P 1 T') (h0 : aN A 0 = 1 → p1 ≠ 0 → p2 ≠ 0 → ∀ r s D, r < 8 → x = nI r → iset y s → ¬ hzr A s → dvr A r s = some D → dinv (aN A 1) (aOk A) (aR A) s D → ∀ T' L N, rx (aS A 0 (-1)) K T' → xdv (aOk A) s D T' L N → P 0 T') : wx1_divisionWhy p1 p2 x y K T (fun r T_1 => wx1_isRefused r K T_1 P) := by
  have no1 : ¬ (aN A 0 = 1 ∧ p1 ≠ 0) → wx1_divisionWhy_j24 p1 p2 x y (fun r T_1 => wx1_isRefused r K T_1 P) 1 K T := fun q => ⟨fun z => absurd z (by decide), fun _ => xs_isRefused h (by decide) (fun z => absurd z (by decide)) (fun _ T' _ r' => h1 q T' r')⟩
  have no2 : aN A 0 = 1 → p1 ≠ 0 → ¬ (p2 ≠ 0 ∧ ∃ s, iset y s) → wx1_divisionWhy_j24 p1 p2 x y (fun r T_1 => wx1_isRefused r K T_1 P) 2 K T := fun a b c => ⟨fun z => absurd z (by decide), fun _ => xs_isRefused h (by decide) (fun z => absurd z (by decide)) (fun _ T' _ r' => h2 a b c T' r')⟩
  unfold wx1_divisionWhy wx1_isSet
  refine ⟨fun e => xs_why2 h hw no1 (fun a b _ => no2 a b (fun z => z.1 e)) (fun _ _ z => absurd rfl z), fun e => ?_⟩
  refine xs_inset (fun q => ⟨rfl, b01 rfl (xs_why2 h hw no1 (fun a b _ => no2 a b (fun z => q z.2)) (fun _ _ z => absurd rfl z))⟩) (fun s hse => ⟨rfl, b11 rfl (xs_why2 h hw no1 (fun _ _ z => absurd z (by decide)) (fun ht b _ => ?_))⟩)
  obtain ⟨r, hr8, er⟩ := hr b
  have g5 := h5 ht b e s hse
  have g3 := h3 ht b e r s hr8 er hse
  have g0 := fun D => h0 ht b e r s D hr8 er hse
  obtain ⟨s1, s2, es⟩ := hse
  subst er es
  refine xs_divWhy24 hw ht hr8 s2 h (fun hz => xs_isRefused h (by decide) (fun z => absurd z (by decide)) (fun _ T' _ r' => g5 hz T' r')) (fun hz hd T1 _ r1 => xs_isRefused r1 (by decide) (fun z => absurd z (by decide)) (fun _ T' _ r' => g3 hz hd T' r')) (fun hz D hd di T1 L N _ r1 x1 => xs_isRefused r1 (by decide) (fun _ T' f' r' => g0 D hz hd di T' L N r' (xdv_0 x1 f')) (fun z => absurd rfl z))
