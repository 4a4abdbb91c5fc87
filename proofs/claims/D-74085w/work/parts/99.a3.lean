set_option maxRecDepth 100000
theorem rwl_6 {o : Nat → Nat} {T T' : XT} {to : Nat} {f : Nat → Nat} (h : rwl o T to f) (hf : xf (fun k => k = 6) T T') (h6 : 7 ≤ to) : rwl o T' to f := rwl_keep h hf (by omega) (by omega) (by omega)
theorem lnx_b {L N : Nat} (h : lnx L N) : (L = 11 ∨ L = 14) ∧ (N = 11 ∨ N = 14) ∧ L ≠ N := by
  rcases h with ⟨a, b⟩ | ⟨a, b⟩ <;> omega
/-- a step that lays the lead into the rest -/
theorem xs_step0 {A : AB} {K : XK} {T0 T : XT} {set L N : Nat} {s : DS} {post : XT → Prop} (h : rx A K T) (hw : wf A) (ht : aN A 0 = 1) (hi : dinv (aN A 1) (aOk A) (aR A) set s) (hx : xdv (aOk A) set s T0 L N) (hT : xf (fun k => k = 6) T0 T) (hTr : xr T = xr T0) (h65 : xi T 6 5 = nI (dS s + 1)) (h6o : ∀ j, j ≠ 5 → xi T 6 j = xi T0 6 j) (hn : cn (dL s) 4096 ≠ 0) (h5 : dS s ≠ 500) (hM : cn (dL s) 4096 ≤ dM s)
    (hf : ¬ dok0 (aOk A) s → ∀ T', xf xfd T0 T' → rx A K T' → xi T' 6 7 = nI 0 → post T') (hg : dok0 (aOk A) s → ∀ T', xf xfd T0 T' → rx A K T' → xdv (aOk A) set (dst0 (aOk A) s) T' L N → xi T' 6 7 = nI 1 → post T') :
    ∃ v_61 : Nat, xr T 6 2 = some v_61 ∧ ∃ j_62 : Nat, j_62 < kl K (v_61 + 1) ∧ 0 = nI j_62 ∧ ∃ v_63 : Nat, xr T 6 2 = some v_63 ∧ ∃ j_64 : Nat, j_64 < kl K (v_63 + 2) ∧ 0 = nI j_64 ∧ wx2_add 8 (xi T (v_61 + 1) j_62) (xi T (v_63 + 2) j_64) K T (fun T_66 => ∃ v_68 : Nat, xr T_66 6 2 = some v_68 ∧ wx2_dropsFirst v_68 K T_66 (fun T_70 => ((60 < (xi T_70 8 2) → ∀ T_72 : XT, T_72 = xwi T_70 6 7 0 → wx3_step_j288 post K T_72) ∧ (¬ (60 < (xi T_70 8 2)) → ∀ T_73 : XT, T_73 = xwi T_70 6 7 1 → wx3_step_j288 post K T_73)))) := by
  have hW := hw.2.2.2.2 ht
  have hp97 := hW.1.2.1
  obtain ⟨x1, x2, x3, x4, x5, x6, x7, x8, x9⟩ := hx
  obtain ⟨b1, b2, b3⟩ := lnx_b x1
  have x62 : xr T 6 2 = some L := by rw [hTr]; exact x2
  have x63 : xr T 6 3 = some N := by rw [hTr]; exact x3
  have w4 := rwl_6 x4 hT (by omega)
  have w5 := rwl_6 x5 hT (by omega)
  obtain ⟨i1, i2, i3, i4, i5, i6, i7, i8, i9, i10⟩ := id hi
  obtain ⟨ld, l1, l2⟩ := rwl_ld w4 hn
  obtain ⟨k1, k2, k3, k4⟩ := lnx_len h x1
  have l9 : kl K (8 + 1) = 61 := h.1.1 9 (by omega)
  have l10 : kl K (8 + 2) = 61 := h.1.1 10 (by omega)
  have hdp := i1 _ ld.1
  refine ⟨L, x62, 0, by omega, rfl, L, x62, 0, by omega, rfl, ?_⟩
  rw [l1, l2]
  refine xs_rput w5 (by omega) (by omega) ld.1 (Nat.pos_of_ne_zero ld.2.1) (by omega) (fun l hl hz => i9 l _ hl ld.1 hz ld.2.1) (fun T1 f1 r1 => ⟨L, by rw [(f1 6 (by unfold r3; omega)).2]; exact x62, ?_⟩)
  have w41 : rwl (aOk A) T1 L (dL s) := rwl_keep w4 f1 (by unfold r3; omega) (by unfold r3; omega) (by unfold r3; omega)
  refine xs_rdrop w41 hn (by omega) (by omega) (fun T2 f2 r2 => ?_)
  have r12 : rwl (aOk A) T2 8 (up (dR s) (ldk (aOk A) (dL s)) (dL s (ldk (aOk A) (dL s)))) := rwl_keep r1 f2 (by unfold r3; omega) (by unfold r3; omega) (by unfold r3; omega)
  have n2 : xi T2 8 2 = nI (cn (dR (dst0 (aOk A) s)) 4096) := rwl_n r12
  have hc := cn_le (dR (dst0 (aOk A) s)) 4096
  have e26 : xi T2 6 = xi T 6 := by rw [(f2 6 (by unfold r3; omega)).1, (f1 6 (by unfold r3; omega)).1]
  have r26 : xr T2 6 = xr T 6 := by rw [(f2 6 (by unfold r3; omega)).2, (f1 6 (by unfold r3; omega)).2]
  have fT2 : xf xfd T0 T2 := xf_tr (xf_tr (xf_mono hT (fun k hk => Or.inl hk)) (xf_mono f1 (fun k hk => by unfold r3 at hk; unfold xfd; omega))) (xf_mono f2 (fun k hk => by unfold r3 at hk; unfold xfd; omega))
  have fT : xf xfd T T2 := xf_tr (xf_mono f1 (fun k hk => by unfold r3 at hk; unfold xfd; omega)) (xf_mono f2 (fun k hk => by unfold r3 at hk; unfold xfd; omega))
  rw [n2, li_60, nI_ltI (by omega) (by omega)]
  refine ⟨fun c T3 e3 => xs_step288n (by rw [e3, xi_wi, if_pos ⟨rfl, rfl⟩]; rfl) ?_, fun c T3 e3 => ?_⟩
  · refine hf (fun z => by unfold dok0 at z; omega) T3 (by rw [e3]; exact xf_tr fT2 (xf_wi (Or.inl rfl))) ?_ (by rw [e3, xi_wi, if_pos ⟨rfl, rfl⟩]; rfl)
    exact xdv_rx (o := aOk A) (set := set) (s := s) h T3 (by rw [e3]; exact xf_tr fT (xf_wi (Or.inl rfl))) (by rw [e3]; show xr T2 6 2 = _; rw [r26]; exact x62) (by rw [e3]; show xr T2 6 3 = _; rw [r26]; exact x63) x1
  · have hok : dok0 (aOk A) s := by unfold dok0; omega
    obtain ⟨y1, y2, y3⟩ := dinv_0 hW.1 hW.2.1 hi ld h5 hok
    have y3 : cn (dL (dst0 (aOk A) s)) 4096 + 1 = cn (dL s) 4096 := y3
    have f3 : xf (fun k => k = 6) T2 T3 := by rw [e3]; exact xf_wi rfl
    have nL : xi T3 L 2 = nI (cn (dL (dst0 (aOk A) s)) 4096) := by rw [(f3 L (by omega)).1]; exact rwl_n r2
    refine xs_step288 (L := L) (M := dM s) (by rw [e3, xi_wi, if_pos ⟨rfl, rfl⟩]; rfl) (by rw [e3]; show xr T2 6 2 = _; rw [r26]; exact x62) nL (by rw [e3, xi_wi, if_neg (by omega), e26, h6o 6 (by omega)]; exact x9) (by omega) (by omega) (by omega) (fun T4 f4 r4 o4 m4 => ?_)
    have f34 : xf (fun k => k = 6) T2 T4 := xf_tr f3 f4
    have r46 : xr T4 6 = xr T 6 := by rw [r4, e3]; exact r26
    have o46 : ∀ j, j ≠ 6 → j ≠ 7 → xi T4 6 j = xi T 6 j := fun j a b => by rw [o4 j a, e3, xi_wi, if_neg (fun z => b z.2), e26]
    have rq : ∀ d, d < 8 → rwl (aOk A) T4 (17 + 3 * d) (dQ s d) := fun d hd => rwl_6 (rwl_keep (rwl_keep (rwl_6 (x6 d hd) hT (by omega)) f1 (by unfold r3; omega) (by unfold r3; omega) (by unfold r3; omega)) f2 (by unfold r3; omega) (by unfold r3; omega) (by unfold r3; omega)) f34 (by omega)
    refine hg hok T4 (xf_tr fT2 (xf_mono f34 (fun k hk => Or.inl hk))) ?_ ⟨x1, by rw [r46]; exact x62, by rw [r46]; exact x63, rwl_6 r2 f34 (by omega), rwl_6 r12 f34 (by omega), rq, ?_, ?_, ?_⟩ ?_
    · exact xdv_rx (o := aOk A) (set := set) (s := s) h T4 (xf_tr fT (xf_mono f34 (fun k hk => Or.inl hk))) (by rw [r46]; exact x62) (by rw [r46]; exact x63) x1
    · rw [o46 4 (by omega) (by omega), h6o 4 (by omega)]; exact x7
    · rw [o46 5 (by omega) (by omega)]; exact h65
    · rw [m4]
      show nI _ = nI (dM s)
      congr 1
      omega
    · rw [o4 7 (by omega), e3, xi_wi, if_pos ⟨rfl, rfl⟩]; rfl
