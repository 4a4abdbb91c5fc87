set_option maxRecDepth 100000
theorem drun_s (p : Nat) (o : Nat → Nat) (reg : Nat → Nat → Nat) (set n : Nat) (s : DS) : drun p o reg set (n + 1) s = @ite _ (cn (dL s) 4096 = 0) _ (some s) (@ite _ (dS s = 500) _ none (@ite _ (dD o reg set s = 8) _ (@ite _ (dok0 o s) (Classical.propDecidable _) (drun p o reg set n (dst0 o s)) none) (@ite _ (dok1 p o reg s (dD o reg set s)) (Classical.propDecidable _) (drun p o reg set n (dst1 p o reg s (dD o reg set s))) none))) := rfl
theorem xs_done111 {A : AB} {K : XK} {T0 T : XT} {v set L N : Nat} {s0 : DS} {post : Nat → XT → Prop} (hw : wf A) (ht : aN A 0 = 1) (hs : set < 256) (hnz : ¬ hzr A set) (hv : dvs (aN A 1) (aOk A) (aR A) set) (h : rx A K T) (hf0 : xf xfd T0 T) (hx : xdv (aOk A) set s0 T L N) (h7 : xi T 6 7 = nI 1) (hi : dinv (aN A 1) (aOk A) (aR A) set s0) (hz : dS s0 = 0) (hM : cn (dL s0) 4096 ≤ dM s0)
    (h0 : drun (aN A 1) (aOk A) (aR A) set 502 s0 = none → ∀ T', xf xfd T0 T' → rx A K T' → xi T' 6 7 = nI 0 → post 6 T') (h1 : ∀ s, drun (aN A 1) (aOk A) (aR A) set 502 s0 = some s → dinv (aN A 1) (aOk A) (aR A) set s → ∀ T' L N, xf xfd T0 T' → rx A K T' → xdv (aOk A) set s T' L N → xi T' 6 7 = nI 1 → post 6 T') : wx3_done_l111 v (nI set) post K T := by
  have hW := hw.2.2.2.2 ht
  generalize hDD : drun (aN A 1) (aOk A) (aR A) set 502 s0 = D at h0 h1
  unfold wx3_done_l111
  refine wl_n (fun n T1 => xf xfd T0 T1 ∧ rx A K T1 ∧ ((∃ s L N, n + dS s = 502 ∧ drun (aN A 1) (aOk A) (aR A) set n s = D ∧ dinv (aN A 1) (aOk A) (aR A) set s ∧ xdv (aOk A) set s T1 L N ∧ xi T1 6 7 = nI 1 ∧ cn (dL s) 4096 ≤ dM s) ∨ (D = none ∧ xi T1 6 7 = nI 0))) 502 ⟨hf0, h, Or.inl ⟨s0, L, N, by omega, hDD, hi, hx, h7, hM⟩⟩ ?_
  rintro n T1 ⟨f1, r1, J⟩ R hR
  unfold wx3_done_b111 wx3_done_j153
  rcases J with ⟨s, L1, N1, hn, hD, hi1, hx1, h71, hM1⟩ | ⟨hD, h71⟩
  · rw [h71]
    refine ⟨fun q => absurd q (by decide), fun _ => ⟨L1, hx1.2.1, ?_⟩⟩
    have h500 : dS s ≤ 500 := hi1.2.2.2.2.2.2.1
    have e1 : D = drun (aN A 1) (aOk A) (aR A) set (n - 1 + 1) s := by rw [show n - 1 + 1 = n by omega]; exact hD.symm
    rw [drun_s] at e1
    have hc := cn_le (dL s) 4096
    rw [rwl_n hx1.2.2.2.1, li_0, nI_leI (by omega) (by omega)]
    refine ⟨fun c => ?_, fun c => ?_⟩
    · rw [if_pos (by omega)] at e1
      exact h1 s e1 hi1 T1 L1 N1 f1 r1 hx1 h71
    · rw [if_neg (by omega)] at e1
      have h65 : xi T1 6 5 = nI (dS s) := hx1.2.2.2.2.2.2.2.1
      rw [h65, show (500 : Int32) = nI 500 from rfl, nI_eq (by omega) (by omega)]
      refine ⟨fun c5 => ?_, fun c5 T2 e2 => ?_⟩
      · rw [if_neg c5] at e1
        refine xs_step r1 hw ht hs hnz hv hi1 hx1 (by omega) c5 hM1 (fun T2 hbad f2 r2 z2 => ?_) (fun T2 L2 N2 s2 hgood f2 r2 x2 z2 => ?_)
        · refine hR 0 T2 (by omega) ⟨xf_tr f1 f2, r2, Or.inr ⟨?_, z2⟩⟩
          rcases hbad with ⟨a, b⟩ | ⟨a, b⟩
          · rw [if_pos a, if_neg b] at e1; exact e1
          · rw [if_neg (by omega), if_neg b] at e1; exact e1
        · have hx10 := hx1.2.2.2.1
          have ld := (rwl_ld hx10 (by omega)).1
          rcases hgood with ⟨a, b, c⟩ | ⟨a, b, c⟩
          · rw [if_pos a, if_pos b] at e1
            obtain ⟨y1, y2, y3⟩ := dinv_0 hW.1 hW.2.1 hi1 ld c5 b
            have y3 : cn (dL (dst0 (aOk A) s)) 4096 + 1 = cn (dL s) 4096 := y3
            refine hR (n - 1) T2 (by omega) ⟨xf_tr f1 f2, r2, Or.inl ⟨s2, L2, N2, ?_, by rw [c]; exact e1.symm, by rw [c]; exact y1, x2, z2, ?_⟩⟩
            · rw [c]; show n - 1 + (dS s + 1) = 502; omega
            · rw [c]; show _ ≤ dM s; omega
          · rw [if_neg (by omega), if_pos b] at e1
            have sp := (fst8_spec (fun d => bit set d ∧ gi (ldk (aOk A) (aR A d)) (ldk (aOk A) (dL s)))).1
            have hb : bit set (dD (aOk A) (aR A) set s) ∧ gi (ldk (aOk A) (aR A (dD (aOk A) (aR A) set s))) (ldk (aOk A) (dL s)) := by
              rcases sp with z | z
              · exact absurd (show dD (aOk A) (aR A) set s = 8 from z) (by omega)
              · exact z.2
            have y1 := dinv_1 hW.1 hW.2.1 hv hi1 ld c5 a hb.1 hb.2 b
            refine hR (n - 1) T2 (by omega) ⟨xf_tr f1 f2, r2, Or.inl ⟨s2, L2, N2, ?_, by rw [c]; exact e1.symm, by rw [c]; exact y1, x2, z2, ?_⟩⟩
            · rw [c]; show n - 1 + (dS s + 1) = 502; omega
            · rw [c]
              show cn (dlf _ _ _ _ _) 4096 ≤ max _ (cn (dlf _ _ _ _ _) 4096)
              exact Nat.le_max_right _ _
      · rw [if_pos c5] at e1
        refine hR 0 T2 (by omega) ⟨xf_tr f1 (by rw [e2]; exact xf_wi (Or.inl rfl)), ?_, Or.inr ⟨e1, by rw [e2, xi_wi, if_pos ⟨rfl, rfl⟩]⟩⟩
        exact xdv_rx (o := aOk A) (set := set) (s := s) r1 T2 (by rw [e2]; exact xf_wi (Or.inl rfl)) (by rw [e2]; exact hx1.2.1) (by rw [e2]; exact hx1.2.2.1) hx1.1
  · rw [h71]
    exact ⟨fun _ => h0 hD T1 f1 r1 h71, fun q => absurd rfl q⟩
