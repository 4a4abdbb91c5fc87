set_option maxRecDepth 100000
theorem xs_divided43 {A : AB} {K : XK} {T : XT} {s w L N Z Y : Nat} {D : DS} {p1 p2 : Int32} {post : Int32 → XT → XK → Prop} (h : rx (aS A 0 (-1)) K T) (hi : dinv (aN A 1) (aOk A) (aR A) s D) (hx : xdv (aOk A) s D T L N) (hw4 : w < 4) (fin : pst (aS A 0 (-1)) (nI (dvt D w)) Z Y post) : wx1_divided_j43 p1 p2 (nI w) Z Y post K T := by
  obtain ⟨x1, x2, x3, x4, x5, x6, x7, x8, x9⟩ := hx
  have q7 : ∀ d, d < 8 → xr T 7 d = some (17 + 3 * d) := h.1.2.2.2.2.2.1
  unfold wx1_divided_j43
  intro y6 e6
  subst e6
  unfold wx1_divided_l63
  refine wl_up 8 (fun i y => y.1 = nI (ns (fun d => cn (dQ D d) 4096) i) ∧ y.2 = nI i) 0 (by omega) ⟨rfl, rfl⟩ ?_
  rintro i ⟨y4, y7⟩ hi8 ⟨hy4, hy7⟩ R hR
  dsimp only at hy4 hy7
  subst hy4 hy7
  unfold wx1_divided_b63
  dsimp only
  rw [nI_leI (by omega) (by omega)]
  refine ⟨fun c => ?_, fun c => ⟨i, by rw [show kl K 7 = 8 from h.1.1 7 (by omega)]; omega, rfl, 17 + 3 * i, q7 i (by omega), fun y4 e4 y7 e7 => ?_⟩⟩
  · rw [x8, x9, rwl_n x5, show i = 8 by omega, li_0, nI_eq (by omega) (by omega), li_1, nI_eq (by omega) (by omega), li_2, nI_eq (by omega) (by omega)]
    unfold dvt at fin
    refine ⟨fun a0 => ⟨fun a1 => ⟨fun a2 => ?_, fun a2 => ?_⟩, fun a1 => ?_⟩, fun a0 => ?_⟩
    · rw [if_neg a0, if_neg a1, if_neg a2] at fin; exact pst_u fin h
    · rw [if_neg a0, if_neg a1, if_pos a2] at fin; exact pst_u fin h
    · rw [if_neg a0, if_pos a1] at fin; exact pst_u fin h
    · rw [if_pos a0] at fin; exact pst_u fin h
  · rw [rwl_n (x6 i (by omega)), nI_add] at e4
    rw [li_1, nI_add] at e7
    subst e4 e7
    exact hR (by omega) _ ⟨rfl, rfl⟩
theorem xc_divided {A : AB} {K : XK} {T : XT} {x y z : Int32} {Z Y : Nat} {post : Int32 → XT → XK → Prop} (h : rx A K T) (hw : wf A) (hZ : kc K + 1 ≤ Z) (hY : ks K + 1 ≤ Y) (h0 : ¬ (aN A 0 = 1 ∧ inr x 7 ∧ inr z 3) → pst (aS A 1 (-1)) (-1) Z Y post) (h2 : aN A 0 = 1 → inr x 7 → inr z 3 → ¬ (∃ s, iset y s) → pst (aS A 2 (-1)) (-1) Z Y post) (h5 : aN A 0 = 1 → inr x 7 → inr z 3 → ∀ s, iset y s → hzr A s → pst (aS A 5 (-1)) (-1) Z Y post)
    (h1 : aN A 0 = 1 → ∀ r s w, r < 8 → w < 4 → x = nI r → iset y s → z = nI w → ¬ hzr A s → (dvr A r s = none → pst (aS A 3 (-1)) (-1) Z Y post) ∧ ∀ D, dvr A r s = some D → dinv (aN A 1) (aOk A) (aR A) s D → pst (aS A 0 (-1)) (nI (dvt D w)) Z Y post) : wx1_divided x y z K T Z Y post := by
  unfold wx1_divided
  refine xv1 (by omega) (by omega) (fun K1 T1 f1 k1 l1 a1 c1 s1 z1 => ?_)
  have g1 := rx_keep h f1 k1
  refine xs_is' l1 (by omega) a1 (fun rr hrr => ?_)
  rw [all1] at hrr
  refine ⟨fun e => ?_, fun e => ?_⟩
  · exact xh_div g1 hw (fun q => absurd rfl q) (fun _ T' r' => b11 rfl (pst_u (h0 fun w => hrr.2 w.2.1 e) r')) (fun _ q => absurd rfl q) (fun _ q => absurd rfl q) (fun _ q => absurd rfl q) (fun _ q => absurd rfl q)
  · refine xs_inr (n := 3) rfl (by omega) (fun q => b01 rfl ?_) (fun w hw4 ew => b11 rfl ?_)
    · exact xh_div g1 hw (fun q => absurd rfl q) (fun _ T' r' => b11 rfl (pst_u (h0 fun w => q w.2.2) r')) (fun _ q => absurd rfl q) (fun _ q => absurd rfl q) (fun _ q => absurd rfl q) (fun _ q => absurd rfl q)
    · have hix := hrr.1 e
      have hiz : inr z 3 := ⟨w, by omega, ew⟩
      refine xh_div g1 hw (fun _ => ?_) (fun q T' r' => b11 rfl (pst_u (h0 fun v => q ⟨v.1, by decide⟩) r')) (fun ht _ q T' r' => b11 rfl (pst_u (h2 ht hix hiz fun v => q ⟨by decide, v⟩) r')) (fun ht _ _ s hs hz T' r' => b11 rfl (pst_u (h5 ht hix hiz s hs hz) r')) (fun ht _ _ r s hr er hs hz hd T' r' => b11 rfl (pst_u ((h1 ht r s w hr (by omega) er hs ew hz).1 hd) r')) (fun ht _ _ r s D hr er hs hz hd di T' L N r' x' => b01 rfl ?_)
      · obtain ⟨r, hr, er⟩ := hix
        exact ⟨r, by omega, er⟩
      · have fin := (h1 ht r s w hr (by omega) er hs ew hz).2 D hd di
        subst ew
        exact xs_divided43 r' di x' (by omega) fin
