set_option maxRecDepth 100000
theorem dvs_x {A : AB} {K : XK} {T : XT} {s : Nat} (h : rx A K T) (hn : ¬ hzr A s) : dvs (aN A 1) (aOk A) (aR A) s := fun d hd => by
  obtain ⟨g, q1, q2, q3⟩ := rx_reg h
  obtain ⟨v, v1, v2⟩ := q3 d hd
  refine ⟨?_, fun hb => ?_⟩
  · obtain ⟨_, _, _, _, _, _, _, _, _, _, _, u8, _⟩ := v2
    exact u8
  · obtain ⟨_, _, _, _, _, _, _, _, y, _⟩ := ply_ld v2 (fun z => hn ⟨d, hd, hb, z⟩)
    exact y
theorem xs_divides {A : AB} {K : XK} {T : XT} {v set : Nat} {w : Nat → Nat} {post : Int32 → XT → Prop} (hw : wf A) (ht : aN A 0 = 1) (hs : set < 256) (h : rx A K T) (hpl : ply (aOk A) (aN A 1) K T v w) (h60 : cn w 4096 ≤ 60) (h5 : hzr A set → post 5 T)
    (h0 : ¬ hzr A set → drun (aN A 1) (aOk A) (aR A) set 502 (ds0 w) = none → ∀ T', xf xfd T T' → rx A K T' → post 3 T') (h1 : ¬ hzr A set → ∀ s, drun (aN A 1) (aOk A) (aR A) set 502 (ds0 w) = some s → dinv (aN A 1) (aOk A) (aR A) set s → ∀ T' L N, xf xfd T T' → rx A K T' → xdv (aOk A) set s T' L N → post 0 T') : wx1_divides v (nI set) K T post := by
  unfold wx1_divides
  refine xs_hasZero h hs (fun hz => b01 rfl ?_) (fun hz => b11 rfl (h5 hz))
  refine xs_done hw ht hs hz (dvs_x h hz) h hpl h60 (fun q T' f' r' z' => ?_) (fun s q di T' L N f' r' x' z' => ?_)
  · rw [z']
    exact ⟨fun _ => h0 hz q T' f' r', fun c => absurd rfl c⟩
  · rw [z']
    exact ⟨fun c => absurd c (by decide), fun _ => h1 hz s q di T' L N f' r' x'⟩
theorem xs_divWhy24 {A : AB} {K : XK} {T : XT} {r set : Nat} {p1 p2 : Int32} {post : Int32 → XT → Prop} (hw : wf A) (ht : aN A 0 = 1) (hr : r < 8) (hs : set < 256) (h : rx A K T) (h5 : hzr A set → post 5 T)
    (h0 : ¬ hzr A set → dvr A r set = none → ∀ T', xf xfd T T' → rx A K T' → post 3 T') (h1 : ¬ hzr A set → ∀ s, dvr A r set = some s → dinv (aN A 1) (aOk A) (aR A) set s → ∀ T' L N, xf xfd T T' → rx A K T' → xdv (aOk A) set s T' L N → post 0 T') : wx1_divisionWhy_j24 p1 p2 (nI r) (nI set) post 0 K T := by
  obtain ⟨g, q1, q2, q3⟩ := rx_reg h
  obtain ⟨v, v1, v2⟩ := q3 r hr
  unfold wx1_divisionWhy_j24
  exact ⟨fun _ => ⟨g, q1, r, by omega, rfl, v, v1, xs_divides hw ht hs h v2 (reg60 hw ht hr) h5 h0 h1⟩, fun q => absurd rfl q⟩
