set_option maxRecDepth 100000
abbrev XT : Type := (Nat → Nat → Int32) × (Nat → Nat → Option Nat)
def xi (T : XT) : Nat → Nat → Int32 := T.1
def xr (T : XT) : Nat → Nat → Option Nat := T.2
/-- an int place, a reference place gets a value; a cell is blank -/
def xwi (T : XT) (k j : Nat) (v : Int32) : XT := (va_up (xi T) k (upd (xi T k) j v), xr T)
def xwr (T : XT) (k j : Nat) (v : Option Nat) : XT := (xi T, va_up (xr T) k (va_up (xr T k) j v))
def xnil (T : XT) (k : Nat) : XT := (va_up (xi T) k (fun _ => 0), va_up (xr T) k (fun _ => none))
/-- kinds and lengths of cells, how many there are, cells and slots that were asked for -/
abbrev XK : Type := (Nat → Nat) × (Nat → Nat) × Nat × Nat × Nat
def kd (K : XK) : Nat → Nat := K.1
def kl (K : XK) : Nat → Nat := K.2.1
def kz (K : XK) : Nat := K.2.2.1
def kc (K : XK) : Nat := K.2.2.2.1
def ks (K : XK) : Nat := K.2.2.2.2
def knew (K : XK) (kind len n : Nat) : XK := (va_up (kd K) (kz K) kind, va_up (kl K) (kz K) len, kz K + 1, kc K + 1, ks K + n)
def kset (K : XK) (c s : Nat) : XK := (kd K, kl K, kz K, c, s)
/-- array classes by kind, lambda classes, the empty text -/
abbrev XG : Type := va_G × (Nat → ClassId) × (Nat → ClassId) × SAD × Nat
abbrev gad (G : XG) : SAD := G.2.2.2.1
abbrev gz (G : XG) : Nat := G.2.2.2.2
abbrev gem (G : XG) : Nat := (gad G).1 10
def rfv (b : Nat) (r : Option Nat) : Value := va_rf (r.map (fun x => b + x))
def TR5 : u_T := fun k => match k with
  | 0 => TX5 6
  | _ => TX5 7
def fs8 (em b : Nat) (T : XT) (k : Nat) : List Value := [.int (xi T k 0), .int (xi T k 1), .int (xi T k 2), .int (xi T k 3), rfv b (xr T k 4), .ref (b + 1), .ref (b + 2), .ref (b + 3), .ref (b + 6), rfv b (xr T k 9), rfv b (xr T k 10), .ref (b + 75), .ref (b + 76), .ref (b + 77), .ref (b + 78), .ref (b + 79), .int (xi T k 16), .ref (b + 80), rfv b (xr T k 18), .ref (b + 88), .ref (b + 89), .int (xi T k 21), .int (xi T k 22), .int (xi T k 23), .int (xi T k 24), .int (xi T k 25)]
def fs9 (em b : Nat) (T : XT) (k : Nat) : List Value := [.ref (b + (k + 1)), .ref (b + (k + 2)), .int (xi T k 2)]
def fs10 (em b : Nat) (T : XT) (k : Nat) : List Value := [.ref (b + 7), .ref (b + 8), rfv b (xr T k 2), rfv b (xr T k 3), .int (xi T k 4), .int (xi T k 5), .int (xi T k 6), .int (xi T k 7), .ref (b + 0)]
def xwd (em b : Nat) (r : Option Nat) (f : Int32) : Value := match r with
  | some v => .ref (b + v)
  | none => if f = 0 then .null else .ref em
def fs11 (em b : Nat) (T : XT) (k : Nat) : List Value := [.ref (b + 81), .ref (b + 82), .ref (b + 83), .ref (b + 84), .ref (b + 85), .ref (b + 86), .int (xi T k 6), .int (xi T k 7), .int (xi T k 8), .int (xi T k 9), .int (xi T k 10), .int (xi T k 11), .int (xi T k 12), .int (xi T k 13), xwd em b (xr T k 14) (xi T k 14), .int (xi T k 15), .ref (b + 0)]
def fs12 (em b : Nat) (T : XT) (k : Nat) : List Value := [.int (xi T k 0), .int (xi T k 1)]
def fs2 (em b : Nat) (T : XT) (k : Nat) : List Value := [rfv b (xr T k 0), rfv b (xr T k 1), .int (xi T k 2)]
def fs13 (em b : Nat) (T : XT) (k : Nat) : List Value := [rfv b (xr T k 0), rfv b (xr T k 1), .int (xi T k 2)]
def fs15 (em b : Nat) (T : XT) (k : Nat) : List Value := [rfv b (xr T k 0), .int (xi T k 1), .int (xi T k 2), .int (xi T k 3)]
abbrev xcl : List vw_C := [(RX1, TX1, 26), (RX2, TX2, 3), (RX3, TX3, 9), (RX4, TX4, 17), (RX5, TR5, 2), (RX6, TX6, 3), (RX8, TX8, 3), (RJ4, TJ4, 4)]
def xE (G : XG) (b : Nat) (K : XK) (T : XT) (k : Nat) : va_E := match kd K k with
  | 1 => .inl (G.2.1 1, kl K k, .inl (xi T k))
  | 6 => .inl (G.2.1 6, kl K k, .inl (xi T k))
  | 7 => .inl (G.2.1 7, kl K k, .inl (xi T k))
  | 3 => .inl (G.2.1 3, kl K k, .inr (.inr (.inr (.inr (fun j => (xr T k j).map (fun x => b + x))))))
  | 4 => .inl (G.2.1 4, kl K k, .inr (.inr (.inr (.inr (fun j => (xr T k j).map (fun x => b + x))))))
  | 5 => .inl (G.2.1 5, kl K k, .inr (.inr (.inr (.inr (fun j => (xr T k j).map (fun x => b + x))))))
  | 14 => .inl (G.2.1 14, kl K k, .inr (.inr (.inr (.inr (fun j => (xr T k j).map (fun x => b + x))))))
  | 8 => .inr (0, fs8 (gem G) b T k)
  | 9 => .inr (1, fs9 (gem G) b T k)
  | 10 => .inr (2, fs10 (gem G) b T k)
  | 11 => .inr (3, fs11 (gem G) b T k)
  | 12 => .inr (4, fs12 (gem G) b T k)
  | 2 => .inr (5, fs2 (gem G) b T k)
  | 13 => .inr (6, fs13 (gem G) b T k)
  | 15 => .inr (7, fs15 (gem G) b T k)
  | _ => .inr (0, [])
def xlam (G : XG) (K : XK) (T : XT) (k : Nat) : Cell := { cls := G.2.2.1 (kl K k), slots := #[.int (xi T k 0), .int (xi T k 1), .int (xi T k 2)], vm := .none }
def xat (G : XG) (b : Nat) (K : XK) (T : XT) (H : Heap) (k : Nat) : Prop := (kd K k ≠ 0 → kd K k ≠ 16 → va_at G.1 xcl (b + k, xE G b K T k) H) ∧ (kd K k = 16 → H[b + k]? = some (xlam G K T k))
def rk : Nat → Nat → Nat := fun a j => match a with
  | 2 => (match j with | 0 => 1 | 1 => 1 | _ => 0)
  | 3 => 2
  | 4 => 1
  | 5 => 9
  | 8 => (match j with | 4 => 16 | 9 => 4 | 10 => 4 | 18 => 3 | _ => 0)
  | 10 => (match j with | 2 => 9 | 3 => 9 | _ => 0)
  | 11 => (match j with | 14 => 15 | _ => 0)
  | 13 => (match j with | 0 => 1 | 1 => 1 | _ => 0)
  | 14 => 3
  | 15 => (match j with | 0 => 6 | _ => 0)
  | _ => 0
def skl : List (Nat × Nat) := [(8, 0), (1, 98), (1, 4096), (9, 0), (1, 4096), (1, 4096), (10, 0), (5, 8), (9, 0), (1, 61), (1, 61), (9, 0), (1, 122), (1, 122), (9, 0), (1, 122), (1, 122), (9, 0), (1, 61), (1, 61), (9, 0), (1, 61), (1, 61), (9, 0), (1, 61), (1, 61), (9, 0), (1, 61), (1, 61), (9, 0), (1, 61), (1, 61), (9, 0), (1, 61), (1, 61), (9, 0), (1, 61), (1, 61), (9, 0), (1, 61), (1, 61), (4, 16), (1, 2304), (1, 2304), (1, 2304), (1, 2304), (1, 2304), (1, 2304), (1, 2304), (1, 2304), (1, 2304), (1, 2304), (1, 2304), (1, 2304), (1, 2304), (1, 2304), (1, 2304), (1, 2304), (4, 16), (1, 2304), (1, 2304), (1, 2304), (1, 2304), (1, 2304), (1, 2304), (1, 2304), (1, 2304), (1, 2304), (1, 2304), (1, 2304), (1, 2304), (1, 2304), (1, 2304), (1, 2304), (1, 2304), (1, 2304), (1, 2304), (1, 2304), (1, 1), (6, 700), (11, 0), (12, 0), (7, 5), (1, 72), (1, 72), (1, 6), (1, 3), (3, 8), (14, 8), (1, 8)]
def skd (k : Nat) : Nat := (skl.getD k (0, 0)).1
def sln (k : Nat) : Nat := (skl.getD k (0, 0)).2
def xTy (K : XK) (T : XT) : Prop := ∀ k j p : Nat, kd K k ≠ 0 → xr T k j = some p → kd K p = rk (kd K k) j ∧ kd K p ≠ 0
def xKw (hole : Nat → Prop) (K : XK) : Prop := (∀ k : Nat, k < 90 → kd K k = skd k ∧ kl K k = sln k) ∧ (∀ k : Nat, kd K k ≠ 0 → k < kz K ∧ ¬ hole k) ∧ (∀ k : Nat, hole k → k < kz K) ∧ (∀ k : Nat, kl K k < 2 ^ 27) ∧ ∀ k : Nat, kd K k = 9 → kd K (k + 1) = 1 ∧ kd K (k + 2) = 1
def xW (G : XG) (b : Nat) (hole : Nat → Prop) (K : XK) (T : XT) (H : Heap) : Prop := (∀ k : Nat, xat G b K T H k) ∧ xTy K T ∧ xKw hole K ∧ H.size = b + kz K
def xA (b : Nat) (hole : Nat → Prop) : Nat → Prop := fun q => b ≤ q ∧ ¬ hole (q - b)
abbrev xKt (G : XG) : List (ClassId × FieldType) := [(G.2.1 1, .int), (G.2.1 6, .byte), (G.2.1 7, .char), (G.2.1 3, .object "TermDesk$Poly"), (G.2.1 5, .object "TermDesk$Row"), (G.2.1 4, .array .int), (G.2.1 14, .array (.object "TermDesk$Poly"))]
/-- kinds stay -/
def kle (K K1 : XK) : Prop := kz K ≤ kz K1 ∧ ∀ k : Nat, kd K k ≠ 0 → kd K1 k = kd K k ∧ kl K1 k = kl K k
theorem kle.rf {K : XK} : kle K K := ⟨Nat.le_refl _, fun _ _ => ⟨rfl, rfl⟩⟩
theorem kle.tr {K K1 K2 : XK} (h : kle K K1) (h2 : kle K1 K2) : kle K K2 := ⟨Nat.le_trans h.1 h2.1, fun k hk => by
  obtain ⟨a, c⟩ := h.2 k hk
  obtain ⟨d, f⟩ := h2.2 k (by rw [a]; exact hk)
  exact ⟨d.trans a, f.trans c⟩⟩
theorem kle.kd {K K1 : XK} (h : kle K K1) {k c : Nat} (hk : kd K k = c) (hc : c ≠ 0 := by decide) : kd K1 k = c := ((h.2 k (by rw [hk]; exact hc)).1).trans hk
theorem kle.new {hole : Nat → Prop} {K : XK} (h : xKw hole K) (kind len n : Nat) : kle K (knew K kind len n) := by
  refine ⟨Nat.le_succ _, fun k hk => ?_⟩
  have := (h.2.1 k hk).1
  have e : k ≠ kz K := by omega
  exact ⟨if_neg e, if_neg e⟩
theorem knew_kd {K : XK} {kind len n : Nat} : kd (knew K kind len n) (kz K) = kind := if_pos rfl
theorem knew_kl {K : XK} {kind len n : Nat} : kl (knew K kind len n) (kz K) = len := if_pos rfl
section XB
variable {G : XG} {b : Nat} {hole : Nat → Prop} {K : XK} {T : XT} {H : Heap}
theorem xW.at (h : xW G b hole K T H) {k : Nat} (hk : kd K k ≠ 0) (h16 : kd K k ≠ 16) : va_at G.1 xcl (b + k, xE G b K T k) H := (h.1 k).1 hk h16
theorem xW.sk (h : xW G b hole K T H) (k : Nat) (hk : k < 90) : kd K k = skd k := (h.2.2.1.1 k hk).1
theorem xW.sl (h : xW G b hole K T H) (k : Nat) (hk : k < 90) : kl K k = sln k := (h.2.2.1.1 k hk).2
theorem xW.A (h : xW G b hole K T H) {k : Nat} (hk : kd K k ≠ 0) : xA b hole (b + k) := ⟨Nat.le_add_right _ _, by rw [Nat.add_sub_cancel_left]; exact (h.2.2.1.2.1 k hk).2⟩
theorem xW.A2 (h : xW G b hole K T H) : ∀ q : Nat, H.size ≤ q → xA b hole q := by
  intro q hq
  rw [h.2.2.2] at hq
  refine ⟨by omega, fun z => ?_⟩
  have := h.2.2.1.2.2.1 _ z
  omega
theorem xW.ty (h : xW G b hole K T H) {k j p c : Nat} (hk : kd K k = c) (hc : c ≠ 0) (hr : xr T k j = some p) : kd K p = rk c j := by
  rw [← hk]
  exact (h.2.1 k j p (by rw [hk]; exact hc) hr).1
theorem xW.ll (h : xW G b hole K T H) (k : Nat) : kl K k < 2 ^ 31 := by
  have := h.2.2.1.2.2.2.1 k
  omega
theorem xW.row (h : xW G b hole K T H) {k : Nat} (hk : kd K k = 9) : kd K (k + 1) = 1 ∧ kd K (k + 2) = 1 := h.2.2.1.2.2.2.2 k hk
theorem xE_1 {k : Nat} (hk : kd K k = 1) : xE G b K T k = .inl (G.2.1 1, kl K k, .inl (xi T k)) := by unfold xE; simp only [hk]
theorem xE_6 {k : Nat} (hk : kd K k = 6) : xE G b K T k = .inl (G.2.1 6, kl K k, .inl (xi T k)) := by unfold xE; simp only [hk]
theorem xE_7 {k : Nat} (hk : kd K k = 7) : xE G b K T k = .inl (G.2.1 7, kl K k, .inl (xi T k)) := by unfold xE; simp only [hk]
theorem xE_3 {k : Nat} (hk : kd K k = 3) : xE G b K T k = .inl (G.2.1 3, kl K k, .inr (.inr (.inr (.inr (fun j => (xr T k j).map (fun x => b + x)))))) := by unfold xE; simp only [hk]
theorem xE_4 {k : Nat} (hk : kd K k = 4) : xE G b K T k = .inl (G.2.1 4, kl K k, .inr (.inr (.inr (.inr (fun j => (xr T k j).map (fun x => b + x)))))) := by unfold xE; simp only [hk]
theorem xE_5 {k : Nat} (hk : kd K k = 5) : xE G b K T k = .inl (G.2.1 5, kl K k, .inr (.inr (.inr (.inr (fun j => (xr T k j).map (fun x => b + x)))))) := by unfold xE; simp only [hk]
theorem xE_14 {k : Nat} (hk : kd K k = 14) : xE G b K T k = .inl (G.2.1 14, kl K k, .inr (.inr (.inr (.inr (fun j => (xr T k j).map (fun x => b + x)))))) := by unfold xE; simp only [hk]
theorem xE_8 {k : Nat} (hk : kd K k = 8) : xE G b K T k = .inr (0, fs8 (gem G) b T k) := by unfold xE; simp only [hk]
theorem xE_9 {k : Nat} (hk : kd K k = 9) : xE G b K T k = .inr (1, fs9 (gem G) b T k) := by unfold xE; simp only [hk]
theorem xE_10 {k : Nat} (hk : kd K k = 10) : xE G b K T k = .inr (2, fs10 (gem G) b T k) := by unfold xE; simp only [hk]
theorem xE_11 {k : Nat} (hk : kd K k = 11) : xE G b K T k = .inr (3, fs11 (gem G) b T k) := by unfold xE; simp only [hk]
theorem xE_12 {k : Nat} (hk : kd K k = 12) : xE G b K T k = .inr (4, fs12 (gem G) b T k) := by unfold xE; simp only [hk]
theorem xE_2 {k : Nat} (hk : kd K k = 2) : xE G b K T k = .inr (5, fs2 (gem G) b T k) := by unfold xE; simp only [hk]
theorem xE_13 {k : Nat} (hk : kd K k = 13) : xE G b K T k = .inr (6, fs13 (gem G) b T k) := by unfold xE; simp only [hk]
theorem xE_15 {k : Nat} (hk : kd K k = 15) : xE G b K T k = .inr (7, fs15 (gem G) b T k) := by unfold xE; simp only [hk]
theorem xE_cg {K1 : XK} {T1 : XT} {k : Nat} (h1 : kd K1 k = kd K k) (h2 : kl K1 k = kl K k) (h3 : xi T1 k = xi T k) (h4 : xr T1 k = xr T k) : xE G b K1 T1 k = xE G b K T k := by
  unfold xE
  rw [h1]
  split <;> simp only [h2, h3, h4, fs8, fs9, fs10, fs11, fs12, fs2, fs13, fs15]
theorem xlam_cg {K1 : XK} {T1 : XT} {k : Nat} (h2 : kl K1 k = kl K k) (h3 : xi T1 k = xi T k) : xlam G K1 T1 k = xlam G K T k := by
  unfold xlam
  rw [h2, h3]
theorem xat_cg {K1 : XK} {T1 : XT} {H1 : Heap} {k : Nat} (h : xat G b K T H k) (h1 : kd K1 k = kd K k) (h2 : kl K1 k = kl K k) (h3 : xi T1 k = xi T k) (h4 : xr T1 k = xr T k) (hq : H1[b + k]? = H[b + k]?) : xat G b K1 T1 H1 k := by
  refine ⟨fun a1 a2 => ?_, fun a1 => ?_⟩
  · rw [xE_cg h1 h2 h3 h4]
    rw [h1] at a1 a2
    exact (h.1 a1 a2).kept hq
  · rw [xlam_cg h2 h3]
    rw [h1] at a1
    rw [hq]
    exact h.2 a1
theorem xwi_i {k j q : Nat} {v : Int32} (hq : q ≠ k) : xi (xwi T k j v) q = xi T q := if_neg hq
theorem xwr_r {k j q : Nat} {v : Option Nat} (hq : q ≠ k) : xr (xwr T k j v) q = xr T q := if_neg hq
/-- one cell changed -/
theorem xW.one (h : xW G b hole K T H) {T1 : XT} {H1 : Heap} {k : Nat} (hk : kd K k ≠ 0) (h16 : kd K k ≠ 16) (he : va_at G.1 xcl (b + k, xE G b K T1 k) H1) (hi : ∀ q, q ≠ k → xi T1 q = xi T q) (hr : ∀ q, q ≠ k → xr T1 q = xr T q) (hty : ∀ j p, xr T1 k j = some p → kd K p = rk (kd K k) j ∧ kd K p ≠ 0) (z : H1.size = H.size) (oq : ∀ q, q ≠ b + k → H1[q]? = H[q]?) : xW G b hole K T1 H1 := by
  refine ⟨fun q => ?_, fun q j p hq hp => ?_, h.2.2.1, by rw [z]; exact h.2.2.2⟩
  · by_cases e : q = k
    · subst e
      exact ⟨fun _ _ => he, fun a => absurd a h16⟩
    · exact xat_cg (h.1 q) rfl rfl (hi q e) (hr q e) (oq _ (by omega))
  · by_cases e : q = k
    · subst e
      exact hty j p hp
    · rw [hr q e] at hp
      exact h.2.1 q j p hq hp
theorem xW.moreG (h : xW G b hole K T H) {T1 : XT} {H1 : Heap} {kind len n : Nat} (hk9 : kind ≠ 9) (hl : len < 2 ^ 27) (hi : ∀ q, q ≠ kz K → xi T1 q = xi T q) (hr : ∀ q, q ≠ kz K → xr T1 q = xr T q) (hty : ∀ j p, xr T1 (kz K) j = some p → kd K p = rk kind j ∧ kd K p ≠ 0) (hn : kind ≠ 0 → kind ≠ 16 → va_at G.1 xcl (b + kz K, xE G b (knew K kind len n) T1 (kz K)) H1) (hn2 : kind = 16 → H1[b + kz K]? = some (xlam G (knew K kind len n) T1 (kz K))) (z : H1.size = H.size + 1) (o : ∀ q, q < H.size → H1[q]? = H[q]?) : xW G b hole (knew K kind len n) T1 H1 := by
  have hz := h.2.2.2
  obtain ⟨w1, w2, w3, w4, w5⟩ := h.2.2.1
  have hne : ∀ q, q ≠ kz K → kd (knew K kind len n) q = kd K q ∧ kl (knew K kind len n) q = kl K q ∧ xi T1 q = xi T q ∧ xr T1 q = xr T q := fun q e => ⟨if_neg e, if_neg e, hi q e, hr q e⟩
  have h90 : 90 ≤ kz K := by
    have a := w1 89 (by decide)
    have c := (w2 89 (by rw [a.1]; decide)).1
    omega
  refine ⟨fun q => ?_, fun q j p hq hp => ?_, ⟨fun k hk => ?_, fun k hk => ?_, fun k hk => ?_, fun k => ?_, fun k hk => ?_⟩, by rw [z, hz]; rfl⟩
  · by_cases e : q = kz K
    · subst e
      refine ⟨fun a1 a2 => hn ?_ ?_, fun a1 => hn2 ?_⟩
      · rw [knew_kd] at a1; exact a1
      · rw [knew_kd] at a2; exact a2
      · rw [knew_kd] at a1; exact a1
    · obtain ⟨e1, e2, e3, e4⟩ := hne q e
      by_cases hk0 : kd K q = 0
      · exact ⟨fun a _ => absurd (e1.trans hk0) a, fun a => by rw [e1, hk0] at a; cases a⟩
      · exact xat_cg (h.1 q) e1 e2 e3 e4 (o _ (by have := (w2 q hk0).1; omega))
  · by_cases e : q = kz K
    · subst e
      have h9 := hty j p hp
      rw [knew_kd]
      have ep : p ≠ kz K := fun e => by
        subst e
        have := (w2 _ h9.2).1
        omega
      rw [(hne p ep).1]
      exact h9
    · obtain ⟨e1, -, -, e4⟩ := hne q e
      rw [e4] at hp
      rw [e1] at hq ⊢
      have hp0 := h.2.1 q j p hq hp
      by_cases ep : p = kz K
      · subst ep
        have hnk : kd K (kz K) = 0 := Classical.byContradiction fun hc => by have := (w2 _ hc).1; omega
        exact absurd hnk hp0.2
      · rw [(hne p ep).1]
        exact hp0
  · have e : k ≠ kz K := by omega
    rw [(hne k e).1, (hne k e).2.1]
    exact w1 k hk
  · by_cases e : k = kz K
    · subst e
      exact ⟨Nat.lt_succ_self _, fun hh => by have := w3 _ hh; omega⟩
    · rw [(hne k e).1] at hk
      exact ⟨Nat.lt_succ_of_lt (w2 k hk).1, (w2 k hk).2⟩
  · exact Nat.lt_succ_of_lt (w3 k hk)
  · by_cases e : k = kz K
    · subst e
      rw [knew_kl]
      exact hl
    · rw [(hne k e).2.1]
      exact w4 k
  · by_cases e : k = kz K
    · subst e
      rw [knew_kd] at hk
      exact absurd hk hk9
    · rw [(hne k e).1] at hk
      obtain ⟨a1, a2⟩ := w5 k hk
      have e1 : k + 1 ≠ kz K := by have := (w2 (k + 1) (by rw [a1]; decide)).1; omega
      have e2 : k + 2 ≠ kz K := by have := (w2 (k + 2) (by rw [a2]; decide)).1; omega
      rw [(hne _ e1).1, (hne _ e2).1]
      exact ⟨a1, a2⟩
/-- a cell more -/
theorem xW.moreD (h : xW G b hole K T H) {T1 : XT} {H1 : Heap} {kind len n : Nat} (hl : len < 2 ^ 27) (hk0 : kind ≠ 0) (hk16 : kind ≠ 16) (hk9 : kind ≠ 9) (hn : va_at G.1 xcl (b + kz K, xE G b (knew K kind len n) T1 (kz K)) H1) (hi : ∀ q, q ≠ kz K → xi T1 q = xi T q) (hr : ∀ q, q ≠ kz K → xr T1 q = xr T q) (hty : ∀ j p, xr T1 (kz K) j = some p → kd K p = rk kind j ∧ kd K p ≠ 0) (z : H1.size = H.size + 1) (o : ∀ q, q < H.size → H1[q]? = H[q]?) : xW G b hole (knew K kind len n) T1 H1 := xW.moreG h hk9 hl hi hr hty (fun _ _ => hn) (fun e => absurd e hk16) z o
theorem xW.more (h : xW G b hole K T H) {H1 : Heap} {kind len n : Nat} (hk9 : kind ≠ 9) (hl : len < 2 ^ 27) (hn : kind ≠ 0 → kind ≠ 16 → va_at G.1 xcl (b + kz K, xE G b (knew K kind len n) (xnil T (kz K)) (kz K)) H1) (hn2 : kind = 16 → H1[b + kz K]? = some (xlam G (knew K kind len n) (xnil T (kz K)) (kz K))) (z : H1.size = H.size + 1) (o : ∀ q, q < H.size → H1[q]? = H[q]?) : xW G b hole (knew K kind len n) (xnil T (kz K)) H1 := by
  refine xW.moreG h hk9 hl (fun q e => if_neg e) (fun q e => if_neg e) (fun j p hp => ?_) hn hn2 z o
  have : xr (xnil T (kz K)) (kz K) j = none := by
    show (va_up (xr T) (kz K) (fun _ => none)) (kz K) j = none
    rw [va_up_self]
  rw [this] at hp
  cases hp
theorem xs_0 (hP : xW G b hole K T H) : kd K 0 = 8 := hP.sk 0 (by decide)
theorem xs_1 (hP : xW G b hole K T H) : kd K 1 = 1 := hP.sk 1 (by decide)
theorem xl_1 (hP : xW G b hole K T H) : kl K 1 = 98 := hP.sl 1 (by decide)
theorem xs_2 (hP : xW G b hole K T H) : kd K 2 = 1 := hP.sk 2 (by decide)
theorem xl_2 (hP : xW G b hole K T H) : kl K 2 = 4096 := hP.sl 2 (by decide)
theorem xs_3 (hP : xW G b hole K T H) : kd K 3 = 9 := hP.sk 3 (by decide)
theorem xs_4 (hP : xW G b hole K T H) : kd K 4 = 1 := hP.sk 4 (by decide)
theorem xl_4 (hP : xW G b hole K T H) : kl K 4 = 4096 := hP.sl 4 (by decide)
theorem xs_5 (hP : xW G b hole K T H) : kd K 5 = 1 := hP.sk 5 (by decide)
theorem xl_5 (hP : xW G b hole K T H) : kl K 5 = 4096 := hP.sl 5 (by decide)
theorem xs_6 (hP : xW G b hole K T H) : kd K 6 = 10 := hP.sk 6 (by decide)
theorem xs_7 (hP : xW G b hole K T H) : kd K 7 = 5 := hP.sk 7 (by decide)
theorem xl_7 (hP : xW G b hole K T H) : kl K 7 = 8 := hP.sl 7 (by decide)
theorem xs_8 (hP : xW G b hole K T H) : kd K 8 = 9 := hP.sk 8 (by decide)
theorem xs_9 (hP : xW G b hole K T H) : kd K 9 = 1 := hP.sk 9 (by decide)
theorem xl_9 (hP : xW G b hole K T H) : kl K 9 = 61 := hP.sl 9 (by decide)
theorem xs_10 (hP : xW G b hole K T H) : kd K 10 = 1 := hP.sk 10 (by decide)
theorem xl_10 (hP : xW G b hole K T H) : kl K 10 = 61 := hP.sl 10 (by decide)
theorem xs_11 (hP : xW G b hole K T H) : kd K 11 = 9 := hP.sk 11 (by decide)
theorem xs_12 (hP : xW G b hole K T H) : kd K 12 = 1 := hP.sk 12 (by decide)
theorem xl_12 (hP : xW G b hole K T H) : kl K 12 = 122 := hP.sl 12 (by decide)
theorem xs_13 (hP : xW G b hole K T H) : kd K 13 = 1 := hP.sk 13 (by decide)
theorem xl_13 (hP : xW G b hole K T H) : kl K 13 = 122 := hP.sl 13 (by decide)
theorem xs_14 (hP : xW G b hole K T H) : kd K 14 = 9 := hP.sk 14 (by decide)
theorem xs_15 (hP : xW G b hole K T H) : kd K 15 = 1 := hP.sk 15 (by decide)
theorem xl_15 (hP : xW G b hole K T H) : kl K 15 = 122 := hP.sl 15 (by decide)
theorem xs_16 (hP : xW G b hole K T H) : kd K 16 = 1 := hP.sk 16 (by decide)
theorem xl_16 (hP : xW G b hole K T H) : kl K 16 = 122 := hP.sl 16 (by decide)
theorem xs_17 (hP : xW G b hole K T H) : kd K 17 = 9 := hP.sk 17 (by decide)
theorem xs_18 (hP : xW G b hole K T H) : kd K 18 = 1 := hP.sk 18 (by decide)
theorem xl_18 (hP : xW G b hole K T H) : kl K 18 = 61 := hP.sl 18 (by decide)
theorem xs_19 (hP : xW G b hole K T H) : kd K 19 = 1 := hP.sk 19 (by decide)
theorem xl_19 (hP : xW G b hole K T H) : kl K 19 = 61 := hP.sl 19 (by decide)
theorem xs_20 (hP : xW G b hole K T H) : kd K 20 = 9 := hP.sk 20 (by decide)
theorem xs_21 (hP : xW G b hole K T H) : kd K 21 = 1 := hP.sk 21 (by decide)
theorem xl_21 (hP : xW G b hole K T H) : kl K 21 = 61 := hP.sl 21 (by decide)
theorem xs_22 (hP : xW G b hole K T H) : kd K 22 = 1 := hP.sk 22 (by decide)
theorem xl_22 (hP : xW G b hole K T H) : kl K 22 = 61 := hP.sl 22 (by decide)
theorem xs_23 (hP : xW G b hole K T H) : kd K 23 = 9 := hP.sk 23 (by decide)
theorem xs_24 (hP : xW G b hole K T H) : kd K 24 = 1 := hP.sk 24 (by decide)
theorem xl_24 (hP : xW G b hole K T H) : kl K 24 = 61 := hP.sl 24 (by decide)
theorem xs_25 (hP : xW G b hole K T H) : kd K 25 = 1 := hP.sk 25 (by decide)
theorem xl_25 (hP : xW G b hole K T H) : kl K 25 = 61 := hP.sl 25 (by decide)
theorem xs_26 (hP : xW G b hole K T H) : kd K 26 = 9 := hP.sk 26 (by decide)
theorem xs_27 (hP : xW G b hole K T H) : kd K 27 = 1 := hP.sk 27 (by decide)
theorem xl_27 (hP : xW G b hole K T H) : kl K 27 = 61 := hP.sl 27 (by decide)
theorem xs_28 (hP : xW G b hole K T H) : kd K 28 = 1 := hP.sk 28 (by decide)
theorem xl_28 (hP : xW G b hole K T H) : kl K 28 = 61 := hP.sl 28 (by decide)
theorem xs_29 (hP : xW G b hole K T H) : kd K 29 = 9 := hP.sk 29 (by decide)
theorem xs_30 (hP : xW G b hole K T H) : kd K 30 = 1 := hP.sk 30 (by decide)
theorem xl_30 (hP : xW G b hole K T H) : kl K 30 = 61 := hP.sl 30 (by decide)
theorem xs_31 (hP : xW G b hole K T H) : kd K 31 = 1 := hP.sk 31 (by decide)
theorem xl_31 (hP : xW G b hole K T H) : kl K 31 = 61 := hP.sl 31 (by decide)
theorem xs_32 (hP : xW G b hole K T H) : kd K 32 = 9 := hP.sk 32 (by decide)
theorem xs_33 (hP : xW G b hole K T H) : kd K 33 = 1 := hP.sk 33 (by decide)
theorem xl_33 (hP : xW G b hole K T H) : kl K 33 = 61 := hP.sl 33 (by decide)
theorem xs_34 (hP : xW G b hole K T H) : kd K 34 = 1 := hP.sk 34 (by decide)
theorem xl_34 (hP : xW G b hole K T H) : kl K 34 = 61 := hP.sl 34 (by decide)
theorem xs_35 (hP : xW G b hole K T H) : kd K 35 = 9 := hP.sk 35 (by decide)
theorem xs_36 (hP : xW G b hole K T H) : kd K 36 = 1 := hP.sk 36 (by decide)
theorem xl_36 (hP : xW G b hole K T H) : kl K 36 = 61 := hP.sl 36 (by decide)
theorem xs_37 (hP : xW G b hole K T H) : kd K 37 = 1 := hP.sk 37 (by decide)
theorem xl_37 (hP : xW G b hole K T H) : kl K 37 = 61 := hP.sl 37 (by decide)
theorem xs_38 (hP : xW G b hole K T H) : kd K 38 = 9 := hP.sk 38 (by decide)
theorem xs_39 (hP : xW G b hole K T H) : kd K 39 = 1 := hP.sk 39 (by decide)
theorem xl_39 (hP : xW G b hole K T H) : kl K 39 = 61 := hP.sl 39 (by decide)
theorem xs_40 (hP : xW G b hole K T H) : kd K 40 = 1 := hP.sk 40 (by decide)
theorem xl_40 (hP : xW G b hole K T H) : kl K 40 = 61 := hP.sl 40 (by decide)
theorem xs_41 (hP : xW G b hole K T H) : kd K 41 = 4 := hP.sk 41 (by decide)
theorem xl_41 (hP : xW G b hole K T H) : kl K 41 = 16 := hP.sl 41 (by decide)
theorem xs_42 (hP : xW G b hole K T H) : kd K 42 = 1 := hP.sk 42 (by decide)
theorem xl_42 (hP : xW G b hole K T H) : kl K 42 = 2304 := hP.sl 42 (by decide)
theorem xs_43 (hP : xW G b hole K T H) : kd K 43 = 1 := hP.sk 43 (by decide)
theorem xl_43 (hP : xW G b hole K T H) : kl K 43 = 2304 := hP.sl 43 (by decide)
theorem xs_44 (hP : xW G b hole K T H) : kd K 44 = 1 := hP.sk 44 (by decide)
theorem xl_44 (hP : xW G b hole K T H) : kl K 44 = 2304 := hP.sl 44 (by decide)
theorem xs_45 (hP : xW G b hole K T H) : kd K 45 = 1 := hP.sk 45 (by decide)
theorem xl_45 (hP : xW G b hole K T H) : kl K 45 = 2304 := hP.sl 45 (by decide)
theorem xs_46 (hP : xW G b hole K T H) : kd K 46 = 1 := hP.sk 46 (by decide)
theorem xl_46 (hP : xW G b hole K T H) : kl K 46 = 2304 := hP.sl 46 (by decide)
theorem xs_47 (hP : xW G b hole K T H) : kd K 47 = 1 := hP.sk 47 (by decide)
theorem xl_47 (hP : xW G b hole K T H) : kl K 47 = 2304 := hP.sl 47 (by decide)
theorem xs_48 (hP : xW G b hole K T H) : kd K 48 = 1 := hP.sk 48 (by decide)
theorem xl_48 (hP : xW G b hole K T H) : kl K 48 = 2304 := hP.sl 48 (by decide)
theorem xs_49 (hP : xW G b hole K T H) : kd K 49 = 1 := hP.sk 49 (by decide)
theorem xl_49 (hP : xW G b hole K T H) : kl K 49 = 2304 := hP.sl 49 (by decide)
theorem xs_50 (hP : xW G b hole K T H) : kd K 50 = 1 := hP.sk 50 (by decide)
theorem xl_50 (hP : xW G b hole K T H) : kl K 50 = 2304 := hP.sl 50 (by decide)
theorem xs_51 (hP : xW G b hole K T H) : kd K 51 = 1 := hP.sk 51 (by decide)
theorem xl_51 (hP : xW G b hole K T H) : kl K 51 = 2304 := hP.sl 51 (by decide)
theorem xs_52 (hP : xW G b hole K T H) : kd K 52 = 1 := hP.sk 52 (by decide)
theorem xl_52 (hP : xW G b hole K T H) : kl K 52 = 2304 := hP.sl 52 (by decide)
theorem xs_53 (hP : xW G b hole K T H) : kd K 53 = 1 := hP.sk 53 (by decide)
theorem xl_53 (hP : xW G b hole K T H) : kl K 53 = 2304 := hP.sl 53 (by decide)
theorem xs_54 (hP : xW G b hole K T H) : kd K 54 = 1 := hP.sk 54 (by decide)
theorem xl_54 (hP : xW G b hole K T H) : kl K 54 = 2304 := hP.sl 54 (by decide)
theorem xs_55 (hP : xW G b hole K T H) : kd K 55 = 1 := hP.sk 55 (by decide)
theorem xl_55 (hP : xW G b hole K T H) : kl K 55 = 2304 := hP.sl 55 (by decide)
theorem xs_56 (hP : xW G b hole K T H) : kd K 56 = 1 := hP.sk 56 (by decide)
theorem xl_56 (hP : xW G b hole K T H) : kl K 56 = 2304 := hP.sl 56 (by decide)
theorem xs_57 (hP : xW G b hole K T H) : kd K 57 = 1 := hP.sk 57 (by decide)
theorem xl_57 (hP : xW G b hole K T H) : kl K 57 = 2304 := hP.sl 57 (by decide)
theorem xs_58 (hP : xW G b hole K T H) : kd K 58 = 4 := hP.sk 58 (by decide)
theorem xl_58 (hP : xW G b hole K T H) : kl K 58 = 16 := hP.sl 58 (by decide)
theorem xs_59 (hP : xW G b hole K T H) : kd K 59 = 1 := hP.sk 59 (by decide)
theorem xl_59 (hP : xW G b hole K T H) : kl K 59 = 2304 := hP.sl 59 (by decide)
theorem xs_60 (hP : xW G b hole K T H) : kd K 60 = 1 := hP.sk 60 (by decide)
theorem xl_60 (hP : xW G b hole K T H) : kl K 60 = 2304 := hP.sl 60 (by decide)
theorem xs_61 (hP : xW G b hole K T H) : kd K 61 = 1 := hP.sk 61 (by decide)
theorem xl_61 (hP : xW G b hole K T H) : kl K 61 = 2304 := hP.sl 61 (by decide)
theorem xs_62 (hP : xW G b hole K T H) : kd K 62 = 1 := hP.sk 62 (by decide)
theorem xl_62 (hP : xW G b hole K T H) : kl K 62 = 2304 := hP.sl 62 (by decide)
theorem xs_63 (hP : xW G b hole K T H) : kd K 63 = 1 := hP.sk 63 (by decide)
theorem xl_63 (hP : xW G b hole K T H) : kl K 63 = 2304 := hP.sl 63 (by decide)
theorem xs_64 (hP : xW G b hole K T H) : kd K 64 = 1 := hP.sk 64 (by decide)
theorem xl_64 (hP : xW G b hole K T H) : kl K 64 = 2304 := hP.sl 64 (by decide)
theorem xs_65 (hP : xW G b hole K T H) : kd K 65 = 1 := hP.sk 65 (by decide)
theorem xl_65 (hP : xW G b hole K T H) : kl K 65 = 2304 := hP.sl 65 (by decide)
theorem xs_66 (hP : xW G b hole K T H) : kd K 66 = 1 := hP.sk 66 (by decide)
theorem xl_66 (hP : xW G b hole K T H) : kl K 66 = 2304 := hP.sl 66 (by decide)
theorem xs_67 (hP : xW G b hole K T H) : kd K 67 = 1 := hP.sk 67 (by decide)
theorem xl_67 (hP : xW G b hole K T H) : kl K 67 = 2304 := hP.sl 67 (by decide)
theorem xs_68 (hP : xW G b hole K T H) : kd K 68 = 1 := hP.sk 68 (by decide)
theorem xl_68 (hP : xW G b hole K T H) : kl K 68 = 2304 := hP.sl 68 (by decide)
theorem xs_69 (hP : xW G b hole K T H) : kd K 69 = 1 := hP.sk 69 (by decide)
theorem xl_69 (hP : xW G b hole K T H) : kl K 69 = 2304 := hP.sl 69 (by decide)
theorem xs_70 (hP : xW G b hole K T H) : kd K 70 = 1 := hP.sk 70 (by decide)
theorem xl_70 (hP : xW G b hole K T H) : kl K 70 = 2304 := hP.sl 70 (by decide)
theorem xs_71 (hP : xW G b hole K T H) : kd K 71 = 1 := hP.sk 71 (by decide)
theorem xl_71 (hP : xW G b hole K T H) : kl K 71 = 2304 := hP.sl 71 (by decide)
theorem xs_72 (hP : xW G b hole K T H) : kd K 72 = 1 := hP.sk 72 (by decide)
theorem xl_72 (hP : xW G b hole K T H) : kl K 72 = 2304 := hP.sl 72 (by decide)
theorem xs_73 (hP : xW G b hole K T H) : kd K 73 = 1 := hP.sk 73 (by decide)
theorem xl_73 (hP : xW G b hole K T H) : kl K 73 = 2304 := hP.sl 73 (by decide)
theorem xs_74 (hP : xW G b hole K T H) : kd K 74 = 1 := hP.sk 74 (by decide)
theorem xl_74 (hP : xW G b hole K T H) : kl K 74 = 2304 := hP.sl 74 (by decide)
theorem xs_75 (hP : xW G b hole K T H) : kd K 75 = 1 := hP.sk 75 (by decide)
theorem xl_75 (hP : xW G b hole K T H) : kl K 75 = 2304 := hP.sl 75 (by decide)
theorem xs_76 (hP : xW G b hole K T H) : kd K 76 = 1 := hP.sk 76 (by decide)
theorem xl_76 (hP : xW G b hole K T H) : kl K 76 = 2304 := hP.sl 76 (by decide)
theorem xs_77 (hP : xW G b hole K T H) : kd K 77 = 1 := hP.sk 77 (by decide)
theorem xl_77 (hP : xW G b hole K T H) : kl K 77 = 2304 := hP.sl 77 (by decide)
theorem xs_78 (hP : xW G b hole K T H) : kd K 78 = 1 := hP.sk 78 (by decide)
theorem xl_78 (hP : xW G b hole K T H) : kl K 78 = 1 := hP.sl 78 (by decide)
theorem xs_79 (hP : xW G b hole K T H) : kd K 79 = 6 := hP.sk 79 (by decide)
theorem xl_79 (hP : xW G b hole K T H) : kl K 79 = 700 := hP.sl 79 (by decide)
theorem xs_80 (hP : xW G b hole K T H) : kd K 80 = 11 := hP.sk 80 (by decide)
theorem xs_81 (hP : xW G b hole K T H) : kd K 81 = 12 := hP.sk 81 (by decide)
theorem xs_82 (hP : xW G b hole K T H) : kd K 82 = 7 := hP.sk 82 (by decide)
theorem xl_82 (hP : xW G b hole K T H) : kl K 82 = 5 := hP.sl 82 (by decide)
theorem xs_83 (hP : xW G b hole K T H) : kd K 83 = 1 := hP.sk 83 (by decide)
theorem xl_83 (hP : xW G b hole K T H) : kl K 83 = 72 := hP.sl 83 (by decide)
theorem xs_84 (hP : xW G b hole K T H) : kd K 84 = 1 := hP.sk 84 (by decide)
theorem xl_84 (hP : xW G b hole K T H) : kl K 84 = 72 := hP.sl 84 (by decide)
theorem xs_85 (hP : xW G b hole K T H) : kd K 85 = 1 := hP.sk 85 (by decide)
theorem xl_85 (hP : xW G b hole K T H) : kl K 85 = 6 := hP.sl 85 (by decide)
theorem xs_86 (hP : xW G b hole K T H) : kd K 86 = 1 := hP.sk 86 (by decide)
theorem xl_86 (hP : xW G b hole K T H) : kl K 86 = 3 := hP.sl 86 (by decide)
theorem xs_87 (hP : xW G b hole K T H) : kd K 87 = 3 := hP.sk 87 (by decide)
theorem xl_87 (hP : xW G b hole K T H) : kl K 87 = 8 := hP.sl 87 (by decide)
theorem xs_88 (hP : xW G b hole K T H) : kd K 88 = 14 := hP.sk 88 (by decide)
theorem xl_88 (hP : xW G b hole K T H) : kl K 88 = 8 := hP.sl 88 (by decide)
theorem xs_89 (hP : xW G b hole K T H) : kd K 89 = 1 := hP.sk 89 (by decide)
theorem xl_89 (hP : xW G b hole K T H) : kl K 89 = 8 := hP.sl 89 (by decide)
end XB
