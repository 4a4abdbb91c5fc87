set_option maxRecDepth 100000
/-! TermDesk's text: words, flaws -/
def nv (a : Nat → Nat) : Nat → Nat
  | 0 => 0
  | j + 1 => nv a j * 256 + a j
theorem nv_inj {a b : Nat → Nat} : ∀ L M, (∀ j, j < L → 1 ≤ a j ∧ a j < 256) → (∀ j, j < M → 1 ≤ b j ∧ b j < 256) → nv a L = nv b M → L = M ∧ ∀ j, j < L → a j = b j := fun L => by
  induction L with
  | zero =>
    intro M _ hb h
    cases M with
    | zero => exact ⟨rfl, fun j hj => absurd hj (by omega)⟩
    | succ M =>
      have := (hb M (by omega)).1
      have h : 0 = nv b M * 256 + b M := h
      omega
  | succ L ih =>
    intro M ha hb h
    cases M with
    | zero =>
      have := (ha L (by omega)).1
      have h : nv a L * 256 + a L = 0 := h
      omega
    | succ M =>
      have h : nv a L * 256 + a L = nv b M * 256 + b M := h
      have h1 := ha L (by omega)
      have h2 := hb M (by omega)
      obtain ⟨e, f⟩ := ih M (fun j hj => ha j (by omega)) (fun j hj => hb j (by omega)) (by omega)
      subst e
      refine ⟨rfl, fun j hj => ?_⟩
      by_cases w : j = L
      · subst w; omega
      · exact f j (by omega)
theorem nv_ext {a b : Nat → Nat} : ∀ L, (∀ j, j < L → a j = b j) → nv a L = nv b L := fun L => by
  induction L with
  | zero => intro _; rfl
  | succ L ih =>
    intro h
    show nv a L * 256 + a L = nv b L * 256 + b L
    rw [ih (fun j hj => h j (by omega)), h L (by omega)]
theorem vln_nv (c : Nat → Nat) (s : Nat) : ∀ L, vln c 256 0 s L = nv (fun j => c (s + j)) L := fun L => by
  induction L with
  | zero => rfl
  | succ L ih =>
    show vln c 256 0 s L * 256 + (c (s + L) - 0) = nv (fun j => c (s + j)) L * 256 + c (s + L)
    rw [ih, Nat.sub_zero]
theorem pre_nv (i : Nat) : ∀ L, pre i L = nv (bys i) L := fun L => by
  induction L with
  | zero => rfl
  | succ L ih =>
    show pre i L * 256 + bys i L = nv (bys i) L * 256 + bys i L
    rw [ih]
theorem sby_11 : ∀ i, i < 10 → sby.getD (i + 11) [] = sby.getD i [] ∧ slen.getD (i + 11) 0 = slen.getD i 0 := by decide +kernel
theorem bys_1 : ∀ i, i < 10 → ∀ j, j < slen.getD i 0 → 1 ≤ bys i j := by decide +kernel
theorem tkc_e {k a : Nat} (hk : k < 7) (ha : a < 7) : nI (tkc k) = nI (tkc a) ↔ k = a := by
  have h1 := tkc_l k hk
  have h2 := tkc_l a ha
  rw [nI_eq (by omega) (by omega), tkc_i k hk a ha]
theorem li_t2 : (2 : Int32) = nI (tkc 2) := rfl
theorem li_t3 : (3 : Int32) = nI (tkc 3) := rfl
theorem li_t1 : (0 : Int32) = nI (tkc 1) := rfl
theorem li_t4 : (59 : Int32) = nI (tkc 4) := rfl
theorem li_t5 : (43 : Int32) = nI (tkc 5) := rfl
theorem li_t6 : (45 : Int32) = nI (tkc 6) := rfl
/-- a string against a literal -/
theorem xs_equals {c : Nat → Nat} {i s v w L : Nat} {K : XK} {T : XT} {post : Int32 → Prop} (hi : i < 10) (hv : xi T v 1 = nI 0) (hw : xr T v 0 = some w) (hl : kl K w = L) (hL : L ≤ 5) (hb : ∀ j, j < L → xi T w j = nI (c (s + j)) ∧ 97 ≤ c (s + j) ∧ c (s + j) ≤ 122) (h1 : vln c 256 0 s L = wds i → post 1) (h0 : vln c 256 0 s L ≠ wds i → post 0) : wxJ4_equals v (i + 11) K T post := by
  obtain ⟨s1, s2⟩ := sby_11 i hi
  obtain ⟨f1, f2⟩ := sby_f i (by omega)
  rw [f2, vln_nv, pre_nv] at h1 h0
  have ha : ∀ j, j < L → 1 ≤ (fun j => c (s + j)) j ∧ (fun j => c (s + j)) j < 256 := fun j hj => by have := hb j hj; show 1 ≤ c (s + j) ∧ c (s + j) < 256; omega
  have hbb : ∀ j, j < slen.getD i 0 → 1 ≤ bys i j ∧ bys i j < 256 := fun j hj => ⟨bys_1 i hi j hj, (bys_f i (by omega) j (by omega)).2⟩
  unfold wxJ4_equals wxJ4_equals_j36
  refine ⟨fun q => absurd q (by decide), fun _ => ⟨fun q => absurd q (by decide), fun _ => ⟨fun q => absurd (by rw [hv]; rfl) q, fun _ => ⟨w, hw, ?_⟩⟩⟩⟩
  unfold wxJ7_equals
  rw [hl, s2, nI_eq (by omega) (by omega)]
  refine ⟨fun q => b01 rfl (h0 fun z => q (nv_inj _ _ ha hbb z).1), fun q => ?_⟩
  unfold wxJ7_equals_l9
  refine wl_up L (fun j (x : Int32) => x = nI j ∧ ∀ m, m < j → c (s + m) = bys i m) 0 (by omega) ⟨rfl, fun m hm => absurd hm (by omega)⟩ ?_
  rintro j x hj ⟨rfl, hm⟩ R hR
  unfold wxJ7_equals_b9
  rw [hl, nI_leI (by omega) (by omega), s1, s2]
  refine ⟨fun z => b11 rfl (h1 ?_), fun z => ⟨j, by omega, rfl, j, by omega, rfl, ?_⟩⟩
  · rw [← q]
    exact nv_ext L (fun m hm' => hm m (by omega))
  · obtain ⟨b1, b2⟩ := bys_f i (by omega) j (by omega)
    have hcj := hb j (by omega)
    rw [b1, hcj.1, nI_eq (by omega) (by omega)]
    refine ⟨fun e x2 ex2 => ?_, fun e => b01 rfl (h0 fun z2 => e ((nv_inj _ _ ha hbb z2).2 j (by omega)))⟩
    rw [li_1, nI_add] at ex2
    refine hR (by omega) _ ⟨ex2, fun m hm' => ?_⟩
    by_cases w : m = j
    · rw [w]; exact e
    · exact hm m (by omega)
theorem xs_tis {c : Nat → Nat} {n z i : Nat} {K : XK} {T : XT} {t : Tk} {post : Int32 → Prop} (hi : i < 10) (hx : xcu c n z K T t) (h1 : cIs i (.inr t) = true → post 1) (h0 : cIs i (.inr t) = false → post 0) : wx4_is (i + 11) K T post := by
  obtain ⟨x7, x8, x9, xn, xp, xk, x3, x2⟩ := hx
  unfold wx4_is
  rw [x8, li_t2, tkc_e xk (by omega)]
  refine ⟨fun q => h0 (decide_eq_false fun z => q z.1), fun q => ?_⟩
  obtain ⟨v, w, L, r1, r2, r3, r4, r5, r6, r7, r8, r9, r10, r11, r12, r13, r14, _⟩ := x2 q
  refine ⟨v, r1, ?_⟩
  refine xs_equals hi r6 r9 r10 r12 r13 (fun z => b11 rfl (h1 (decide_eq_true ⟨q, ?_⟩))) (fun z => b01 rfl (h0 (decide_eq_false fun z2 => ?_)))
  · show t.2.2.1 = wds i
    rw [r14]; exact z
  · have := z2.2
    have : t.2.2.1 = wds i := this
    rw [r14] at this
    exact z this
/-- a flaw was thrown -/
def xbad (e p : Nat) (T T' : XT) : Prop := xf (fun k => k = 81) T T' ∧ xi T' 81 0 = nI e ∧ xi T' 81 1 = nI p
theorem xs_fail {e p : Nat} {K : XK} {T : XT} {post : Nat → XT → Prop} (h9 : xi T 80 9 = nI p) (hp : ∀ T', xbad e p T T' → post 81 T') : wx4_fail (nI e) K T post := by
  unfold wx4_fail wx5_at
  intro T1 e1 T2 e2
  refine hp T2 ⟨?_, ?_, ?_⟩
  · rw [e2, e1]; exact xf_tr (xf_wi rfl) (xf_wi rfl)
  · rw [e2, xi_wi, if_neg (by omega), e1, xi_wi, if_pos ⟨rfl, rfl⟩]
  · rw [e2, xi_wi, if_pos ⟨rfl, rfl⟩]; exact h9
theorem xs_must1 {K : XK} {T : XT} {post xpost : XT → Prop} (h : post T) : wx4_must 1 K T post xpost := ⟨fun _ => h, fun q => absurd q (by decide)⟩
theorem xs_must0 {p : Nat} {K : XK} {T : XT} {post xpost : XT → Prop} (h9 : xi T 80 9 = nI p) (h : ∀ T', xbad 1 p T T' → xpost T') : wx4_must 0 K T post xpost := ⟨fun q => absurd rfl q, fun _ => xs_fail h9 (fun T' b => ⟨rfl, h T' b⟩)⟩
theorem xs_good1 {e : Int32} {K : XK} {T : XT} {post xpost : XT → Prop} (h : post T) : wx4_good 1 e K T post xpost := ⟨fun _ => h, fun q => absurd q (by decide)⟩
theorem xs_good0 {e : Int32} {k p : Nat} {K : XK} {T : XT} {post xpost : XT → Prop} (he : e = nI k) (h9 : xi T 80 9 = nI p) (h : ∀ T', xbad k p T T' → xpost T') : wx4_good 0 e K T post xpost := ⟨fun q => absurd rfl q, fun _ => by rw [he]; exact xs_fail h9 (fun T' b => ⟨rfl, h T' b⟩)⟩
theorem xs_tunknown {c : Nat → Nat} {n z : Nat} {K : XK} {T : XT} {t : Tk} {post : Int32 → Prop} (hx : xcu c n z K T t) (h : post (oI (cUn (.inr t)))) : wx4_unknown K T post := by
  unfold wx4_unknown
  unfold cUn at h
  refine xs_tis (i := 0) (by omega) hx (fun q => b11 rfl ?_) (fun q => b01 rfl ?_)
  · rw [if_pos q] at h; exact h
  · rw [if_neg (by rw [q]; decide)] at h
    refine xs_tis (i := 1) (by omega) hx (fun q => b11 rfl ?_) (fun q => b01 rfl ?_)
    · rw [if_pos q] at h; exact h
    · rw [if_neg (by rw [q]; decide)] at h
      refine xs_tis (i := 2) (by omega) hx (fun q => b11 rfl ?_) (fun q => b01 rfl ?_)
      · rw [if_pos q] at h; exact h
      · rw [if_neg (by rw [q]; decide)] at h; exact h
