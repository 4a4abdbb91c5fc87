set_option maxRecDepth 100000
/-! the text: tokens and lines in plain numbers -/
def skp (c : Nat → Nat) : Nat → Nat → Nat
  | 0, s => s
  | f + 1, s => if c s = 32 then skp c f (s + 1) else s
def rnn (c : Nat → Nat) (lo hi : Nat) : Nat → Nat → Nat
  | 0, s => s
  | f + 1, s => if lo ≤ c s ∧ c s ≤ hi then rnn c lo hi f (s + 1) else s
def vln (c : Nat → Nat) (m d s : Nat) : Nat → Nat
  | 0 => 0
  | k + 1 => vln c m d s k * m + (c (s + k) - d)
abbrev Tk : Type := Nat × Nat × Nat × Nat
/-- a token: kind (0 none, 1 end, 2 word, 3 whole, 4 break, 5 plus, 6 minus), place, value, where the next one is looked for -/
def tok (c : Nat → Nat) (n s : Nat) : Tk :=
  if c (skp c (n - s) s) = 256 then (1, skp c (n - s) s, 0, skp c (n - s) s)
  else if 97 ≤ c (skp c (n - s) s) ∧ c (skp c (n - s) s) ≤ 122 then (if rnn c 97 122 (n - skp c (n - s) s) (skp c (n - s) s) - skp c (n - s) s ≤ 5 then 2 else 0, skp c (n - s) s, vln c 256 0 (skp c (n - s) s) (min (rnn c 97 122 (n - skp c (n - s) s) (skp c (n - s) s) - skp c (n - s) s) 5), rnn c 97 122 (n - skp c (n - s) s) (skp c (n - s) s))
  else if 48 ≤ c (skp c (n - s) s) ∧ c (skp c (n - s) s) ≤ 57 then (if rnn c 48 57 (n - skp c (n - s) s) (skp c (n - s) s) - skp c (n - s) s ≤ 4 then 3 else 0, skp c (n - s) s, vln c 10 48 (skp c (n - s) s) (min (rnn c 48 57 (n - skp c (n - s) s) (skp c (n - s) s) - skp c (n - s) s) 4), rnn c 48 57 (n - skp c (n - s) s) (skp c (n - s) s))
  else (if c (skp c (n - s) s) = 59 then 4 else if c (skp c (n - s) s) = 43 then 5 else if c (skp c (n - s) s) = 45 then 6 else 0, skp c (n - s) s, 0, skp c (n - s) s + 1)
/-- what can be seen: codes, 256 behind the end -/
def cds (c : Nat → Nat) (n : Nat) : Prop := n ≤ 700 ∧ ∀ k, (k < n → c k < 256) ∧ (n ≤ k → c k = 256)
theorem skp_s {c : Nat → Nat} {n s : Nat} (hc : cds c n) (hs : s ≤ n) : s ≤ skp c (n - s) s ∧ skp c (n - s) s ≤ n ∧ (c s ≠ 32 → skp c (n - s) s = s) ∧ (c s = 32 → s < n ∧ skp c (n - s) s = skp c (n - (s + 1)) (s + 1)) := by
  have key : ∀ f s, s + f = n → s ≤ skp c f s ∧ skp c f s ≤ n := by
    intro f
    induction f with
    | zero => intro s h; exact ⟨Nat.le_refl _, by show s ≤ n; omega⟩
    | succ f ih =>
      intro s h
      show s ≤ (if c s = 32 then skp c f (s + 1) else s) ∧ (if c s = 32 then skp c f (s + 1) else s) ≤ n
      by_cases w : c s = 32
      · rw [if_pos w]
        have := ih (s + 1) (by omega)
        omega
      · rw [if_neg w]; omega
  obtain ⟨k1, k2⟩ := key (n - s) s (by omega)
  refine ⟨k1, k2, fun w => ?_, fun w => ?_⟩
  · cases h : n - s with
    | zero => rfl
    | succ f => exact if_neg w
  · have hn : s < n := Classical.byContradiction fun q => by
      have := (hc.2 s).2 (by omega)
      omega
    refine ⟨hn, ?_⟩
    rw [show n - s = (n - (s + 1)) + 1 by omega]
    exact if_pos w
theorem rnn_s {c : Nat → Nat} {lo hi n s : Nat} (hc : cds c n) (hhi : hi < 256) (hs : s ≤ n) : s ≤ rnn c lo hi (n - s) s ∧ rnn c lo hi (n - s) s ≤ n ∧ (¬ (lo ≤ c s ∧ c s ≤ hi) → rnn c lo hi (n - s) s = s) ∧ (lo ≤ c s ∧ c s ≤ hi → s < n ∧ rnn c lo hi (n - s) s = rnn c lo hi (n - (s + 1)) (s + 1)) := by
  have key : ∀ f s, s + f = n → s ≤ rnn c lo hi f s ∧ rnn c lo hi f s ≤ n := by
    intro f
    induction f with
    | zero => intro s h; exact ⟨Nat.le_refl _, by show s ≤ n; omega⟩
    | succ f ih =>
      intro s h
      show s ≤ (if lo ≤ c s ∧ c s ≤ hi then rnn c lo hi f (s + 1) else s) ∧ (if lo ≤ c s ∧ c s ≤ hi then rnn c lo hi f (s + 1) else s) ≤ n
      by_cases w : lo ≤ c s ∧ c s ≤ hi
      · rw [if_pos w]
        have := ih (s + 1) (by omega)
        omega
      · rw [if_neg w]; omega
  obtain ⟨k1, k2⟩ := key (n - s) s (by omega)
  refine ⟨k1, k2, fun w => ?_, fun w => ?_⟩
  · cases h : n - s with
    | zero => rfl
    | succ f => exact if_neg w
  · have hn : s < n := Classical.byContradiction fun q => by
      have := (hc.2 s).2 (by omega)
      omega
    refine ⟨hn, ?_⟩
    rw [show n - s = (n - (s + 1)) + 1 by omega]
    exact if_pos w
theorem rnn_in {c : Nat → Nat} {lo hi n s : Nat} (hc : cds c n) (hhi : hi < 256) (hs : s ≤ n) : ∀ k, s ≤ k → k < rnn c lo hi (n - s) s → lo ≤ c k ∧ c k ≤ hi := by
  have key : ∀ f s, s + f = n → ∀ k, s ≤ k → k < rnn c lo hi f s → lo ≤ c k ∧ c k ≤ hi := by
    intro f
    induction f with
    | zero => intro s h k h1 h2; have h2 : k < s := h2; omega
    | succ f ih =>
      intro s h k h1 h2
      have h2 : k < (if lo ≤ c s ∧ c s ≤ hi then rnn c lo hi f (s + 1) else s) := h2
      by_cases w : lo ≤ c s ∧ c s ≤ hi
      · rw [if_pos w] at h2
        by_cases e : k = s
        · rw [e]; exact w
        · exact ih (s + 1) (by omega) k (by omega) h2
      · rw [if_neg w] at h2; omega
  exact key (n - s) s (by omega)
abbrev Cu : Type := Sum (Nat × Nat) Tk
def cN (c : Nat → Nat) (n : Nat) : Cu → Cu
  | .inl e => .inl e
  | .inr t => .inr (tok c n t.2.2.2)
def cF (e : Nat) : Cu → Cu
  | .inl q => .inl q
  | .inr t => .inl (e, t.2.1)
def cK : Cu → Nat
  | .inl _ => 0
  | .inr t => t.1
def cV : Cu → Nat
  | .inl _ => 0
  | .inr t => t.2.2.1
/-- a word's number -/
def wdv : List Nat → Nat := fun l => l.foldl (fun v x => v * 256 + x) 0
def wds (i : Nat) : Nat := wdv ((sby.getD i []).map (fun x => x.toNatClampNeg))
def cIs (i : Nat) (x : Cu) : Bool := decide (cK x = 2 ∧ cV x = wds i)
def cUn (x : Cu) : Option Nat := if cIs 0 x then some 0 else if cIs 1 x then some 1 else if cIs 2 x then some 2 else none
def cNd (c : Nat → Nat) (n i : Nat) (x : Cu) : Cu := cN c n (if cIs i x then x else cF 1 x)
def cRu (c : Nat → Nat) (n : Nat) (a b : Option Nat) (x : Cu) : Cu := cN c n (match cUn x with | none => cF 1 x | some u => if a = some u ∨ b = some u then cF 3 x else x)
/-- what is read: prime (0: none yet), how, first, second, polys, tables -/
abbrev PS : Type := Nat × Nat × Nat × Nat × Nat × (Nat → Nat → Nat)
def cHw (x : Cu) : Option Nat := if cIs 7 x then some 0 else if cIs 8 x then some 1 else if cIs 9 x then some 2 else none
def rg1 (c : Nat → Nat) (n : Nat) (ps : PS) (x : Cu) : Cu := cNd c n 5 (cN c n (if 0 < ps.1 then cF 3 x else x))
def rg2 (x : Cu) : Cu := if cK x = 3 then (if prb (cV x) ∧ cV x ≤ 97 then x else cF 2 x) else cF 1 x
def rg3 (c : Nat → Nat) (n : Nat) (x : Cu) : Cu := cNd c n 6 (cN c n x)
def rg4 (c : Nat → Nat) (n : Nat) (x : Cu) : Cu := cN c n (match cHw x with | none => cF 1 x | some _ => x)
def pRg (c : Nat → Nat) (n : Nat) (ps : PS) (x : Cu) : Cu × PS :=
  let x2 := rg2 (rg1 c n ps x)
  let x3 := rg3 c n x2
  let x4 := rg4 c n x3
  let x5 := cRu c n none none x4
  let x6 := cRu c n (cUn x4) none x5
  let x7 := cRu c n (cUn x4) (cUn x5) x6
  (x7, (cV x2, (cHw x3).getD 0, (cUn x4).getD 0, (cUn x5).getD 0, ps.2.2.2.2.1, ps.2.2.2.2.2))
/-- the unknowns of a term, with their exponents -/
def pTl (c : Nat → Nat) (n : Nat) : Nat → Nat → Nat → Cu → Cu × Nat
  | 0, _, key, x => (x, key)
  | f + 1, told, key, x =>
    match x with
    | .inl e => (.inl e, key)
    | .inr t =>
      match cUn (.inr t) with
      | none => (.inr t, key)
      | some u =>
        if told / 2 ^ u % 2 = 1 then (cF 3 (.inr t), key)
        else
          let y := cN c n (.inr t)
          if cK y = 3 then (if 1 ≤ cV y ∧ cV y ≤ 15 then pTl c n f (told + 2 ^ u) (key + cV y * 16 ^ u) (cN c n y) else (cF 4 y, key))
          else pTl c n f (told + 2 ^ u) (key + 16 ^ u) y
def tbs (p : Nat) (tb : Nat → Nat → Nat) (i key : Nat) (less : Bool) (k : Nat) : Nat → Nat → Nat := fun j m => if j = i ∧ m = key then (tb j m + (if less then p - k % p else k % p)) % p else tb j m
def pTm (c : Nat → Nat) (n : Nat) (less : Bool) (ps : PS) (x : Cu) : Cu × PS :=
  let co := if cK x = 3 then cV x else 1
  let y := if cK x = 3 then cN c n x else if cUn x = none then cF 1 x else x
  let z := pTl c n 4 0 0 y
  match z.1 with
  | .inl e => (.inl e, ps)
  | .inr t => (.inr t, (ps.1, ps.2.1, ps.2.2.1, ps.2.2.2.1, ps.2.2.2.2.1, tbs ps.1 ps.2.2.2.2.2 ps.2.2.2.2.1 z.2 less co))
def psN (ps : PS) : PS := (ps.1, ps.2.1, ps.2.2.1, ps.2.2.2.1, ps.2.2.2.2.1 + 1, ps.2.2.2.2.2)
def pPl (c : Nat → Nat) (n : Nat) : Nat → Nat → PS → Cu → Cu × PS
  | 0, _, ps, x => (x, ps)
  | f + 1, m, ps, x =>
    match x with
    | .inl e => (.inl e, ps)
    | .inr t =>
      if t.1 = 5 ∨ t.1 = 6 then
        (if m = 12 then (cF 5 (.inr t), ps)
         else pPl c n f (m + 1) (pTm c n (decide (t.1 = 6)) ps (cN c n (.inr t))).2 (pTm c n (decide (t.1 = 6)) ps (cN c n (.inr t))).1)
      else (.inr t, psN ps)
def pPy (c : Nat → Nat) (n : Nat) (ps : PS) (x : Cu) : Cu × PS :=
  let x1 := if ps.2.2.2.2.1 = 6 then cF 5 x else x
  let x2 := if ps.1 = 0 then cF 6 x1 else x1
  let x3 := cN c n x2
  let x4 := if cK x3 = 6 then cN c n x3 else x3
  let y := pTm c n (decide (cK x3 = 6)) ps x4
  pPl c n 12 1 y.2 y.1
def pLn (c : Nat → Nat) (n : Nat) (ps : PS) (x : Cu) : Cu × PS := if cIs 3 x then pRg c n ps x else if cIs 4 x then pPy c n ps x else (cF 1 x, ps)
def pAl (c : Nat → Nat) (n : Nat) : Nat → PS → Cu → Cu × PS
  | 0, ps, x => (x, ps)
  | f + 1, ps, x =>
    if cK x = 4 then pAl c n f (pLn c n ps (cN c n x)).2 (pLn c n ps (cN c n x)).1
    else
      let x1 := if cK x = 1 then x else cF 1 x
      (match x1 with | .inl e => .inl e | .inr t => if ps.1 = 0 then cF 6 (.inr t) else .inr t, ps)
def ps0 : PS := (0, 0, 0, 0, 0, fun _ _ => 0)
/-- a whole text -/
def pTx (c : Nat → Nat) (n : Nat) : Cu × PS := pAl c n 702 (pLn c n ps0 (.inr (tok c n 0))).2 (pLn c n ps0 (.inr (tok c n 0))).1
/-! long numbers -/
theorem l_nat (v : Nat) : (Int64.ofNat v).toBitVec = BitVec.ofNat 64 v := rfl
theorem l_x {x : Nat} (hx : x < 256) : (nI x).toInt64 = Int64.ofNat x := by
  have : ∀ x, x < 256 → (nI x).toInt64 = Int64.ofNat x := by decide
  exact this x hx
theorem l_step {v x : Nat} (hv : v < 2 ^ 40) (hx : x < 256) : (Int64.ofNat v <<< ((8 : Int32).toInt64 &&& 63)) ||| (nI x).toInt64 = Int64.ofNat (v * 256 + x) := by
  rw [l_x hx]
  apply Int64.toBitVec_inj.1
  rw [Int64.toBitVec_or]
  have e1 : (Int64.ofNat v <<< ((8 : Int32).toInt64 &&& 63)).toBitVec = BitVec.ofNat 64 v <<< 8 := rfl
  rw [e1, l_nat, l_nat]
  apply BitVec.eq_of_toNat_eq
  rw [BitVec.toNat_or, BitVec.toNat_shiftLeft, BitVec.toNat_ofNat, BitVec.toNat_ofNat, BitVec.toNat_ofNat, Nat.mod_eq_of_lt (show v < 2 ^ 64 by omega), Nat.mod_eq_of_lt (show x < 2 ^ 64 by omega), Nat.shiftLeft_eq, Nat.mod_eq_of_lt (show v * 2 ^ 8 < 2 ^ 64 by omega), Nat.mod_eq_of_lt (show v * 256 + x < 2 ^ 64 by omega), Nat.or_comm, n_or_add (show x < 2 ^ 8 by omega)]
  omega
theorem l_inj {v w : Nat} (hv : v < 2 ^ 63) (hw : w < 2 ^ 63) : Int64.ofNat v = Int64.ofNat w ↔ v = w := by
  constructor
  · intro h
    have h1 := congrArg (fun z : Int64 => z.toBitVec.toNat) h
    have h1 : (BitVec.ofNat 64 v).toNat = (BitVec.ofNat 64 w).toNat := h1
    rw [BitVec.toNat_ofNat, BitVec.toNat_ofNat, Nat.mod_eq_of_lt (by omega), Nat.mod_eq_of_lt (by omega)] at h1
    exact h1
  · intro h; rw [h]
theorem l_cmp {a b : Int64} : lg_cmp a b = 0 ↔ a = b := by
  unfold lg_cmp
  by_cases h1 : a > b
  · rw [if_pos h1]
    refine ⟨fun w => absurd w (by decide), fun w => ?_⟩
    rw [w] at h1
    exact absurd h1 (Int64.lt_irrefl)
  · rw [if_neg h1]
    by_cases h2 : a = b
    · rw [if_pos h2]; exact ⟨fun _ => h2, fun _ => rfl⟩
    · rw [if_neg h2]; exact ⟨fun w => absurd w (by decide), fun w => absurd w h2⟩
