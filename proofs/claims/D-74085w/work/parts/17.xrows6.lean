set_option maxRecDepth 100000
theorem fw11_14r (em b : Nat) (T : XT) (k v : Nat) : fs11 em b (xwr T k 14 (some v)) k = (fs11 em b T k).set 14 (.ref (b + v)) := by simp [fs11, xwr, xi, xr, va_up, xwd]
theorem fw11_14s (em b : Nat) (T : XT) (k : Nat) : fs11 em b (xwi (xwr T k 14 none) k 14 1) k = (fs11 em b T k).set 14 (.ref em) := by simp [fs11, xwr, xwi, xi, xr, va_up, xwd, upd]
/-- what is known where a Refused leaves a method -/
def xXC (G : XG) (b : Nat) (hole : Nat → Prop) (K : XK) (mc ms : Nat) (xp : XT → XK → Prop) : String → Addr → State → State → Prop := fun E q st t => E = "TermDesk$Refused" ∧ q = b + 81 ∧ (∃ (T1 : XT) (K1 : XK), xp T1 K1 ∧ kle K K1 ∧ kc K1 = kc K + mc ∧ ks K1 = ks K + ms ∧ xW G b hole K1 T1 t.heap ∧ va_K G.1 xcl (xKt G) t) ∧ va_F (xA b hole) st t
section XR6
variable {p : Program} {l : Launch} {e : Env} {R : Room} {s : State} {m : MethodId} {args : Array Value} {below : List Frame} {meth : Method} {c : Code} {H H0 : Heap} {locs : List Loc} {cells slots : Nat} {Q : State → Prop}
variable {cc : ByteArray} {pc : Nat} {ls : Array Slot} {rest : List Value} {G : XG} {b : Nat} {hole : Nat → Prop} {K : XK} {T : XT}
theorem x_sS (hV : xV G b s H0) (hS : va_S (xA b hole) H0 H locs) : va_S (sA (gz G)) H0 H locs := hS.mono (fun q h => Nat.le_trans hV.2.2.2.2 h.1)
theorem xs_ne (hV : xV G b s H0) {i k : Nat} (hi : i < 22) : ¬ b + k = (gad G).1 i := by
  obtain ⟨cell, h1, h2, h3, h4⟩ := (hV.2.2.2.1.1 i hi).1
  have h5 : (gad G).1 i < gz G := Nat.not_le.mp h4
  have := hV.2.2.2.2
  omega
theorem xs_recv (hV : xV G b s s.heap) (hS : va_S (xA b hole) s.heap H locs) {i : Nat} (hi : i < 22) : ∃ cell : Cell, H[(gad G).1 i]? = some cell ∧ cell.vm.isStatics = false ∧ s.vm.findClass "java/lang/String" = some cell.cls := by
  obtain ⟨cell, h1, h2, h3, -⟩ := (hV.2.2.2.1.1 i hi).1.kept (x_sS hV hS).2.1
  exact ⟨cell, h1, h2, h3⟩
theorem x_somew {em : Nat} {r : Option Nat} {f : Int32} {v : Nat} (e9 : r = some v) (k : W p l e R s m args below meth c H locs cells slots Q (F0 m pc ls (.ref (b + v) :: rest))) : W p l e R s m args below meth c H locs cells slots Q (F0 m pc ls (xwd em b r f :: rest)) := by
  subst e9
  exact k
theorem x_cast6 (hx : p.tables.exec = Jvm.exec) (hb : c.code = cc) {own : String} {index : Nat} (hown : s.vm.findClass own = some m.cls) (hts : ∀ w ∈ lw_all, w.before args s = true) (hlink : (Cond.classLink own index "[B") ∈ lw_all) (hK : va_K G.1 xcl (xKt G) s) (hP : xW G b hole K T H) {k : Nat} (hk : kd K k = 6) (hdg : decode cc pc = .ok (.checkcast index, 3))
    (kk : W p l e R s m args below meth c H locs cells slots Q (F0 m (pc + 3) ls (.ref (b + k) :: rest))) : W p l e R s m args below meth c H locs cells slots Q (F0 m pc ls (.ref (b + k) :: rest)) := by
  have hnm : s.vm.findClass "[B" = some (G.2.1 6) := (hK.2 1 _ rfl).2
  exact va_castA (D := G.1) (cl := xcl) (cA := G.2.1 6) hx hb hown (hts _ hlink) (x_PI hP hk (by decide) (by decide) (xE_6 hk)) 0 rfl hnm hdg kk
theorem x_wrong (hK : va_K G.1 xcl (xKt G) s) (hP : xW G b hole K T H) : ∃ ce : Cell, H[b + 81]? = some ce ∧ ce.vm = .none ∧ s.vm.findClass "TermDesk$Refused" = some ce.cls := by
  have hk := xs_81 hP
  obtain ⟨r, h1, cell, q1, q2, q3, q4⟩ := x_P1 hP (by rw [hk]; decide) (by rw [hk]; decide) (xE_12 hk) 0 _ rfl
  have hr0 : r = (RX5, TR5, 2) := Option.some.inj (h1.symm.trans rfl)
  subst hr0
  obtain ⟨hS, hfc, kC, hkC, hkind⟩ := hK.1 4 _ rfl
  exact ⟨cell, q1, q3, by rw [q2]; exact hfc⟩
variable {Qc : Array Value → State → Outcome → State → Prop}
/-- the Refused leaves -/
theorem x_out {mc ms : Nat} {xp : XT → XK → Prop} {K0 K1 : XK} {pc0 : Nat} (hout : ∀ x ∈ c.exceptionTable.toList, covers x pc0 = false) (hlocks : meth.locks = false) (hK : va_K G.1 xcl (xKt G) s) (hP : xW G b hole K1 T H) (hS : va_S (xA b hole) s.heap H locs) (hle : kle K0 K1) (h : xp T K1) (hc1 : kc K1 = kc K0 + mc) (hs1 : ks K1 = ks K0 + ms) (hc : cells ≤ mc) (hs : slots ≤ ms) :
    vx_W p l e R s m args below meth c H locs cells slots (vx_MQ below Qc (xXC G b hole K0 mc ms xp) args s mc ms (xA b hole)) (F0 m pc0 ls rest) (b + 81) := by
  obtain ⟨ce, h1, h2, h3⟩ := x_wrong hK hP
  exact vx_out hout hlocks h1 h2 h3 (fun t ht hA => ⟨rfl, rfl, ⟨T, K1, h, hle, hc1, hs1, by rw [ht]; exact hP, va_K.moved hA hK⟩, hS.F ht⟩) hS.2.2 hc hs
theorem x_runX {ρ : Type} {enc : ρ → Option Value} {post : ρ → XT → XK → Prop} {xp : XT → XK → Prop} {mc ms : Nat} {a : Array Value} {st0 : List Value} (hr : vx_Run p l e R s m args below meth c H locs cells slots mc ms (F0 m pc ls st0) rest (xQ G b hole K mc ms enc post a) (xXC G b hole K mc ms xp) (xA b hole)) (hS : va_S (xA b hole) H0 H locs)
    (kk : ∀ (r : ρ) (T1 : XT) (K1 : XK) (H1 : Heap) (locs1 : List Loc), post r T1 K1 → kle K K1 → kc K1 = kc K + mc → ks K1 = ks K + ms → xW G b hole K1 T1 H1 → va_S (xA b hole) H0 H1 locs1 → W p l e R s m args below meth c H1 locs1 (cells + mc) (slots + ms) Q (F0 m (pc + 3) ls ((enc r).toList ++ rest)))
    (kx : ∀ (T1 : XT) (K1 : XK) (H1 : Heap) (locs1 : List Loc), xp T1 K1 → kle K K1 → kc K1 = kc K + mc → ks K1 = ks K + ms → xW G b hole K1 T1 H1 → va_S (xA b hole) H0 H1 locs1 → vx_W p l e R s m args below meth c H1 locs1 (cells + mc) (slots + ms) Q (F0 m pc ls rest) (b + 81)) : W p l e R s m args below meth c H locs cells slots Q (F0 m pc ls st0) := by
  intro U hU X
  rcases hr U hU X with ⟨v, st₀, t, U', L, h0, X', hL, e1, e2, ⟨⟨r, T1, K1, hv, hp, hle, hc, hs, hW1, hK1⟩, hz, hk⟩, st⟩ | ⟨q, st₀, t, U', L, E, ce, h0, X', hL, e1, e2, ⟨hE, hq, ⟨T1, K1, hp, hle, hc, hs, hW1, hK1⟩, hz, hk⟩, hce, hcv, hcl, st⟩
  · cases hv
    rw [h0] at hz hk
    obtain ⟨t2, a1, b1⟩ := kk r T1 K1 U'.heap (locs ++ L) hp hle hc hs (by rw [e1]; exact hW1)
      ⟨Nat.le_trans hS.1 (by rw [e1]; exact hz), fun q h1 h2 => by rw [e1, hk q (Nat.lt_of_lt_of_le h1 hS.1) h2]; exact hS.2.1 q h1 h2, fun q hq => by
        rcases List.mem_append.mp hq with h | h
        · exact hS.2.2 q h
        · exact hL q h⟩ U' rfl X'
    exact ⟨t2, st t2 a1, b1⟩
  · rw [h0] at hz hk
    subst hq
    obtain ⟨t2, a1, b1⟩ := kx T1 K1 U'.heap (locs ++ L) hp hle hc hs (by rw [e1]; exact hW1)
      ⟨Nat.le_trans hS.1 (by rw [e1]; exact hz), fun q h1 h2 => by rw [e1, hk q (Nat.lt_of_lt_of_le h1 hS.1) h2]; exact hS.2.1 q h1 h2, fun q hq => by
        rcases List.mem_append.mp hq with h | h
        · exact hS.2.2 q h
        · exact hL q h⟩ U' rfl X'
    exact ⟨t2, st.trans a1, b1⟩
variable {y : MethodName} {bytes : ByteArray} {maxL nL index n mc ms : Nat} {ret : Option FieldType} {rm : Room} {own CC host : String} {As st0 : List Value} {ρ : Type} {enc : ρ → Option Value} {post : ρ → XT → XK → Prop} {k : Nat} {xp : XT → XK → Prop}
theorem x_cVX (F : CallFix p m c cc nL s args lw_all own) (hM : vx_Met l y (ws_ y bytes maxL ret) rm (xPc G b hole (.ref (b + k) :: As) K T) (xQ G b hole K mc ms enc post) (xXC G b hole K mc ms xp) mc ms (xA b hole)) (cw : CallW R s args own CC index y bytes maxL ret (ws_ y bytes maxL ret) rm mc ms n) (hrc : ∃ cellB : Cell, H[b + k]? = some cellB ∧ cellB.vm.isStatics = false ∧ s.vm.findClass CC = some cellB.cls)
    (hK : va_K G.1 xcl (xKt G) s) (hV : xV G b s H0) (hb0 : b ≤ H0.size) (hP : xW G b hole K T H) (hS : va_S (xA b hole) H0 H locs) (hn : As.length = n) (hsize : ls.size = nL) (hstack : st0 = As.reverse ++ .ref (b + k) :: rest) (hW : (rest.map fun v => v.category).sum ≤ 8) (hdg : decode cc pc = .ok (.invokevirtual index, 3)) (hf : cells + mc ≤ R.cells ∧ slots + ms ≤ R.slots)
    (kk : ∀ (r : ρ) (T1 : XT) (K1 : XK) (H1 : Heap) (locs1 : List Loc), post r T1 K1 → kle K K1 → kc K1 = kc K + mc → ks K1 = ks K + ms → xW G b hole K1 T1 H1 → va_S (xA b hole) H0 H1 locs1 → W p l e R s m args below meth c H1 locs1 (cells + mc) (slots + ms) Q (F0 m (pc + 3) ls ((enc r).toList ++ rest)))
    (kx : ∀ (T1 : XT) (K1 : XK) (H1 : Heap) (locs1 : List Loc), xp T1 K1 → kle K K1 → kc K1 = kc K + mc → ks K1 = ks K + ms → xW G b hole K1 T1 H1 → va_S (xA b hole) H0 H1 locs1 → vx_W p l e R s m args below meth c H1 locs1 (cells + mc) (slots + ms) Q (F0 m pc ls rest) (b + 81)) : W p l e R s m args below meth c H locs cells slots Q (F0 m pc ls st0) :=
  x_runX (vx_runV (As := As) (rest := rest) F hM cw ⟨x_blind, hrc, fun U hU hW => ⟨rfl, by rw [hU]; exact hP, va_K.moved hW.alike hK, x_env hV hb0 hS hU hW⟩⟩ rfl hn hsize hstack (lv_room hW) hdg hf) hS kk kx
end XR6
