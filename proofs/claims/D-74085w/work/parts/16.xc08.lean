set_option maxRecDepth 100000
theorem cwx_X1_common_2 : yX1_common_2.cls = RX1 ∧ yX1_common_2.cls ≠ "java/lang/invoke/MethodHandle" ∧ yX1_common_2.cls ≠ "java/lang/invoke/VarHandle" ∧ (parseMethodDescriptor yX1_common_2.desc).map (fun d => d.parameters.length) = some 2 := by decide +kernel
def wx1_common_2_j14 (p1 : Nat) (p2 : Nat) (Z Y : Nat) (post : Nat → XT → XK → Prop)  (K : XK) (T : XT) : Prop :=
    wx6_isZero p1 K T (fun r_1 =>
    ((r_1 = 0 →
      ∃ Z_7 Y_8 : Nat, kc K ≤ Z_7 ∧ Z_7 ≤ Z ∧ ks K ≤ Y_8 ∧ Y_8 ≤ Y ∧ wx1_monic p1 K T Z_7 Y_8 (fun r_4 T_5 K_6 =>
      post r_4 T_5 (kset K_6 Z Y))) ∧
     (¬ (r_1 = 0) →
      ∃ Z_12 Y_13 : Nat, kc K ≤ Z_12 ∧ Z_12 ≤ Z ∧ ks K ≤ Y_13 ∧ Y_13 ≤ Y ∧ wx1_monic p2 K T Z_12 Y_13 (fun r_9 T_10 K_11 =>
      post r_9 T_10 (kset K_11 Z Y)))))
def wx1_common_2_j379 (p1 : Nat) (p2 : Nat) (Z Y : Nat) (post : Nat → XT → XK → Prop) (x8 : Nat) (K : XK) (T : XT) : Prop :=
    ∃ Z_18 Y_19 : Nat, kc K ≤ Z_18 ∧ Z_18 ≤ Z ∧ ks K ≤ Y_19 ∧ Y_19 ≤ Y ∧ wx1_sorted x8 K T Z_18 Y_19 (fun r_15 T_16 K_17 =>
    ∃ Z_23 Y_24 : Nat, kc K_17 ≤ Z_23 ∧ Z_23 ≤ Z ∧ ks K_17 ≤ Y_24 ∧ Y_24 ≤ Y ∧ wx1_monic r_15 K_17 T_16 Z_23 Y_24 (fun r_20 T_21 K_22 =>
    post r_20 T_21 (kset K_22 Z Y)))
def wx1_common_2_j361 (p1 : Nat) (p2 : Nat) (Z Y : Nat) (post : Nat → XT → XK → Prop) (R240 : Int32 → XT → Prop) (R285 : Int32 → XT → Prop) (R295 : Int32 → XT → Prop) (x5 : Int32) (x6 : Nat) (x8 : Nat) (x9 : Int32) (x10 : Int32) (x11 : Int32) (x12 : Int32) (x13 : Int32) (K : XK) (T : XT) : Prop :=
                ∀ x13_25 : Int32, x13_25 = x13 + 1 →
                R295 x13_25 T
def wx1_common_2_b295 (p1 : Nat) (p2 : Nat) (Z Y : Nat) (post : Nat → XT → XK → Prop) (R240 : Int32 → XT → Prop) (R285 : Int32 → XT → Prop) (R295 : Int32 → XT → Prop) (x5 : Int32) (x6 : Nat) (x8 : Nat) (x9 : Int32) (x10 : Int32) (x11 : Int32) (x12 : Int32) (x13 : Int32) (K : XK) (T : XT) : Prop :=
              ((x9 < x13 →
                ∀ x12_26 : Int32, x12_26 = x12 + 1 →
                R285 x12_26 T) ∧
               (¬ (x9 < x13) →
                wx1_packed x10 (x12 + x13) 0 K T (fun r_27 =>
                wx1_packed x10 (x12 + x13) 0 K T (fun r_30 =>
                ∃ j_33 : Nat, j_33 < kl K x8 ∧ r_30 = nI j_33 ∧
                ((x5 = 0 →
                  ∃ v_34 : Nat, xr T 0 9 = some v_34 ∧
                  ∃ j_35 : Nat, j_35 < kl K v_34 ∧ x10 = nI j_35 ∧ ∃ v_36 : Nat, xr T v_34 j_35 = some v_36 ∧
                  ∃ j_37 : Nat, j_37 < kl K v_36 ∧ x12 = nI j_37 ∧
                  ∃ j_38 : Nat, j_38 < kl K x6 ∧ x13 = nI j_38 ∧
                  ¬ (xi T 0 0) = 0 ∧
                  ∃ j_39 : Nat, j_39 < kl K x8 ∧ r_27 = nI j_39 ∧ ∀ T_40 : XT, T_40 = xwi T x8 j_39 (jrem ((xi T x8 j_33) + ((xi T v_36 j_37) * (xi T x6 j_38))) (xi T 0 0)) →
                  wx1_common_2_j361 p1 p2 Z Y post R240 R285 R295 x5 x6 x8 x9 x10 x11 x12 x13 K T_40) ∧
                 (¬ (x5 = 0) →
                  ∃ j_41 : Nat, j_41 < kl K x6 ∧ x13 = nI j_41 ∧
                  ¬ (xi T 0 0) = 0 ∧
                  ∃ j_42 : Nat, j_42 < kl K x8 ∧ r_27 = nI j_42 ∧ ∀ T_43 : XT, T_43 = xwi T x8 j_42 (jrem ((xi T x8 j_33) + (1 * (xi T x6 j_41))) (xi T 0 0)) →
                  wx1_common_2_j361 p1 p2 Z Y post R240 R285 R295 x5 x6 x8 x9 x10 x11 x12 x13 K T_43))))))
def wx1_common_2_l295 (p1 : Nat) (p2 : Nat) (Z Y : Nat) (post : Nat → XT → XK → Prop) (R240 : Int32 → XT → Prop) (R285 : Int32 → XT → Prop) (x5 : Int32) (x6 : Nat) (x8 : Nat) (x9 : Int32) (x10 : Int32) (x11 : Int32) (x12 : Int32) (x13 : Int32) (K : XK) (T : XT) : Prop := wLoop (fun (R : ((Int32) × (XT)) → Prop) (v : (Int32) × (XT)) => wx1_common_2_b295 p1 p2 Z Y post R240 R285 (fun x13 T => R (x13, T)) x5 x6 x8 x9 x10 x11 x12 v.1 K v.2) (x13, T)
def wx1_common_2_b285 (p1 : Nat) (p2 : Nat) (Z Y : Nat) (post : Nat → XT → XK → Prop) (R240 : Int32 → XT → Prop) (R285 : Int32 → XT → Prop) (x5 : Int32) (x6 : Nat) (x8 : Nat) (x9 : Int32) (x10 : Int32) (x11 : Int32) (x12 : Int32) (K : XK) (T : XT) : Prop :=
          ((x11 < x12 →
            ∀ x10_46 : Int32, x10_46 = x10 + 1 →
            R240 x10_46 T) ∧
           (¬ (x11 < x12) →
            wx1_common_2_l295 p1 p2 Z Y post R240 R285 x5 x6 x8 x9 x10 x11 x12 0 K T))
def wx1_common_2_l285 (p1 : Nat) (p2 : Nat) (Z Y : Nat) (post : Nat → XT → XK → Prop) (R240 : Int32 → XT → Prop) (x5 : Int32) (x6 : Nat) (x8 : Nat) (x9 : Int32) (x10 : Int32) (x11 : Int32) (x12 : Int32) (K : XK) (T : XT) : Prop := wLoop (fun (R : ((Int32) × (XT)) → Prop) (v : (Int32) × (XT)) => wx1_common_2_b285 p1 p2 Z Y post R240 (fun x12 T => R (x12, T)) x5 x6 x8 x9 x10 x11 v.1 K v.2) (x12, T)
def wx1_common_2_j282 (p1 : Nat) (p2 : Nat) (Z Y : Nat) (post : Nat → XT → XK → Prop) (R240 : Int32 → XT → Prop) (x5 : Int32) (x6 : Nat) (x8 : Nat) (x9 : Int32) (x10 : Int32) (x11 : Int32) (K : XK) (T : XT) : Prop :=
        wx1_common_2_l285 p1 p2 Z Y post R240 x5 x6 x8 x9 x10 x11 0 K T
def wx1_common_2_j261 (p1 : Nat) (p2 : Nat) (Z Y : Nat) (post : Nat → XT → XK → Prop) (R240 : Int32 → XT → Prop) (x5 : Int32) (x6 : Nat) (x8 : Nat) (x9 : Int32) (x10 : Int32) (K : XK) (T : XT) : Prop :=
        ((x5 = 0 →
          ∃ v_48 : Nat, xr T 0 9 = some v_48 ∧
          ∃ j_49 : Nat, j_49 < kl K v_48 ∧ x10 = nI j_49 ∧ ∃ v_50 : Nat, xr T v_48 j_49 = some v_50 ∧
          wx1_top v_50 K T (fun r_51 =>
          wx1_common_2_j282 p1 p2 Z Y post R240 x5 x6 x8 x9 x10 r_51 K T)) ∧
         (¬ (x5 = 0) →
          wx1_common_2_j282 p1 p2 Z Y post R240 x5 x6 x8 x9 x10 0 K T))
def wx1_common_2_b240 (p1 : Nat) (p2 : Nat) (Z Y : Nat) (post : Nat → XT → XK → Prop) (R240 : Int32 → XT → Prop) (x5 : Int32) (x6 : Nat) (x8 : Nat) (x9 : Int32) (x10 : Int32) (K : XK) (T : XT) : Prop :=
      ((x5 = 0 →
        ∃ v_55 : Nat, xr T 0 9 = some v_55 ∧
        wx1_topRow v_55 K T (fun r_56 =>
        ((r_56 < x10 →
          wx1_common_2_j379 p1 p2 Z Y post x8 K T) ∧
         (¬ (r_56 < x10) →
          wx1_common_2_j261 p1 p2 Z Y post R240 x5 x6 x8 x9 x10 K T)))) ∧
       (¬ (x5 = 0) →
        ((0 < x10 →
          wx1_common_2_j379 p1 p2 Z Y post x8 K T) ∧
         (¬ (0 < x10) →
          wx1_common_2_j261 p1 p2 Z Y post R240 x5 x6 x8 x9 x10 K T))))
def wx1_common_2_l240 (p1 : Nat) (p2 : Nat) (Z Y : Nat) (post : Nat → XT → XK → Prop) (x5 : Int32) (x6 : Nat) (x8 : Nat) (x9 : Int32) (x10 : Int32) (K : XK) (T : XT) : Prop := wLoop (fun (R : ((Int32) × (XT)) → Prop) (v : (Int32) × (XT)) => wx1_common_2_b240 p1 p2 Z Y post (fun x10 T => R (x10, T)) x5 x6 x8 x9 v.1 K v.2) (x10, T)
def wx1_common_2_b193 (p1 : Nat) (p2 : Nat) (Z Y : Nat) (post : Nat → XT → XK → Prop) (R193 : Nat → Nat → XT → Prop) (x5 : Int32) (x6 : Nat) (x7 : Nat) (K : XK) (T : XT) : Prop :=
      wx1_top x7 K T (fun r_62 =>
      ((r_62 < 0 →
        wx1_blank  K T (fun r_65 T_66 =>
        wx1_top x6 K T_66 (fun r_68 =>
        wx1_common_2_l240 p1 p2 Z Y post x5 x6 r_65 r_68 0 K T_66))) ∧
       (¬ (r_62 < 0) →
        wx1_leaves_2 x6 x7 K T (fun T_72 =>
        R193 x7 x6 T_72))))
def wx1_common_2_l193 (p1 : Nat) (p2 : Nat) (Z Y : Nat) (post : Nat → XT → XK → Prop) (x5 : Int32) (x6 : Nat) (x7 : Nat) (K : XK) (T : XT) : Prop := wLoop (fun (R : ((Nat) × (Nat) × (XT)) → Prop) (v : (Nat) × (Nat) × (XT)) => wx1_common_2_b193 p1 p2 Z Y post (fun x6 x7 T => R (x6, x7, T)) x5 v.1 v.2.1 K v.2.2) (x6, x7, T)
def wx1_common_2_j139 (p1 : Nat) (p2 : Nat) (Z Y : Nat) (post : Nat → XT → XK → Prop) (x3 : Nat) (x4 : Nat) (x5 : Int32) (K : XK) (T : XT) : Prop :=
    wxJ3_fill_2 75 0 K T (fun T_76 =>
    ∃ sp_78 dp_79 n_80 : Nat, 0 = nI sp_78 ∧ 0 = nI dp_79 ∧ (nI (kl K x3)) = nI n_80 ∧ sp_78 + n_80 ≤ kl K x3 ∧ dp_79 + n_80 ≤ 2304 ∧ ∀ T_81 : XT, T_81 = xcpy T_76 x3 75 sp_78 dp_79 n_80 →
    wxJ3_fill_2 76 0 K T_81 (fun T_83 =>
    ∃ sp_85 dp_86 n_87 : Nat, 0 = nI sp_85 ∧ 0 = nI dp_86 ∧ (nI (kl K x4)) = nI n_87 ∧ sp_85 + n_87 ≤ kl K x4 ∧ dp_86 + n_87 ≤ 2304 ∧ ∀ T_88 : XT, T_88 = xcpy T_83 x4 76 sp_85 dp_86 n_87 →
    wx1_common_2_l193 p1 p2 Z Y post x5 75 76 K T_88))
def wx1_common_2_j99 (p1 : Nat) (p2 : Nat) (Z Y : Nat) (post : Nat → XT → XK → Prop) (R60 : XT → XK → Prop) (x3 : Nat) (x4 : Nat) (K : XK) (T : XT) : Prop :=
        ∃ v_89 : Nat, xr T 0 9 = some v_89 ∧
        ∃ v_90 : Nat, xr T 0 10 = some v_90 ∧
        ∀ T_91 : XT, T_91 = xwr T 0 9 (some v_90) →
        ∀ T_92 : XT, T_92 = xwr T_91 0 10 (some v_89) →
        R60 T_92 K
def wx1_common_2_b60 (p1 : Nat) (p2 : Nat) (Z Y : Nat) (post : Nat → XT → XK → Prop) (R60 : XT → XK → Prop) (x3 : Nat) (x4 : Nat)  (K : XK) (T : XT) : Prop :=
      ∃ v_93 : Nat, xr T 0 10 = some v_93 ∧
      wx1_topRow v_93 K T (fun r_94 =>
      ((r_94 ≤ 0 →
        ∃ v_97 : Nat, xr T 0 10 = some v_97 ∧
        wx1_topRow v_97 K T (fun r_98 =>
        ((¬ r_98 = 0 →
          wx1_common_2_j139 p1 p2 Z Y post x3 x4 0 K T) ∧
         (r_98 = 0 →
          wx1_common_2_j139 p1 p2 Z Y post x3 x4 1 K T)))) ∧
       (¬ (r_94 ≤ 0) →
        ∃ v_102 : Nat, xr T 0 9 = some v_102 ∧
        wx1_topRow v_102 K T (fun r_103 =>
        ∃ v_106 : Nat, xr T 0 10 = some v_106 ∧
        wx1_topRow v_106 K T (fun r_107 =>
        ((r_103 < r_107 →
          wx1_common_2_j99 p1 p2 Z Y post R60 x3 x4 K T) ∧
         (¬ (r_103 < r_107) →
          ∃ v_110 : Nat, xr T 0 9 = some v_110 ∧
          ∃ v_111 : Nat, xr T 0 10 = some v_111 ∧
          ∃ Z_115 Y_116 : Nat, kc K ≤ Z_115 ∧ Z_115 ≤ Z ∧ ks K ≤ Y_116 ∧ Y_116 ≤ Y ∧ wx1_leaves_3 v_110 v_111 K T Z_115 Y_116 (fun T_113 K_114 =>
          wx1_common_2_j99 p1 p2 Z Y post R60 x3 x4 K_114 T_113))))))))
def wx1_common_2_l60 (p1 : Nat) (p2 : Nat) (Z Y : Nat) (post : Nat → XT → XK → Prop) (x3 : Nat) (x4 : Nat)  (K : XK) (T : XT) : Prop := wLoop (fun (R : ((XT) × (XK)) → Prop) (v : (XT) × (XK)) => wx1_common_2_b60 p1 p2 Z Y post (fun T K => R (T, K)) x3 x4  v.2 v.1) (T, K)
def wx1_common_2 (p1 : Nat) (p2 : Nat) (K0 : XK) (T : XT) (Z Y : Nat) (post : Nat → XT → XK → Prop) : Prop :=
  wx6_isZero p1 K0 T (fun r_119 =>
  ((¬ r_119 = 0 →
    wx1_common_2_j14 p1 p2 Z Y post  K0 T) ∧
   (r_119 = 0 →
    wx6_isZero p2 K0 T (fun r_122 =>
    ((r_122 = 0 →
      ∃ v_125 : Nat, xr T 0 9 = some v_125 ∧
      wx1_lays_2 p1 v_125 K0 T (fun r_126 T_127 =>
      ∃ Z_132 Y_133 : Nat, kc K0 ≤ Z_132 ∧ Z_132 ≤ Z ∧ ks K0 ≤ Y_133 ∧ Y_133 ≤ Y ∧ wx1_primitive r_126 K0 T_127 Z_132 Y_133 (fun r_129 T_130 K_131 =>
      ∃ v_134 : Nat, xr T_130 0 10 = some v_134 ∧
      wx1_lays_2 p2 v_134 K_131 T_130 (fun r_135 T_136 =>
      ∃ Z_141 Y_142 : Nat, kc K_131 ≤ Z_141 ∧ Z_141 ≤ Z ∧ ks K_131 ≤ Y_142 ∧ Y_142 ≤ Y ∧ wx1_primitive r_135 K_131 T_136 Z_141 Y_142 (fun r_138 T_139 K_140 =>
      wx1_common_2_l60 p1 p2 Z Y post r_129 r_138 K_140 T_139))))) ∧
     (¬ (r_122 = 0) →
      wx1_common_2_j14 p1 p2 Z Y post  K0 T))))))
set_option maxHeartbeats 4000000 in
theorem mx1_common_2 (l : Launch) (G : XG) (b : Nat) (hole : Nat → Prop) (p1 : Nat) (p2 : Nat) (K0 : XK) (T : XT) (Z Y : Nat) (hZ : kc K0 ≤ Z) (hY : ks K0 ≤ Y) (hk_p1 : kd K0 p1 = 2) (hk_p2 : kd K0 p2 = 2) (post : Nat → XT → XK → Prop) (h : wx1_common_2 p1 p2 K0 T Z Y post) : Met l yX1_common_2 (ws_ yX1_common_2 cX1_common_2 14 (some (.object "TermDesk$Poly"))) ({ frames := 8, cells := (Z - kc K0), slots := (Y - ks K0), locals := 186 } : Room) (xPc G b hole [.ref (b + 0), .ref (b + p1), .ref (b + p2)] K0 T) (xQ G b hole K0 (Z - kc K0) (Y - ks K0) (ρ := Nat) (eR b) (fun r T1 K1 => post r T1 K1 ∧ kd K1 r = 2)) (Z - kc K0) (Y - ks K0) (xA b hole) := by
  refine Met.ofW (cc := cX1_common_2) (maxL := 14) (ret := (some (.object "TermDesk$Poly"))) (by decide) rfl ?_
  intro p e s m args below meth c s₁ B hml hv
  obtain ⟨rfl, hP, hK, hV⟩ := hv
  have hx := B.exec
  have hb := B.bytes
  have hr := B.returns
  have hts := atoms_spec (ws := ws_ yX1_common_2 cX1_common_2 14 (some (.object "TermDesk$Poly"))) B.pre
  have hts : ∀ w ∈ lw_all, w.before _ s = true := fun w h => hts w (List.mem_cons_of_mem _ h)
  have hown : s.vm.findClass RX1 = some m.cls := findClass_of_methodNamed B.named
  have hlocks := B.notSynchronized
  have hb0 : b ≤ s.heap.size := by rw [hP.2.2.2]; exact Nat.le_add_right _ _
  have hS : va_S (xA b hole) s.heap s.heap [] := va_S.rf
  have hl := lv_entry ([.ref (b + 0), .ref (b + p1), .ref (b + p2)]) (n := 14) (Nat.le_of_ble_eq_true rfl)
  rw [lg_entry_eq]
  generalize (lg_sl ([.ref (b + 0), .ref (b + p1), .ref (b + p2)]) ++ List.replicate (14 - (lg_sl ([.ref (b + 0), .ref (b + p1), .ref (b + p2)])).length) Slot.unset).toArray = ls at hl ⊢
  have hl : lv_has ls 14 [(0, .ref (b + 0)), (1, .ref (b + p1)), (2, .ref (b + p2))] := hl
  have hle0 : kle K0 K0 := kle.rf
  have J14 : ∀  (T : XT) (K : XK) (cn sn : Nat) (H : Heap) (locs : List Loc) (ls : Array Slot), wx1_common_2_j14 p1 p2 Z Y post  K T → kle K0 K → kc K0 + cn = kc K → ks K0 + sn = ks K → kc K ≤ Z → ks K ≤ Y → (kd K p1 = 2) → (kd K p2 = 2) → xW G b hole K T H → va_S (xA b hole) s.heap H locs → lv_has ls 14 [(0, .ref (b + 0)), (1, .ref (b + p1)), (2, .ref (b + p2))] → W p l e (headSpec (ws_ yX1_common_2 cX1_common_2 14 (some (.object "TermDesk$Poly"))) ({ frames := 8, cells := (Z - kc K0), slots := (Y - ks K0), locals := 186 } : Room)).room s m ([.ref (b + 0), .ref (b + p1), .ref (b + p2)] : List Value).toArray below meth c H locs cn sn (MQ below (xQ G b hole K0 (Z - kc K0) (Y - ks K0) (ρ := Nat) (eR b) (fun r T1 K1 => post r T1 K1 ∧ kd K1 r = 2)) ([.ref (b + 0), .ref (b + p1), .ref (b + p2)] : List Value).toArray s (Z - kc K0) (Y - ks K0) (xA b hole)) (F0 m 14 ls []) := by
    intro  T K cn sn H locs ls h hle0 hcn hsn hzz hyy hk_p1 hk_p2 hP hS hl
    unfold wx1_common_2_j14 at h
    refine lv_aload_n hx hb dX1_common_2_14 rfl (lv_at hl 0 rfl) ?_
    refine lv_aload_n hx hb dX1_common_2_15 rfl (lv_at hl 1 rfl) ?_
    refine x_cV (k := p1) (As := []) (rest := [.ref (b + 0)]) ⟨hx, hb, hml, hown, hts⟩ (mx6_isZero l G b hole p1 K T hk_p1 _ h) (cwV 0 hts (lw_V q785 q786 q787 q126 q788) rfl rfl rfl cwx_X6_isZero ⟨Nat.le_of_ble_eq_true rfl, Nat.le_of_ble_eq_true rfl⟩) (x_recv (CC := RX6) (ci := 5) hK hP hk_p1 (by decide) (by decide) rfl (xE_2 hk_p1)) hK hV hb0 hP hS rfl hl.1 rfl (Nat.le_of_ble_eq_true rfl) dX1_common_2_16 ⟨by first | exact Nat.zero_le _ | (show _ + _ ≤ Z - kc K0; omega), by first | exact Nat.zero_le _ | (show _ + _ ≤ Y - ks K0; omega)⟩ (fun r_1 T1 K1 H locs h hle1 hc1 hs1 hP hS => ?_)
    obtain ⟨h, hTe, hKe⟩ := h
    rw [hTe, hKe] at hP
    refine lv_if_eq (tgt := 26) hx hb dX1_common_2_19 (by decide) (fun c_14 => ?_) (fun c_14 => ?_)
    · have h := h.1 c_14
      refine lv_aload_n hx hb dX1_common_2_26 rfl (lv_at hl 1 rfl) ?_
      obtain ⟨Z_7, Y_8, hz1, hz2, hy1, hy2, h⟩ := h
      refine x_cV (k := 0) (As := [.ref (b + p1)]) (rest := []) ⟨hx, hb, hml, hown, hts⟩ (mx1_monic l G b hole p1 K T Z_7 Y_8 hz1 hy1 hk_p1 _ h) (cwV 1 hts (lw_V q957 q959 qs40 q118 q960) rfl rfl rfl cwx_X1_monic ⟨Nat.le_of_ble_eq_true rfl, Nat.le_of_ble_eq_true rfl⟩) (x_recv (CC := RX1) (ci := 0) hK hP (xs_0 hP) (by decide) (by decide) rfl (xE_8 (xs_0 hP))) hK hV hb0 hP hS rfl hl.1 rfl (Nat.le_of_ble_eq_true rfl) dX1_common_2_27 ⟨by first | exact Nat.zero_le _ | (show _ + _ ≤ Z - kc K0; omega), by first | exact Nat.zero_le _ | (show _ + _ ≤ Y - ks K0; omega)⟩ (fun r_4 T1 K1 H locs h hle1 hc1 hs1 hP hS => ?_)
      obtain ⟨h, hk_r_4⟩ := h
      generalize T1 = T_5 at h hP
      generalize K1 = K_6 at h hP hle1 hc1 hs1 hk_r_4
      have hk_p1 : kd K_6 p1 = 2 := hle1.kd hk_p1
      have hk_p2 : kd K_6 p2 = 2 := hle1.kd hk_p2
      have hle0 := hle0.tr hle1
      have hcn : kc K0 + (cn + (Z_7 - kc K)) = kc K_6 := by omega
      have hsn : ks K0 + (sn + (Y_8 - ks K)) = ks K_6 := by omega
      have hzz : kc K_6 ≤ Z := by omega
      have hyy : ks K_6 ≤ Y := by omega
      refine W.widen (k := Z - kc K0) (n := Y - ks K0) (by omega) (by omega) ?_
      exact W.aret (v := .ref (b + r_4)) hx hb hr (Or.inl ⟨_, rfl⟩) (Or.inr ⟨_, rfl⟩) (fun t ht hW => ⟨⟨r_4, T_5, (kset K_6 Z Y), rfl, ⟨h, hk_r_4⟩, hle0, (by show Z = _; omega), (by show Y = _; omega), by rw [ht]; exact hP, va_K.moved hW.alike hK⟩, hS.F ht⟩) hS.2.2 dX1_common_2_30
    · have h := h.2 c_14
      refine lv_aload_n hx hb dX1_common_2_22 rfl (lv_at hl 2 rfl) ?_
      refine lv_goto (tgt := 27) hx hb dX1_common_2_23 (by decide) ?_
      obtain ⟨Z_12, Y_13, hz1, hz2, hy1, hy2, h⟩ := h
      refine x_cV (k := 0) (As := [.ref (b + p2)]) (rest := []) ⟨hx, hb, hml, hown, hts⟩ (mx1_monic l G b hole p2 K T Z_12 Y_13 hz1 hy1 hk_p2 _ h) (cwV 1 hts (lw_V q957 q959 qs40 q118 q960) rfl rfl rfl cwx_X1_monic ⟨Nat.le_of_ble_eq_true rfl, Nat.le_of_ble_eq_true rfl⟩) (x_recv (CC := RX1) (ci := 0) hK hP (xs_0 hP) (by decide) (by decide) rfl (xE_8 (xs_0 hP))) hK hV hb0 hP hS rfl hl.1 rfl (Nat.le_of_ble_eq_true rfl) dX1_common_2_27 ⟨by first | exact Nat.zero_le _ | (show _ + _ ≤ Z - kc K0; omega), by first | exact Nat.zero_le _ | (show _ + _ ≤ Y - ks K0; omega)⟩ (fun r_9 T1 K1 H locs h hle1 hc1 hs1 hP hS => ?_)
      obtain ⟨h, hk_r_9⟩ := h
      generalize T1 = T_10 at h hP
      generalize K1 = K_11 at h hP hle1 hc1 hs1 hk_r_9
      have hk_p1 : kd K_11 p1 = 2 := hle1.kd hk_p1
      have hk_p2 : kd K_11 p2 = 2 := hle1.kd hk_p2
      have hle0 := hle0.tr hle1
      have hcn : kc K0 + (cn + (Z_12 - kc K)) = kc K_11 := by omega
      have hsn : ks K0 + (sn + (Y_13 - ks K)) = ks K_11 := by omega
      have hzz : kc K_11 ≤ Z := by omega
      have hyy : ks K_11 ≤ Y := by omega
      refine W.widen (k := Z - kc K0) (n := Y - ks K0) (by omega) (by omega) ?_
      exact W.aret (v := .ref (b + r_9)) hx hb hr (Or.inl ⟨_, rfl⟩) (Or.inr ⟨_, rfl⟩) (fun t ht hW => ⟨⟨r_9, T_10, (kset K_11 Z Y), rfl, ⟨h, hk_r_9⟩, hle0, (by show Z = _; omega), (by show Y = _; omega), by rw [ht]; exact hP, va_K.moved hW.alike hK⟩, hS.F ht⟩) hS.2.2 dX1_common_2_30
  have J379 : ∀ (x8 : Nat) (T : XT) (K : XK) (cn sn : Nat) (H : Heap) (locs : List Loc) (ls : Array Slot), wx1_common_2_j379 p1 p2 Z Y post x8 K T → kle K0 K → kc K0 + cn = kc K → ks K0 + sn = ks K → kc K ≤ Z → ks K ≤ Y → (kd K x8 = 1) → (kd K p1 = 2) → (kd K p2 = 2) → xW G b hole K T H → va_S (xA b hole) s.heap H locs → lv_has ls 14 [(0, .ref (b + 0)), (8, .ref (b + x8))] → W p l e (headSpec (ws_ yX1_common_2 cX1_common_2 14 (some (.object "TermDesk$Poly"))) ({ frames := 8, cells := (Z - kc K0), slots := (Y - ks K0), locals := 186 } : Room)).room s m ([.ref (b + 0), .ref (b + p1), .ref (b + p2)] : List Value).toArray below meth c H locs cn sn (MQ below (xQ G b hole K0 (Z - kc K0) (Y - ks K0) (ρ := Nat) (eR b) (fun r T1 K1 => post r T1 K1 ∧ kd K1 r = 2)) ([.ref (b + 0), .ref (b + p1), .ref (b + p2)] : List Value).toArray s (Z - kc K0) (Y - ks K0) (xA b hole)) (F0 m 379 ls []) := by
    intro x8 T K cn sn H locs ls h hle0 hcn hsn hzz hyy hk_x8 hk_p1 hk_p2 hP hS hl
    unfold wx1_common_2_j379 at h
    refine lv_aload_n hx hb dX1_common_2_379 rfl (lv_at hl 0 rfl) ?_
    refine lv_aload_n hx hb dX1_common_2_380 rfl (lv_at hl 0 rfl) ?_
    refine lv_aload hx hb dX1_common_2_381 (lv_at hl 1 rfl) ?_
    obtain ⟨Z_18, Y_19, hz1, hz2, hy1, hy2, h⟩ := h
    refine x_cV (k := 0) (As := [.ref (b + x8)]) (rest := [.ref (b + 0)]) ⟨hx, hb, hml, hown, hts⟩ (mx1_sorted l G b hole x8 K T Z_18 Y_19 hz1 hy1 hk_x8 _ h) (cwV 1 hts (lw_V q1067 q750 qs23 q118 q751) rfl rfl rfl cwx_X1_sorted ⟨Nat.le_of_ble_eq_true rfl, Nat.le_of_ble_eq_true rfl⟩) (x_recv (CC := RX1) (ci := 0) hK hP (xs_0 hP) (by decide) (by decide) rfl (xE_8 (xs_0 hP))) hK hV hb0 hP hS rfl hl.1 rfl (Nat.le_of_ble_eq_true rfl) dX1_common_2_383 ⟨by first | exact Nat.zero_le _ | (show _ + _ ≤ Z - kc K0; omega), by first | exact Nat.zero_le _ | (show _ + _ ≤ Y - ks K0; omega)⟩ (fun r_15 T1 K1 H locs h hle1 hc1 hs1 hP hS => ?_)
    obtain ⟨h, hk_r_15⟩ := h
    generalize T1 = T_16 at h hP
    generalize K1 = K_17 at h hP hle1 hc1 hs1 hk_r_15
    have hk_x8 : kd K_17 x8 = 1 := hle1.kd hk_x8
    have hk_p1 : kd K_17 p1 = 2 := hle1.kd hk_p1
    have hk_p2 : kd K_17 p2 = 2 := hle1.kd hk_p2
    have hle0 := hle0.tr hle1
    have hcn : kc K0 + (cn + (Z_18 - kc K)) = kc K_17 := by omega
    have hsn : ks K0 + (sn + (Y_19 - ks K)) = ks K_17 := by omega
    have hzz : kc K_17 ≤ Z := by omega
    have hyy : ks K_17 ≤ Y := by omega
    obtain ⟨Z_23, Y_24, hz1, hz2, hy1, hy2, h⟩ := h
    refine x_cV (k := 0) (As := [.ref (b + r_15)]) (rest := []) ⟨hx, hb, hml, hown, hts⟩ (mx1_monic l G b hole r_15 K_17 T_16 Z_23 Y_24 hz1 hy1 hk_r_15 _ h) (cwV 1 hts (lw_V q957 q959 qs40 q118 q960) rfl rfl rfl cwx_X1_monic ⟨Nat.le_of_ble_eq_true rfl, Nat.le_of_ble_eq_true rfl⟩) (x_recv (CC := RX1) (ci := 0) hK hP (xs_0 hP) (by decide) (by decide) rfl (xE_8 (xs_0 hP))) hK hV hb0 hP hS rfl hl.1 rfl (Nat.le_of_ble_eq_true rfl) dX1_common_2_386 ⟨by first | exact Nat.zero_le _ | (show _ + _ ≤ Z - kc K0; omega), by first | exact Nat.zero_le _ | (show _ + _ ≤ Y - ks K0; omega)⟩ (fun r_20 T1 K1 H locs h hle1 hc1 hs1 hP hS => ?_)
    obtain ⟨h, hk_r_20⟩ := h
    generalize T1 = T_21 at h hP
    generalize K1 = K_22 at h hP hle1 hc1 hs1 hk_r_20
    have hk_x8 : kd K_22 x8 = 1 := hle1.kd hk_x8
    have hk_p1 : kd K_22 p1 = 2 := hle1.kd hk_p1
    have hk_p2 : kd K_22 p2 = 2 := hle1.kd hk_p2
    have hle0 := hle0.tr hle1
    have hcn : kc K0 + ((cn + (Z_18 - kc K)) + (Z_23 - kc K_17)) = kc K_22 := by omega
    have hsn : ks K0 + ((sn + (Y_19 - ks K)) + (Y_24 - ks K_17)) = ks K_22 := by omega
    have hzz : kc K_22 ≤ Z := by omega
    have hyy : ks K_22 ≤ Y := by omega
    refine W.widen (k := Z - kc K0) (n := Y - ks K0) (by omega) (by omega) ?_
    exact W.aret (v := .ref (b + r_20)) hx hb hr (Or.inl ⟨_, rfl⟩) (Or.inr ⟨_, rfl⟩) (fun t ht hW => ⟨⟨r_20, T_21, (kset K_22 Z Y), rfl, ⟨h, hk_r_20⟩, hle0, (by show Z = _; omega), (by show Y = _; omega), by rw [ht]; exact hP, va_K.moved hW.alike hK⟩, hS.F ht⟩) hS.2.2 dX1_common_2_389
  have L240 : ∀ (x5 : Int32) (x6 : Nat) (x8 : Nat) (x9 : Int32) (x10 : Int32) (T : XT) (K : XK) (cn sn : Nat) (H : Heap) (locs : List Loc) (ls : Array Slot), wx1_common_2_l240 p1 p2 Z Y post x5 x6 x8 x9 x10 K T → kle K0 K → kc K0 + cn = kc K → ks K0 + sn = ks K → kc K ≤ Z → ks K ≤ Y → (kd K x6 = 1) → (kd K x8 = 1) → (kd K p1 = 2) → (kd K p2 = 2) → xW G b hole K T H → va_S (xA b hole) s.heap H locs → lv_has ls 14 [(0, .ref (b + 0)), (5, .int x5), (6, .ref (b + x6)), (8, .ref (b + x8)), (9, .int x9), (10, .int x10)] → W p l e (headSpec (ws_ yX1_common_2 cX1_common_2 14 (some (.object "TermDesk$Poly"))) ({ frames := 8, cells := (Z - kc K0), slots := (Y - ks K0), locals := 186 } : Room)).room s m ([.ref (b + 0), .ref (b + p1), .ref (b + p2)] : List Value).toArray below meth c H locs cn sn (MQ below (xQ G b hole K0 (Z - kc K0) (Y - ks K0) (ρ := Nat) (eR b) (fun r T1 K1 => post r T1 K1 ∧ kd K1 r = 2)) ([.ref (b + 0), .ref (b + p1), .ref (b + p2)] : List Value).toArray s (Z - kc K0) (Y - ks K0) (xA b hole)) (F0 m 240 ls []) := by
    intro x5 x6 x8 x9 x10 T K cn sn H locs ls h hle0 hcn hsn hzz hyy hk_x6 hk_x8 hk_p1 hk_p2 hP hS hl
    obtain ⟨I240, n240, hI, hstep240⟩ := h
    induction n240 using Nat.strongRecOn generalizing x10 T H locs ls with
    | ind n240 ih240 =>
      have h : wx1_common_2_b240 p1 p2 Z Y post (fun x10 T => ∃ mm, mm < n240 ∧ I240 mm (x10, T)) x5 x6 x8 x9 x10 K T := hstep240 n240 _ hI
      clear hI
      have L285 : ∀ (x10 : Int32) (x11 : Int32) (x12 : Int32) (T : XT) (H : Heap) (locs : List Loc) (ls : Array Slot), wx1_common_2_l285 p1 p2 Z Y post (fun x10 T => ∃ mm, mm < n240 ∧ I240 mm (x10, T)) x5 x6 x8 x9 x10 x11 x12 K T → xW G b hole K T H → va_S (xA b hole) s.heap H locs → lv_has ls 14 [(0, .ref (b + 0)), (5, .int x5), (6, .ref (b + x6)), (8, .ref (b + x8)), (9, .int x9), (10, .int x10), (11, .int x11), (12, .int x12)] → W p l e (headSpec (ws_ yX1_common_2 cX1_common_2 14 (some (.object "TermDesk$Poly"))) ({ frames := 8, cells := (Z - kc K0), slots := (Y - ks K0), locals := 186 } : Room)).room s m ([.ref (b + 0), .ref (b + p1), .ref (b + p2)] : List Value).toArray below meth c H locs cn sn (MQ below (xQ G b hole K0 (Z - kc K0) (Y - ks K0) (ρ := Nat) (eR b) (fun r T1 K1 => post r T1 K1 ∧ kd K1 r = 2)) ([.ref (b + 0), .ref (b + p1), .ref (b + p2)] : List Value).toArray s (Z - kc K0) (Y - ks K0) (xA b hole)) (F0 m 285 ls []) := by
        intro x10 x11 x12 T H locs ls h hP hS hl
        obtain ⟨I285, n285, hI, hstep285⟩ := h
        induction n285 using Nat.strongRecOn generalizing x12 T H locs ls with
        | ind n285 ih285 =>
          have h : wx1_common_2_b285 p1 p2 Z Y post (fun x10 T => ∃ mm, mm < n240 ∧ I240 mm (x10, T)) (fun x12 T => ∃ mm, mm < n285 ∧ I285 mm (x12, T)) x5 x6 x8 x9 x10 x11 x12 K T := hstep285 n285 _ hI
          clear hI
          have L295 : ∀ (x12 : Int32) (x13 : Int32) (T : XT) (H : Heap) (locs : List Loc) (ls : Array Slot), wx1_common_2_l295 p1 p2 Z Y post (fun x10 T => ∃ mm, mm < n240 ∧ I240 mm (x10, T)) (fun x12 T => ∃ mm, mm < n285 ∧ I285 mm (x12, T)) x5 x6 x8 x9 x10 x11 x12 x13 K T → xW G b hole K T H → va_S (xA b hole) s.heap H locs → lv_has ls 14 [(0, .ref (b + 0)), (5, .int x5), (6, .ref (b + x6)), (8, .ref (b + x8)), (9, .int x9), (10, .int x10), (11, .int x11), (12, .int x12), (13, .int x13)] → W p l e (headSpec (ws_ yX1_common_2 cX1_common_2 14 (some (.object "TermDesk$Poly"))) ({ frames := 8, cells := (Z - kc K0), slots := (Y - ks K0), locals := 186 } : Room)).room s m ([.ref (b + 0), .ref (b + p1), .ref (b + p2)] : List Value).toArray below meth c H locs cn sn (MQ below (xQ G b hole K0 (Z - kc K0) (Y - ks K0) (ρ := Nat) (eR b) (fun r T1 K1 => post r T1 K1 ∧ kd K1 r = 2)) ([.ref (b + 0), .ref (b + p1), .ref (b + p2)] : List Value).toArray s (Z - kc K0) (Y - ks K0) (xA b hole)) (F0 m 295 ls []) := by
            intro x12 x13 T H locs ls h hP hS hl
            obtain ⟨I295, n295, hI, hstep295⟩ := h
            induction n295 using Nat.strongRecOn generalizing x13 T H locs ls with
            | ind n295 ih295 =>
              have h : wx1_common_2_b295 p1 p2 Z Y post (fun x10 T => ∃ mm, mm < n240 ∧ I240 mm (x10, T)) (fun x12 T => ∃ mm, mm < n285 ∧ I285 mm (x12, T)) (fun x13 T => ∃ mm, mm < n295 ∧ I295 mm (x13, T)) x5 x6 x8 x9 x10 x11 x12 x13 K T := hstep295 n295 _ hI
              clear hI
              have J361 : ∀ (x13 : Int32) (T : XT) (H : Heap) (locs : List Loc) (ls : Array Slot), wx1_common_2_j361 p1 p2 Z Y post (fun x10 T => ∃ mm, mm < n240 ∧ I240 mm (x10, T)) (fun x12 T => ∃ mm, mm < n285 ∧ I285 mm (x12, T)) (fun x13 T => ∃ mm, mm < n295 ∧ I295 mm (x13, T)) x5 x6 x8 x9 x10 x11 x12 x13 K T → xW G b hole K T H → va_S (xA b hole) s.heap H locs → lv_has ls 14 [(0, .ref (b + 0)), (5, .int x5), (6, .ref (b + x6)), (8, .ref (b + x8)), (9, .int x9), (10, .int x10), (11, .int x11), (12, .int x12), (13, .int x13)] → W p l e (headSpec (ws_ yX1_common_2 cX1_common_2 14 (some (.object "TermDesk$Poly"))) ({ frames := 8, cells := (Z - kc K0), slots := (Y - ks K0), locals := 186 } : Room)).room s m ([.ref (b + 0), .ref (b + p1), .ref (b + p2)] : List Value).toArray below meth c H locs cn sn (MQ below (xQ G b hole K0 (Z - kc K0) (Y - ks K0) (ρ := Nat) (eR b) (fun r T1 K1 => post r T1 K1 ∧ kd K1 r = 2)) ([.ref (b + 0), .ref (b + p1), .ref (b + p2)] : List Value).toArray s (Z - kc K0) (Y - ks K0) (xA b hole)) (F0 m 361 ls []) := by
                intro x13 T H locs ls h hP hS hl
                unfold wx1_common_2_j361 at h
                obtain ⟨x13_25, ex13_25⟩ : ∃ y : Int32, y = x13 + 1 := ⟨_, rfl⟩
                have h := h x13_25 ex13_25
                refine lv_iinc (v := x13_25) (lv' := [(13, .int x13_25), (0, .ref (b + 0)), (5, .int x5), (6, .ref (b + x6)), (8, .ref (b + x8)), (9, .int x9), (10, .int x10), (11, .int x11), (12, .int x12)]) hx hb dX1_common_2_361 hl (k := 8) rfl (by rw [ex13_25]; rfl) (by decide) rfl (fun ls hl => ?_)
                refine lv_goto (tgt := 295) hx hb dX1_common_2_364 (by decide) ?_
                obtain ⟨mm, hmm, h⟩ := h
                exact ih295 mm hmm _ _ _ _ _  hP hS (lv_sub hl [1, 2, 3, 4, 5, 6, 7, 8, 0] rfl) h
              unfold wx1_common_2_b295 at h
              refine lv_iload hx hb dX1_common_2_295 (lv_at hl 8 rfl) ?_
              refine lv_iload hx hb dX1_common_2_297 (lv_at hl 4 rfl) ?_
              refine lv_icmp_gt (tgt := 367) hx hb dX1_common_2_299 (by decide) (fun c_45 => ?_) (fun c_45 => ?_)
              · have h := h.1 c_45
                obtain ⟨x12_26, ex12_26⟩ : ∃ y : Int32, y = x12 + 1 := ⟨_, rfl⟩
                have h := h x12_26 ex12_26
                refine lv_iinc (v := x12_26) (lv' := [(12, .int x12_26), (0, .ref (b + 0)), (5, .int x5), (6, .ref (b + x6)), (8, .ref (b + x8)), (9, .int x9), (10, .int x10), (11, .int x11), (13, .int x13)]) hx hb dX1_common_2_367 hl (k := 7) rfl (by rw [ex12_26]; rfl) (by decide) rfl (fun ls hl => ?_)
                refine lv_goto (tgt := 285) hx hb dX1_common_2_370 (by decide) ?_
                obtain ⟨mm, hmm, h⟩ := h
                exact ih285 mm hmm _ _ _ _ _  hP hS (lv_sub hl [1, 2, 3, 4, 5, 6, 7, 0] rfl) h
              · have h := h.2 c_45
                refine lv_aload hx hb dX1_common_2_302 (lv_at hl 3 rfl) ?_
                refine lv_iload hx hb dX1_common_2_304 (lv_at hl 5 rfl) ?_
                refine lv_iload hx hb dX1_common_2_306 (lv_at hl 7 rfl) ?_
                refine lv_iload hx hb dX1_common_2_308 (lv_at hl 8 rfl) ?_
                refine lv_iadd hx hb dX1_common_2_310 ?_
                refine lv_iconst (v := 0) hx hb dX1_common_2_311 (by decide) ?_
                refine x_cS (As := [.int x10, .int (x12 + x13), .int 0]) (rest := [.ref (b + x8)]) ⟨hx, hb, hml, hown, hts⟩ (mx1_packed l G b hole x10 (x12 + x13) 0 K T  _ h) (va_cwS 3 hts (lw_S q836 q837 q118 q838) rfl rfl rfl cwx_X1_packed ⟨Nat.le_of_ble_eq_true rfl, Nat.le_of_ble_eq_true rfl⟩) hK hV hb0 hP hS rfl hl.1 rfl (Nat.le_of_ble_eq_true rfl) dX1_common_2_312 ⟨by first | exact Nat.zero_le _ | (show _ + _ ≤ Z - kc K0; omega), by first | exact Nat.zero_le _ | (show _ + _ ≤ Y - ks K0; omega)⟩ (fun r_27 T1 K1 H locs h hle1 hc1 hs1 hP hS => ?_)
                obtain ⟨h, hTe, hKe⟩ := h
                rw [hTe, hKe] at hP
                refine lv_aload hx hb dX1_common_2_315 (lv_at hl 3 rfl) ?_
                refine lv_iload hx hb dX1_common_2_317 (lv_at hl 5 rfl) ?_
                refine lv_iload hx hb dX1_common_2_319 (lv_at hl 7 rfl) ?_
                refine lv_iload hx hb dX1_common_2_321 (lv_at hl 8 rfl) ?_
                refine lv_iadd hx hb dX1_common_2_323 ?_
                refine lv_iconst (v := 0) hx hb dX1_common_2_324 (by decide) ?_
                refine x_cS (As := [.int x10, .int (x12 + x13), .int 0]) (rest := [.ref (b + x8), .int r_27, .ref (b + x8)]) ⟨hx, hb, hml, hown, hts⟩ (mx1_packed l G b hole x10 (x12 + x13) 0 K T  _ h) (va_cwS 3 hts (lw_S q836 q837 q118 q838) rfl rfl rfl cwx_X1_packed ⟨Nat.le_of_ble_eq_true rfl, Nat.le_of_ble_eq_true rfl⟩) hK hV hb0 hP hS rfl hl.1 rfl (Nat.le_of_ble_eq_true rfl) dX1_common_2_325 ⟨by first | exact Nat.zero_le _ | (show _ + _ ≤ Z - kc K0; omega), by first | exact Nat.zero_le _ | (show _ + _ ≤ Y - ks K0; omega)⟩ (fun r_30 T1 K1 H locs h hle1 hc1 hs1 hP hS => ?_)
                obtain ⟨h, hTe, hKe⟩ := h
                rw [hTe, hKe] at hP
                obtain ⟨j_33, hj_33, ej_33, h⟩ := h
                refine x_iald hx hb hK hP hk_x8 ej_33 hj_33 dX1_common_2_328 ?_
                refine lv_iload hx hb dX1_common_2_329 (lv_at hl 1 rfl) ?_
                refine lv_if_eq (tgt := 338) hx hb dX1_common_2_331 (by decide) (fun c_44 => ?_) (fun c_44 => ?_)
                · have h := h.1 c_44
                  refine lv_aload_n hx hb dX1_common_2_338 rfl (lv_at hl 0 rfl) ?_
                  obtain ⟨v_34, ev_34, h⟩ := h
                  refine x_get (CC := RX1) (TT := TX1) (N := 26) (ci := 0) (v := rfv b (xr T 0 9)) hx hb hts in_X1 hown hK hP (xs_0 hP) (by decide) (by decide) rfl (xE_8 (xs_0 hP)) 9 (by decide) q394 rfl rfl dX1_common_2_339 ?_
                  refine x_some ev_34 ?_
                  have hk_v_34 : kd K v_34 = 4 := hP.ty (xs_0 hP) (by decide) ev_34
                  refine lv_iload hx hb dX1_common_2_342 (lv_at hl 5 rfl) ?_
                  obtain ⟨j_35, hj_35, ej_35, v_36, ev_36, h⟩ := h
                  refine x_aald4 hx hb hK hP hk_v_34 ej_35 hj_35 dX1_common_2_344 ?_
                  refine x_some ev_36 ?_
                  have hk_v_36 : kd K v_36 = 1 := hP.ty hk_v_34 (by decide) ev_36
                  refine lv_iload hx hb dX1_common_2_345 (lv_at hl 7 rfl) ?_
                  obtain ⟨j_37, hj_37, ej_37, h⟩ := h
                  refine x_iald hx hb hK hP hk_v_36 ej_37 hj_37 dX1_common_2_347 ?_
                  refine lv_aload hx hb dX1_common_2_348 (lv_at hl 2 rfl) ?_
                  refine lv_iload hx hb dX1_common_2_350 (lv_at hl 8 rfl) ?_
                  obtain ⟨j_38, hj_38, ej_38, h⟩ := h
                  refine x_iald hx hb hK hP hk_x6 ej_38 hj_38 dX1_common_2_352 ?_
                  refine lv_imul hx hb dX1_common_2_353 ?_
                  refine lv_iadd hx hb dX1_common_2_354 ?_
                  refine lv_aload_n hx hb dX1_common_2_355 rfl (lv_at hl 0 rfl) ?_
                  refine x_get (CC := RX1) (TT := TX1) (N := 26) (ci := 0) (v := .int (xi T 0 0)) hx hb hts in_X1 hown hK hP (xs_0 hP) (by decide) (by decide) rfl (xE_8 (xs_0 hP)) 0 (by decide) q384 rfl rfl dX1_common_2_356 ?_
                  obtain ⟨hne, h⟩ := h
                  refine m_irem hx hb dX1_common_2_359 hne ?_
                  obtain ⟨j_39, hj_39, ej_39, h⟩ := h
                  obtain ⟨T_40, eT_40⟩ : ∃ z : XT, z = xwi T x8 j_39 (jrem ((xi T x8 j_33) + ((xi T v_36 j_37) * (xi T x6 j_38))) (xi T 0 0)) := ⟨_, rfl⟩
                  have h := h T_40 eT_40
                  refine x_iast hx hb hK hP hS hk_x8 ej_39 hj_39 dX1_common_2_360 (fun H locs hP hS => ?_)
                  rw [← eT_40] at hP
                  exact J361 _ _ _ _ _ h  hP hS (lv_sub hl [0, 1, 2, 3, 4, 5, 6, 7, 8] rfl)
                · have h := h.2 c_44
                  refine lv_iconst (v := 1) hx hb dX1_common_2_334 (by decide) ?_
                  refine lv_goto (tgt := 348) hx hb dX1_common_2_335 (by decide) ?_
                  refine lv_aload hx hb dX1_common_2_348 (lv_at hl 2 rfl) ?_
                  refine lv_iload hx hb dX1_common_2_350 (lv_at hl 8 rfl) ?_
                  obtain ⟨j_41, hj_41, ej_41, h⟩ := h
                  refine x_iald hx hb hK hP hk_x6 ej_41 hj_41 dX1_common_2_352 ?_
                  refine lv_imul hx hb dX1_common_2_353 ?_
                  refine lv_iadd hx hb dX1_common_2_354 ?_
                  refine lv_aload_n hx hb dX1_common_2_355 rfl (lv_at hl 0 rfl) ?_
                  refine x_get (CC := RX1) (TT := TX1) (N := 26) (ci := 0) (v := .int (xi T 0 0)) hx hb hts in_X1 hown hK hP (xs_0 hP) (by decide) (by decide) rfl (xE_8 (xs_0 hP)) 0 (by decide) q384 rfl rfl dX1_common_2_356 ?_
                  obtain ⟨hne, h⟩ := h
                  refine m_irem hx hb dX1_common_2_359 hne ?_
                  obtain ⟨j_42, hj_42, ej_42, h⟩ := h
                  obtain ⟨T_43, eT_43⟩ : ∃ z : XT, z = xwi T x8 j_42 (jrem ((xi T x8 j_33) + (1 * (xi T x6 j_41))) (xi T 0 0)) := ⟨_, rfl⟩
                  have h := h T_43 eT_43
                  refine x_iast hx hb hK hP hS hk_x8 ej_42 hj_42 dX1_common_2_360 (fun H locs hP hS => ?_)
                  rw [← eT_43] at hP
                  exact J361 _ _ _ _ _ h  hP hS (lv_sub hl [0, 1, 2, 3, 4, 5, 6, 7, 8] rfl)
          unfold wx1_common_2_b285 at h
          refine lv_iload hx hb dX1_common_2_285 (lv_at hl 7 rfl) ?_
          refine lv_iload hx hb dX1_common_2_287 (lv_at hl 6 rfl) ?_
          refine lv_icmp_gt (tgt := 373) hx hb dX1_common_2_289 (by decide) (fun c_47 => ?_) (fun c_47 => ?_)
          · have h := h.1 c_47
            obtain ⟨x10_46, ex10_46⟩ : ∃ y : Int32, y = x10 + 1 := ⟨_, rfl⟩
            have h := h x10_46 ex10_46
            refine lv_iinc (v := x10_46) (lv' := [(10, .int x10_46), (0, .ref (b + 0)), (5, .int x5), (6, .ref (b + x6)), (8, .ref (b + x8)), (9, .int x9), (11, .int x11), (12, .int x12)]) hx hb dX1_common_2_373 hl (k := 5) rfl (by rw [ex10_46]; rfl) (by decide) rfl (fun ls hl => ?_)
            refine lv_goto (tgt := 240) hx hb dX1_common_2_376 (by decide) ?_
            obtain ⟨mm, hmm, h⟩ := h
            exact ih240 mm hmm _ _ _ _ _  hP hS (lv_sub hl [1, 2, 3, 4, 5, 0] rfl) h
          · have h := h.2 c_47
            refine lv_iconst (v := 0) hx hb dX1_common_2_292 (by decide) ?_
            refine lv_istore (lv' := [(13, .int 0), (0, .ref (b + 0)), (5, .int x5), (6, .ref (b + x6)), (8, .ref (b + x8)), (9, .int x9), (10, .int x10), (11, .int x11), (12, .int x12)]) hx hb dX1_common_2_293 hl (by decide) rfl (fun ls hl => ?_)
            exact L295 _ _ _ _ _ _ h  hP hS (lv_sub hl [1, 2, 3, 4, 5, 6, 7, 8, 0] rfl)
      have J282 : ∀ (x10 : Int32) (x11 : Int32) (T : XT) (H : Heap) (locs : List Loc) (ls : Array Slot), wx1_common_2_j282 p1 p2 Z Y post (fun x10 T => ∃ mm, mm < n240 ∧ I240 mm (x10, T)) x5 x6 x8 x9 x10 x11 K T → xW G b hole K T H → va_S (xA b hole) s.heap H locs → lv_has ls 14 [(0, .ref (b + 0)), (5, .int x5), (6, .ref (b + x6)), (8, .ref (b + x8)), (9, .int x9), (10, .int x10), (11, .int x11)] → W p l e (headSpec (ws_ yX1_common_2 cX1_common_2 14 (some (.object "TermDesk$Poly"))) ({ frames := 8, cells := (Z - kc K0), slots := (Y - ks K0), locals := 186 } : Room)).room s m ([.ref (b + 0), .ref (b + p1), .ref (b + p2)] : List Value).toArray below meth c H locs cn sn (MQ below (xQ G b hole K0 (Z - kc K0) (Y - ks K0) (ρ := Nat) (eR b) (fun r T1 K1 => post r T1 K1 ∧ kd K1 r = 2)) ([.ref (b + 0), .ref (b + p1), .ref (b + p2)] : List Value).toArray s (Z - kc K0) (Y - ks K0) (xA b hole)) (F0 m 282 ls []) := by
        intro x10 x11 T H locs ls h hP hS hl
        unfold wx1_common_2_j282 at h
        refine lv_iconst (v := 0) hx hb dX1_common_2_282 (by decide) ?_
        refine lv_istore (lv' := [(12, .int 0), (0, .ref (b + 0)), (5, .int x5), (6, .ref (b + x6)), (8, .ref (b + x8)), (9, .int x9), (10, .int x10), (11, .int x11)]) hx hb dX1_common_2_283 hl (by decide) rfl (fun ls hl => ?_)
        exact L285 _ _ _ _ _ _ _ h  hP hS (lv_sub hl [1, 2, 3, 4, 5, 6, 7, 0] rfl)
      have J261 : ∀ (x10 : Int32) (T : XT) (H : Heap) (locs : List Loc) (ls : Array Slot), wx1_common_2_j261 p1 p2 Z Y post (fun x10 T => ∃ mm, mm < n240 ∧ I240 mm (x10, T)) x5 x6 x8 x9 x10 K T → xW G b hole K T H → va_S (xA b hole) s.heap H locs → lv_has ls 14 [(0, .ref (b + 0)), (5, .int x5), (6, .ref (b + x6)), (8, .ref (b + x8)), (9, .int x9), (10, .int x10)] → W p l e (headSpec (ws_ yX1_common_2 cX1_common_2 14 (some (.object "TermDesk$Poly"))) ({ frames := 8, cells := (Z - kc K0), slots := (Y - ks K0), locals := 186 } : Room)).room s m ([.ref (b + 0), .ref (b + p1), .ref (b + p2)] : List Value).toArray below meth c H locs cn sn (MQ below (xQ G b hole K0 (Z - kc K0) (Y - ks K0) (ρ := Nat) (eR b) (fun r T1 K1 => post r T1 K1 ∧ kd K1 r = 2)) ([.ref (b + 0), .ref (b + p1), .ref (b + p2)] : List Value).toArray s (Z - kc K0) (Y - ks K0) (xA b hole)) (F0 m 261 ls []) := by
        intro x10 T H locs ls h hP hS hl
        unfold wx1_common_2_j261 at h
        refine lv_iload hx hb dX1_common_2_261 (lv_at hl 1 rfl) ?_
        refine lv_if_eq (tgt := 270) hx hb dX1_common_2_263 (by decide) (fun c_54 => ?_) (fun c_54 => ?_)
        · have h := h.1 c_54
          refine lv_aload_n hx hb dX1_common_2_270 rfl (lv_at hl 0 rfl) ?_
          obtain ⟨v_48, ev_48, h⟩ := h
          refine x_get (CC := RX1) (TT := TX1) (N := 26) (ci := 0) (v := rfv b (xr T 0 9)) hx hb hts in_X1 hown hK hP (xs_0 hP) (by decide) (by decide) rfl (xE_8 (xs_0 hP)) 9 (by decide) q394 rfl rfl dX1_common_2_271 ?_
          refine x_some ev_48 ?_
          have hk_v_48 : kd K v_48 = 4 := hP.ty (xs_0 hP) (by decide) ev_48
          refine lv_iload hx hb dX1_common_2_274 (lv_at hl 5 rfl) ?_
          obtain ⟨j_49, hj_49, ej_49, v_50, ev_50, h⟩ := h
          refine x_aald4 hx hb hK hP hk_v_48 ej_49 hj_49 dX1_common_2_276 ?_
          refine x_some ev_50 ?_
          have hk_v_50 : kd K v_50 = 1 := hP.ty hk_v_48 (by decide) ev_50
          refine x_cS (As := [.ref (b + v_50)]) (rest := []) ⟨hx, hb, hml, hown, hts⟩ (mx1_top l G b hole v_50 K T hk_v_50 _ h) (va_cwS 1 hts (lw_S q1113 q1114 q118 q1115) rfl rfl rfl cwx_X1_top ⟨Nat.le_of_ble_eq_true rfl, Nat.le_of_ble_eq_true rfl⟩) hK hV hb0 hP hS rfl hl.1 rfl (Nat.le_of_ble_eq_true rfl) dX1_common_2_277 ⟨by first | exact Nat.zero_le _ | (show _ + _ ≤ Z - kc K0; omega), by first | exact Nat.zero_le _ | (show _ + _ ≤ Y - ks K0; omega)⟩ (fun r_51 T1 K1 H locs h hle1 hc1 hs1 hP hS => ?_)
          obtain ⟨h, hTe, hKe⟩ := h
          rw [hTe, hKe] at hP
          refine lv_istore (lv' := [(11, .int r_51), (0, .ref (b + 0)), (5, .int x5), (6, .ref (b + x6)), (8, .ref (b + x8)), (9, .int x9), (10, .int x10)]) hx hb dX1_common_2_280 hl (by decide) rfl (fun ls hl => ?_)
          exact J282 _ _ _ _ _ _ h  hP hS (lv_sub hl [1, 2, 3, 4, 5, 6, 0] rfl)
        · have h := h.2 c_54
          refine lv_iconst (v := 0) hx hb dX1_common_2_266 (by decide) ?_
          refine lv_goto (tgt := 280) hx hb dX1_common_2_267 (by decide) ?_
          refine lv_istore (lv' := [(11, .int 0), (0, .ref (b + 0)), (5, .int x5), (6, .ref (b + x6)), (8, .ref (b + x8)), (9, .int x9), (10, .int x10)]) hx hb dX1_common_2_280 hl (by decide) rfl (fun ls hl => ?_)
          exact J282 _ _ _ _ _ _ h  hP hS (lv_sub hl [1, 2, 3, 4, 5, 6, 0] rfl)
      unfold wx1_common_2_b240 at h
      refine lv_iload hx hb dX1_common_2_240 (lv_at hl 5 rfl) ?_
      refine lv_iload hx hb dX1_common_2_242 (lv_at hl 1 rfl) ?_
      refine lv_if_eq (tgt := 251) hx hb dX1_common_2_244 (by decide) (fun c_61 => ?_) (fun c_61 => ?_)
      · have h := h.1 c_61
        refine lv_aload_n hx hb dX1_common_2_251 rfl (lv_at hl 0 rfl) ?_
        obtain ⟨v_55, ev_55, h⟩ := h
        refine x_get (CC := RX1) (TT := TX1) (N := 26) (ci := 0) (v := rfv b (xr T 0 9)) hx hb hts in_X1 hown hK hP (xs_0 hP) (by decide) (by decide) rfl (xE_8 (xs_0 hP)) 9 (by decide) q394 rfl rfl dX1_common_2_252 ?_
        refine x_some ev_55 ?_
        have hk_v_55 : kd K v_55 = 4 := hP.ty (xs_0 hP) (by decide) ev_55
        refine x_cS (As := [.ref (b + v_55)]) (rest := [.int x10]) ⟨hx, hb, hml, hown, hts⟩ (mx1_topRow l G b hole v_55 K T hk_v_55 _ h) (va_cwS 1 hts (lw_S q1126 q1127 q118 q1128) rfl rfl rfl cwx_X1_topRow ⟨Nat.le_of_ble_eq_true rfl, Nat.le_of_ble_eq_true rfl⟩) hK hV hb0 hP hS rfl hl.1 rfl (Nat.le_of_ble_eq_true rfl) dX1_common_2_255 ⟨by first | exact Nat.zero_le _ | (show _ + _ ≤ Z - kc K0; omega), by first | exact Nat.zero_le _ | (show _ + _ ≤ Y - ks K0; omega)⟩ (fun r_56 T1 K1 H locs h hle1 hc1 hs1 hP hS => ?_)
        obtain ⟨h, hTe, hKe⟩ := h
        rw [hTe, hKe] at hP
        refine lv_icmp_gt (tgt := 379) hx hb dX1_common_2_258 (by decide) (fun c_59 => ?_) (fun c_59 => ?_)
        · have h := h.1 c_59
          exact J379 _ _ _ _ _ _ _ _ h hle0 hcn hsn hzz hyy hk_x8 hk_p1 hk_p2 hP hS (lv_sub hl [0, 3] rfl)
        · have h := h.2 c_59
          exact J261 _ _ _ _ _ h  hP hS (lv_sub hl [0, 1, 2, 3, 4, 5] rfl)
      · have h := h.2 c_61
        refine lv_iconst (v := 0) hx hb dX1_common_2_247 (by decide) ?_
        refine lv_goto (tgt := 258) hx hb dX1_common_2_248 (by decide) ?_
        refine lv_icmp_gt (tgt := 379) hx hb dX1_common_2_258 (by decide) (fun c_60 => ?_) (fun c_60 => ?_)
        · have h := h.1 c_60
          exact J379 _ _ _ _ _ _ _ _ h hle0 hcn hsn hzz hyy hk_x8 hk_p1 hk_p2 hP hS (lv_sub hl [0, 3] rfl)
        · have h := h.2 c_60
          exact J261 _ _ _ _ _ h  hP hS (lv_sub hl [0, 1, 2, 3, 4, 5] rfl)
  have L193 : ∀ (x5 : Int32) (x6 : Nat) (x7 : Nat) (T : XT) (K : XK) (cn sn : Nat) (H : Heap) (locs : List Loc) (ls : Array Slot), wx1_common_2_l193 p1 p2 Z Y post x5 x6 x7 K T → kle K0 K → kc K0 + cn = kc K → ks K0 + sn = ks K → kc K ≤ Z → ks K ≤ Y → (kd K x6 = 1) → (kd K x7 = 1) → (kd K p1 = 2) → (kd K p2 = 2) → xW G b hole K T H → va_S (xA b hole) s.heap H locs → lv_has ls 14 [(0, .ref (b + 0)), (5, .int x5), (6, .ref (b + x6)), (7, .ref (b + x7))] → W p l e (headSpec (ws_ yX1_common_2 cX1_common_2 14 (some (.object "TermDesk$Poly"))) ({ frames := 8, cells := (Z - kc K0), slots := (Y - ks K0), locals := 186 } : Room)).room s m ([.ref (b + 0), .ref (b + p1), .ref (b + p2)] : List Value).toArray below meth c H locs cn sn (MQ below (xQ G b hole K0 (Z - kc K0) (Y - ks K0) (ρ := Nat) (eR b) (fun r T1 K1 => post r T1 K1 ∧ kd K1 r = 2)) ([.ref (b + 0), .ref (b + p1), .ref (b + p2)] : List Value).toArray s (Z - kc K0) (Y - ks K0) (xA b hole)) (F0 m 193 ls []) := by
    intro x5 x6 x7 T K cn sn H locs ls h hle0 hcn hsn hzz hyy hk_x6 hk_x7 hk_p1 hk_p2 hP hS hl
    obtain ⟨I193, n193, hI, hstep193⟩ := h
    induction n193 using Nat.strongRecOn generalizing x6 x7 T H locs ls with
    | ind n193 ih193 =>
      have h : wx1_common_2_b193 p1 p2 Z Y post (fun x6 x7 T => ∃ mm, mm < n193 ∧ I193 mm (x6, x7, T)) x5 x6 x7 K T := hstep193 n193 _ hI
      clear hI
      unfold wx1_common_2_b193 at h
      refine lv_aload hx hb dX1_common_2_193 (lv_at hl 3 rfl) ?_
      refine x_cS (As := [.ref (b + x7)]) (rest := []) ⟨hx, hb, hml, hown, hts⟩ (mx1_top l G b hole x7 K T hk_x7 _ h) (va_cwS 1 hts (lw_S q1113 q1114 q118 q1115) rfl rfl rfl cwx_X1_top ⟨Nat.le_of_ble_eq_true rfl, Nat.le_of_ble_eq_true rfl⟩) hK hV hb0 hP hS rfl hl.1 rfl (Nat.le_of_ble_eq_true rfl) dX1_common_2_195 ⟨by first | exact Nat.zero_le _ | (show _ + _ ≤ Z - kc K0; omega), by first | exact Nat.zero_le _ | (show _ + _ ≤ Y - ks K0; omega)⟩ (fun r_62 T1 K1 H locs h hle1 hc1 hs1 hP hS => ?_)
      obtain ⟨h, hTe, hKe⟩ := h
      rw [hTe, hKe] at hP
      refine lv_if_lt (tgt := 224) hx hb dX1_common_2_198 (by decide) (fun c_74 => ?_) (fun c_74 => ?_)
      · have h := h.1 c_74
        refine lv_aload_n hx hb dX1_common_2_224 rfl (lv_at hl 0 rfl) ?_
        refine x_cV (k := 0) (As := []) (rest := []) ⟨hx, hb, hml, hown, hts⟩ (mx1_blank l G b hole  K T  _ h) (cwV 0 hts (lw_V q835 q739 qs21 q118 q740) rfl rfl rfl cwx_X1_blank ⟨Nat.le_of_ble_eq_true rfl, Nat.le_of_ble_eq_true rfl⟩) (x_recv (CC := RX1) (ci := 0) hK hP (xs_0 hP) (by decide) (by decide) rfl (xE_8 (xs_0 hP))) hK hV hb0 hP hS rfl hl.1 rfl (Nat.le_of_ble_eq_true rfl) dX1_common_2_225 ⟨by first | exact Nat.zero_le _ | (show _ + _ ≤ Z - kc K0; omega), by first | exact Nat.zero_le _ | (show _ + _ ≤ Y - ks K0; omega)⟩ (fun r_65 T1 K1 H locs h hle1 hc1 hs1 hP hS => ?_)
        obtain ⟨h, hk_r_65, hKe⟩ := h
        rw [hKe] at hP
        generalize T1 = T_66 at h hP
        rw [hKe] at hk_r_65
        refine lv_astore (lv' := [(8, .ref (b + r_65)), (0, .ref (b + 0)), (5, .int x5), (6, .ref (b + x6)), (7, .ref (b + x7))]) hx hb dX1_common_2_228 hl (by decide) rfl (fun ls hl => ?_)
        refine lv_aload hx hb dX1_common_2_230 (lv_at hl 3 rfl) ?_
        refine x_cS (As := [.ref (b + x6)]) (rest := []) ⟨hx, hb, hml, hown, hts⟩ (mx1_top l G b hole x6 K T_66 hk_x6 _ h) (va_cwS 1 hts (lw_S q1113 q1114 q118 q1115) rfl rfl rfl cwx_X1_top ⟨Nat.le_of_ble_eq_true rfl, Nat.le_of_ble_eq_true rfl⟩) hK hV hb0 hP hS rfl hl.1 rfl (Nat.le_of_ble_eq_true rfl) dX1_common_2_232 ⟨by first | exact Nat.zero_le _ | (show _ + _ ≤ Z - kc K0; omega), by first | exact Nat.zero_le _ | (show _ + _ ≤ Y - ks K0; omega)⟩ (fun r_68 T1 K1 H locs h hle1 hc1 hs1 hP hS => ?_)
        obtain ⟨h, hTe, hKe⟩ := h
        rw [hTe, hKe] at hP
        refine lv_istore (lv' := [(9, .int r_68), (8, .ref (b + r_65)), (0, .ref (b + 0)), (5, .int x5), (6, .ref (b + x6)), (7, .ref (b + x7))]) hx hb dX1_common_2_235 hl (by decide) rfl (fun ls hl => ?_)
        refine lv_iconst (v := 0) hx hb dX1_common_2_237 (by decide) ?_
        refine lv_istore (lv' := [(10, .int 0), (9, .int r_68), (8, .ref (b + r_65)), (0, .ref (b + 0)), (5, .int x5), (6, .ref (b + x6)), (7, .ref (b + x7))]) hx hb dX1_common_2_238 hl (by decide) rfl (fun ls hl => ?_)
        exact L240 _ _ _ _ _ _ _ _ _ _ _ _ h hle0 hcn hsn hzz hyy hk_x6 hk_r_65 hk_p1 hk_p2 hP hS (lv_sub hl [3, 4, 5, 2, 1, 0] rfl)
      · have h := h.2 c_74
        refine lv_aload_n hx hb dX1_common_2_201 rfl (lv_at hl 0 rfl) ?_
        refine lv_aload hx hb dX1_common_2_202 (lv_at hl 2 rfl) ?_
        refine lv_aload hx hb dX1_common_2_204 (lv_at hl 3 rfl) ?_
        refine x_cV (k := 0) (As := [.ref (b + x6), .ref (b + x7)]) (rest := []) ⟨hx, hb, hml, hown, hts⟩ (mx1_leaves_2 l G b hole x6 x7 K T hk_x6 hk_x7 _ h) (cwV 2 hts (lw_V q1116 q1118 qs52 q118 q1119) rfl rfl rfl cwx_X1_leaves_2 ⟨Nat.le_of_ble_eq_true rfl, Nat.le_of_ble_eq_true rfl⟩) (x_recv (CC := RX1) (ci := 0) hK hP (xs_0 hP) (by decide) (by decide) rfl (xE_8 (xs_0 hP))) hK hV hb0 hP hS rfl hl.1 rfl (Nat.le_of_ble_eq_true rfl) dX1_common_2_206 ⟨by first | exact Nat.zero_le _ | (show _ + _ ≤ Z - kc K0; omega), by first | exact Nat.zero_le _ | (show _ + _ ≤ Y - ks K0; omega)⟩ (fun r_71 T1 K1 H locs h hle1 hc1 hs1 hP hS => ?_)
        obtain ⟨h, hKe⟩ := h
        rw [hKe] at hP
        generalize T1 = T_72 at h hP
        refine lv_aload hx hb dX1_common_2_209 (lv_at hl 2 rfl) ?_
        refine lv_astore (lv' := [(8, .ref (b + x6)), (0, .ref (b + 0)), (5, .int x5), (6, .ref (b + x6)), (7, .ref (b + x7))]) hx hb dX1_common_2_211 hl (by decide) rfl (fun ls hl => ?_)
        refine lv_aload hx hb dX1_common_2_213 (lv_at hl 4 rfl) ?_
        refine lv_astore (lv' := [(6, .ref (b + x7)), (8, .ref (b + x6)), (0, .ref (b + 0)), (5, .int x5), (7, .ref (b + x7))]) hx hb dX1_common_2_215 hl (by decide) rfl (fun ls hl => ?_)
        refine lv_aload hx hb dX1_common_2_217 (lv_at hl 1 rfl) ?_
        refine lv_astore (lv' := [(7, .ref (b + x6)), (6, .ref (b + x7)), (8, .ref (b + x6)), (0, .ref (b + 0)), (5, .int x5)]) hx hb dX1_common_2_219 hl (by decide) rfl (fun ls hl => ?_)
        refine lv_goto (tgt := 193) hx hb dX1_common_2_221 (by decide) ?_
        obtain ⟨mm, hmm, h⟩ := h
        exact ih193 mm hmm _ _ _ _ _ _ hk_x7 hk_x6 hP hS (lv_sub hl [3, 4, 1, 0] rfl) h
  have J139 : ∀ (x3 : Nat) (x4 : Nat) (x5 : Int32) (T : XT) (K : XK) (cn sn : Nat) (H : Heap) (locs : List Loc) (ls : Array Slot), wx1_common_2_j139 p1 p2 Z Y post x3 x4 x5 K T → kle K0 K → kc K0 + cn = kc K → ks K0 + sn = ks K → kc K ≤ Z → ks K ≤ Y → (kd K x3 = 1) → (kd K x4 = 1) → (kd K p1 = 2) → (kd K p2 = 2) → xW G b hole K T H → va_S (xA b hole) s.heap H locs → lv_has ls 14 [(0, .ref (b + 0)), (3, .ref (b + x3)), (4, .ref (b + x4)), (5, .int x5)] → W p l e (headSpec (ws_ yX1_common_2 cX1_common_2 14 (some (.object "TermDesk$Poly"))) ({ frames := 8, cells := (Z - kc K0), slots := (Y - ks K0), locals := 186 } : Room)).room s m ([.ref (b + 0), .ref (b + p1), .ref (b + p2)] : List Value).toArray below meth c H locs cn sn (MQ below (xQ G b hole K0 (Z - kc K0) (Y - ks K0) (ρ := Nat) (eR b) (fun r T1 K1 => post r T1 K1 ∧ kd K1 r = 2)) ([.ref (b + 0), .ref (b + p1), .ref (b + p2)] : List Value).toArray s (Z - kc K0) (Y - ks K0) (xA b hole)) (F0 m 139 ls []) := by
    intro x3 x4 x5 T K cn sn H locs ls h hle0 hcn hsn hzz hyy hk_x3 hk_x4 hk_p1 hk_p2 hP hS hl
    unfold wx1_common_2_j139 at h
    refine lv_aload_n hx hb dX1_common_2_139 rfl (lv_at hl 0 rfl) ?_
    refine x_get (CC := RX1) (TT := TX1) (N := 26) (ci := 0) (v := .ref (b + 75)) hx hb hts in_X1 hown hK hP (xs_0 hP) (by decide) (by decide) rfl (xE_8 (xs_0 hP)) 11 (by decide) q396 rfl rfl dX1_common_2_140 ?_
    refine lv_iconst (v := 0) hx hb dX1_common_2_143 (by decide) ?_
    refine x_cS (As := [.ref (b + 75), .int 0]) (rest := []) ⟨hx, hb, hml, hown, hts⟩ (mxJ3_fill_2 l G b hole 75 0 K T (xs_75 hP) _ h) (va_cwS 2 hts (lw_S q741 q742 q127 q743) rfl rfl rfl cwx_J3_fill_2 ⟨Nat.le_of_ble_eq_true rfl, Nat.le_of_ble_eq_true rfl⟩) hK hV hb0 hP hS rfl hl.1 rfl (Nat.le_of_ble_eq_true rfl) dX1_common_2_144 ⟨by first | exact Nat.zero_le _ | (show _ + _ ≤ Z - kc K0; omega), by first | exact Nat.zero_le _ | (show _ + _ ≤ Y - ks K0; omega)⟩ (fun r_75 T1 K1 H locs h hle1 hc1 hs1 hP hS => ?_)
    obtain ⟨h, hKe⟩ := h
    rw [hKe] at hP
    generalize T1 = T_76 at h hP
    refine lv_aload_n hx hb dX1_common_2_147 rfl (lv_at hl 1 rfl) ?_
    refine lv_iconst (v := 0) hx hb dX1_common_2_148 (by decide) ?_
    refine lv_aload_n hx hb dX1_common_2_149 rfl (lv_at hl 0 rfl) ?_
    refine x_get (CC := RX1) (TT := TX1) (N := 26) (ci := 0) (v := .ref (b + 75)) hx hb hts in_X1 hown hK hP (xs_0 hP) (by decide) (by decide) rfl (xE_8 (xs_0 hP)) 11 (by decide) q396 rfl rfl dX1_common_2_150 ?_
    refine lv_iconst (v := 0) hx hb dX1_common_2_153 (by decide) ?_
    refine lv_aload_n hx hb dX1_common_2_154 rfl (lv_at hl 1 rfl) ?_
    refine x_alen1 hx hb hK hP hk_x3 dX1_common_2_155 ?_
    obtain ⟨sp_78, dp_79, n_80, ea1, ea2, ea3, ea4, ea5, h⟩ := h
    obtain ⟨T_81, eT_81⟩ : ∃ z : XT, z = xcpy T_76 x3 75 sp_78 dp_79 n_80 := ⟨_, rfl⟩
    have h := h T_81 eT_81
    refine x_copyi hx hb (hml.trans hl.1.symm) hown hts q1112 q929 q928 q136 hK hP hS hk_x3 (xs_75 hP) ea1 ea2 ea3 ea4 (by rw [xl_75 hP]; exact ea5) (Nat.le_of_ble_eq_true rfl) (Nat.le_of_ble_eq_true rfl) dX1_common_2_156 (fun H locs hP hS => ?_)
    rw [← eT_81] at hP
    refine lv_aload_n hx hb dX1_common_2_159 rfl (lv_at hl 0 rfl) ?_
    refine x_get (CC := RX1) (TT := TX1) (N := 26) (ci := 0) (v := .ref (b + 76)) hx hb hts in_X1 hown hK hP (xs_0 hP) (by decide) (by decide) rfl (xE_8 (xs_0 hP)) 12 (by decide) q397 rfl rfl dX1_common_2_160 ?_
    refine lv_iconst (v := 0) hx hb dX1_common_2_163 (by decide) ?_
    refine x_cS (As := [.ref (b + 76), .int 0]) (rest := []) ⟨hx, hb, hml, hown, hts⟩ (mxJ3_fill_2 l G b hole 76 0 K T_81 (xs_76 hP) _ h) (va_cwS 2 hts (lw_S q741 q742 q127 q743) rfl rfl rfl cwx_J3_fill_2 ⟨Nat.le_of_ble_eq_true rfl, Nat.le_of_ble_eq_true rfl⟩) hK hV hb0 hP hS rfl hl.1 rfl (Nat.le_of_ble_eq_true rfl) dX1_common_2_164 ⟨by first | exact Nat.zero_le _ | (show _ + _ ≤ Z - kc K0; omega), by first | exact Nat.zero_le _ | (show _ + _ ≤ Y - ks K0; omega)⟩ (fun r_82 T1 K1 H locs h hle1 hc1 hs1 hP hS => ?_)
    obtain ⟨h, hKe⟩ := h
    rw [hKe] at hP
    generalize T1 = T_83 at h hP
    refine lv_aload hx hb dX1_common_2_167 (lv_at hl 2 rfl) ?_
    refine lv_iconst (v := 0) hx hb dX1_common_2_169 (by decide) ?_
    refine lv_aload_n hx hb dX1_common_2_170 rfl (lv_at hl 0 rfl) ?_
    refine x_get (CC := RX1) (TT := TX1) (N := 26) (ci := 0) (v := .ref (b + 76)) hx hb hts in_X1 hown hK hP (xs_0 hP) (by decide) (by decide) rfl (xE_8 (xs_0 hP)) 12 (by decide) q397 rfl rfl dX1_common_2_171 ?_
    refine lv_iconst (v := 0) hx hb dX1_common_2_174 (by decide) ?_
    refine lv_aload hx hb dX1_common_2_175 (lv_at hl 2 rfl) ?_
    refine x_alen1 hx hb hK hP hk_x4 dX1_common_2_177 ?_
    obtain ⟨sp_85, dp_86, n_87, ea1, ea2, ea3, ea4, ea5, h⟩ := h
    obtain ⟨T_88, eT_88⟩ : ∃ z : XT, z = xcpy T_83 x4 76 sp_85 dp_86 n_87 := ⟨_, rfl⟩
    have h := h T_88 eT_88
    refine x_copyi hx hb (hml.trans hl.1.symm) hown hts q1112 q929 q928 q136 hK hP hS hk_x4 (xs_76 hP) ea1 ea2 ea3 ea4 (by rw [xl_76 hP]; exact ea5) (Nat.le_of_ble_eq_true rfl) (Nat.le_of_ble_eq_true rfl) dX1_common_2_178 (fun H locs hP hS => ?_)
    rw [← eT_88] at hP
    refine lv_aload_n hx hb dX1_common_2_181 rfl (lv_at hl 0 rfl) ?_
    refine x_get (CC := RX1) (TT := TX1) (N := 26) (ci := 0) (v := .ref (b + 75)) hx hb hts in_X1 hown hK hP (xs_0 hP) (by decide) (by decide) rfl (xE_8 (xs_0 hP)) 11 (by decide) q396 rfl rfl dX1_common_2_182 ?_
    refine lv_astore (lv' := [(6, .ref (b + 75)), (0, .ref (b + 0)), (3, .ref (b + x3)), (4, .ref (b + x4)), (5, .int x5)]) hx hb dX1_common_2_185 hl (by decide) rfl (fun ls hl => ?_)
    refine lv_aload_n hx hb dX1_common_2_187 rfl (lv_at hl 1 rfl) ?_
    refine x_get (CC := RX1) (TT := TX1) (N := 26) (ci := 0) (v := .ref (b + 76)) hx hb hts in_X1 hown hK hP (xs_0 hP) (by decide) (by decide) rfl (xE_8 (xs_0 hP)) 12 (by decide) q397 rfl rfl dX1_common_2_188 ?_
    refine lv_astore (lv' := [(7, .ref (b + 76)), (6, .ref (b + 75)), (0, .ref (b + 0)), (3, .ref (b + x3)), (4, .ref (b + x4)), (5, .int x5)]) hx hb dX1_common_2_191 hl (by decide) rfl (fun ls hl => ?_)
    exact L193 _ _ _ _ _ _ _ _ _ _ h hle0 hcn hsn hzz hyy (xs_75 hP) (xs_76 hP) hk_p1 hk_p2 hP hS (lv_sub hl [2, 5, 1, 0] rfl)
  have L60 : ∀ (x3 : Nat) (x4 : Nat) (T : XT) (K : XK) (cn sn : Nat) (H : Heap) (locs : List Loc) (ls : Array Slot), wx1_common_2_l60 p1 p2 Z Y post x3 x4  K T → kle K0 K → kc K0 + cn = kc K → ks K0 + sn = ks K → kc K ≤ Z → ks K ≤ Y → (kd K x3 = 1) → (kd K x4 = 1) → (kd K p1 = 2) → (kd K p2 = 2) → xW G b hole K T H → va_S (xA b hole) s.heap H locs → lv_has ls 14 [(0, .ref (b + 0)), (3, .ref (b + x3)), (4, .ref (b + x4))] → W p l e (headSpec (ws_ yX1_common_2 cX1_common_2 14 (some (.object "TermDesk$Poly"))) ({ frames := 8, cells := (Z - kc K0), slots := (Y - ks K0), locals := 186 } : Room)).room s m ([.ref (b + 0), .ref (b + p1), .ref (b + p2)] : List Value).toArray below meth c H locs cn sn (MQ below (xQ G b hole K0 (Z - kc K0) (Y - ks K0) (ρ := Nat) (eR b) (fun r T1 K1 => post r T1 K1 ∧ kd K1 r = 2)) ([.ref (b + 0), .ref (b + p1), .ref (b + p2)] : List Value).toArray s (Z - kc K0) (Y - ks K0) (xA b hole)) (F0 m 60 ls []) := by
    intro x3 x4 T K cn sn H locs ls h hle0 hcn hsn hzz hyy hk_x3 hk_x4 hk_p1 hk_p2 hP hS hl
    obtain ⟨I60, n60, hI, hstep60⟩ := h
    induction n60 using Nat.strongRecOn generalizing T K cn sn H locs ls with
    | ind n60 ih60 =>
      have h : wx1_common_2_b60 p1 p2 Z Y post (fun T K => ∃ mm, mm < n60 ∧ I60 mm (T, K)) x3 x4  K T := hstep60 n60 _ hI
      clear hI
      have J99 : ∀  (T : XT) (K : XK) (cn sn : Nat) (H : Heap) (locs : List Loc) (ls : Array Slot), wx1_common_2_j99 p1 p2 Z Y post (fun T K => ∃ mm, mm < n60 ∧ I60 mm (T, K)) x3 x4 K T → kle K0 K → kc K0 + cn = kc K → ks K0 + sn = ks K → kc K ≤ Z → ks K ≤ Y → (kd K x3 = 1) → (kd K x4 = 1) → (kd K p1 = 2) → (kd K p2 = 2) → xW G b hole K T H → va_S (xA b hole) s.heap H locs → lv_has ls 14 [(0, .ref (b + 0)), (3, .ref (b + x3)), (4, .ref (b + x4))] → W p l e (headSpec (ws_ yX1_common_2 cX1_common_2 14 (some (.object "TermDesk$Poly"))) ({ frames := 8, cells := (Z - kc K0), slots := (Y - ks K0), locals := 186 } : Room)).room s m ([.ref (b + 0), .ref (b + p1), .ref (b + p2)] : List Value).toArray below meth c H locs cn sn (MQ below (xQ G b hole K0 (Z - kc K0) (Y - ks K0) (ρ := Nat) (eR b) (fun r T1 K1 => post r T1 K1 ∧ kd K1 r = 2)) ([.ref (b + 0), .ref (b + p1), .ref (b + p2)] : List Value).toArray s (Z - kc K0) (Y - ks K0) (xA b hole)) (F0 m 99 ls []) := by
        intro  T K cn sn H locs ls h hle0 hcn hsn hzz hyy hk_x3 hk_x4 hk_p1 hk_p2 hP hS hl
        unfold wx1_common_2_j99 at h
        refine lv_aload_n hx hb dX1_common_2_99 rfl (lv_at hl 0 rfl) ?_
        obtain ⟨v_89, ev_89, h⟩ := h
        refine x_get (CC := RX1) (TT := TX1) (N := 26) (ci := 0) (v := rfv b (xr T 0 9)) hx hb hts in_X1 hown hK hP (xs_0 hP) (by decide) (by decide) rfl (xE_8 (xs_0 hP)) 9 (by decide) q394 rfl rfl dX1_common_2_100 ?_
        refine x_some ev_89 ?_
        have hk_v_89 : kd K v_89 = 4 := hP.ty (xs_0 hP) (by decide) ev_89
        refine lv_astore (lv' := [(5, .ref (b + v_89)), (0, .ref (b + 0)), (3, .ref (b + x3)), (4, .ref (b + x4))]) hx hb dX1_common_2_103 hl (by decide) rfl (fun ls hl => ?_)
        refine lv_aload_n hx hb dX1_common_2_105 rfl (lv_at hl 1 rfl) ?_
        refine lv_aload_n hx hb dX1_common_2_106 rfl (lv_at hl 1 rfl) ?_
        obtain ⟨v_90, ev_90, h⟩ := h
        refine x_get (CC := RX1) (TT := TX1) (N := 26) (ci := 0) (v := rfv b (xr T 0 10)) hx hb hts in_X1 hown hK hP (xs_0 hP) (by decide) (by decide) rfl (xE_8 (xs_0 hP)) 10 (by decide) q395 rfl rfl dX1_common_2_107 ?_
        refine x_some ev_90 ?_
        have hk_v_90 : kd K v_90 = 4 := hP.ty (xs_0 hP) (by decide) ev_90
        obtain ⟨T_91, eT_91⟩ : ∃ z : XT, z = xwr T 0 9 (some v_90) := ⟨_, rfl⟩
        have h := h T_91 eT_91
        refine x_put (CC := RX1) (TT := TX1) (N := 26) (ci := 0) (T1 := T_91) (v := .ref (b + v_90)) (ty := _) (fsf := fun T => fs8 (gem G) b T 0) hx hb hts in_X1 tyX1 tyX1_ok nmX1 hown hK hP hS (xs_0 hP) (by decide) (by decide) rfl (fun _ => xE_8 (xs_0 hP)) rfl 9 (by decide) q394 rfl (Or.inl rfl) rfl rfl rfl (by rw [eT_91]; exact fw8_9 _ b T 0 (some v_90)) (by rw [eT_91]; exact fun _ _ => rfl) (by rw [eT_91]; exact fun q hq => xwr_r hq) (by rw [eT_91]; exact xwr_ty hP (by rw [(xs_0 hP)]; decide) (fun p e9 => by cases e9; rw [hk_v_90, (xs_0 hP)]; exact ⟨rfl, by decide⟩)) dX1_common_2_110 (fun H locs hP hS => ?_)
        refine lv_aload_n hx hb dX1_common_2_113 rfl (lv_at hl 1 rfl) ?_
        refine lv_aload hx hb dX1_common_2_114 (lv_at hl 0 rfl) ?_
        obtain ⟨T_92, eT_92⟩ : ∃ z : XT, z = xwr T_91 0 10 (some v_89) := ⟨_, rfl⟩
        have h := h T_92 eT_92
        refine x_put (CC := RX1) (TT := TX1) (N := 26) (ci := 0) (T1 := T_92) (v := .ref (b + v_89)) (ty := _) (fsf := fun T => fs8 (gem G) b T 0) hx hb hts in_X1 tyX1 tyX1_ok nmX1 hown hK hP hS (xs_0 hP) (by decide) (by decide) rfl (fun _ => xE_8 (xs_0 hP)) rfl 10 (by decide) q395 rfl (Or.inl rfl) rfl rfl rfl (by rw [eT_92]; exact fw8_10 _ b T_91 0 (some v_89)) (by rw [eT_92]; exact fun _ _ => rfl) (by rw [eT_92]; exact fun q hq => xwr_r hq) (by rw [eT_92]; exact xwr_ty hP (by rw [(xs_0 hP)]; decide) (fun p e9 => by cases e9; rw [hk_v_89, (xs_0 hP)]; exact ⟨rfl, by decide⟩)) dX1_common_2_116 (fun H locs hP hS => ?_)
        refine lv_goto (tgt := 60) hx hb dX1_common_2_119 (by decide) ?_
        obtain ⟨mm, hmm, h⟩ := h
        exact ih60 mm hmm _ _ _ _ _ _ _ hle0 hcn hsn hzz hyy hk_x3 hk_x4 hk_p1 hk_p2 hP hS (lv_sub hl [1, 2, 3] rfl) h
      unfold wx1_common_2_b60 at h
      refine lv_aload_n hx hb dX1_common_2_60 rfl (lv_at hl 0 rfl) ?_
      obtain ⟨v_93, ev_93, h⟩ := h
      refine x_get (CC := RX1) (TT := TX1) (N := 26) (ci := 0) (v := rfv b (xr T 0 10)) hx hb hts in_X1 hown hK hP (xs_0 hP) (by decide) (by decide) rfl (xE_8 (xs_0 hP)) 10 (by decide) q395 rfl rfl dX1_common_2_61 ?_
      refine x_some ev_93 ?_
      have hk_v_93 : kd K v_93 = 4 := hP.ty (xs_0 hP) (by decide) ev_93
      refine x_cS (As := [.ref (b + v_93)]) (rest := []) ⟨hx, hb, hml, hown, hts⟩ (mx1_topRow l G b hole v_93 K T hk_v_93 _ h) (va_cwS 1 hts (lw_S q1126 q1127 q118 q1128) rfl rfl rfl cwx_X1_topRow ⟨Nat.le_of_ble_eq_true rfl, Nat.le_of_ble_eq_true rfl⟩) hK hV hb0 hP hS rfl hl.1 rfl (Nat.le_of_ble_eq_true rfl) dX1_common_2_64 ⟨by first | exact Nat.zero_le _ | (show _ + _ ≤ Z - kc K0; omega), by first | exact Nat.zero_le _ | (show _ + _ ≤ Y - ks K0; omega)⟩ (fun r_94 T1 K1 H locs h hle1 hc1 hs1 hP hS => ?_)
      obtain ⟨h, hTe, hKe⟩ := h
      rw [hTe, hKe] at hP
      refine lv_if_le (tgt := 122) hx hb dX1_common_2_67 (by decide) (fun c_118 => ?_) (fun c_118 => ?_)
      · have h := h.1 c_118
        refine lv_aload_n hx hb dX1_common_2_122 rfl (lv_at hl 0 rfl) ?_
        obtain ⟨v_97, ev_97, h⟩ := h
        refine x_get (CC := RX1) (TT := TX1) (N := 26) (ci := 0) (v := rfv b (xr T 0 10)) hx hb hts in_X1 hown hK hP (xs_0 hP) (by decide) (by decide) rfl (xE_8 (xs_0 hP)) 10 (by decide) q395 rfl rfl dX1_common_2_123 ?_
        refine x_some ev_97 ?_
        have hk_v_97 : kd K v_97 = 4 := hP.ty (xs_0 hP) (by decide) ev_97
        refine x_cS (As := [.ref (b + v_97)]) (rest := []) ⟨hx, hb, hml, hown, hts⟩ (mx1_topRow l G b hole v_97 K T hk_v_97 _ h) (va_cwS 1 hts (lw_S q1126 q1127 q118 q1128) rfl rfl rfl cwx_X1_topRow ⟨Nat.le_of_ble_eq_true rfl, Nat.le_of_ble_eq_true rfl⟩) hK hV hb0 hP hS rfl hl.1 rfl (Nat.le_of_ble_eq_true rfl) dX1_common_2_126 ⟨by first | exact Nat.zero_le _ | (show _ + _ ≤ Z - kc K0; omega), by first | exact Nat.zero_le _ | (show _ + _ ≤ Y - ks K0; omega)⟩ (fun r_98 T1 K1 H locs h hle1 hc1 hs1 hP hS => ?_)
        obtain ⟨h, hTe, hKe⟩ := h
        rw [hTe, hKe] at hP
        refine lv_if_ne (tgt := 136) hx hb dX1_common_2_129 (by decide) (fun c_101 => ?_) (fun c_101 => ?_)
        · have h := h.1 c_101
          refine lv_iconst (v := 0) hx hb dX1_common_2_136 (by decide) ?_
          refine lv_istore (lv' := [(5, .int 0), (0, .ref (b + 0)), (3, .ref (b + x3)), (4, .ref (b + x4))]) hx hb dX1_common_2_137 hl (by decide) rfl (fun ls hl => ?_)
          exact J139 _ _ _ _ _ _ _ _ _ _ h hle0 hcn hsn hzz hyy hk_x3 hk_x4 hk_p1 hk_p2 hP hS (lv_sub hl [1, 2, 3, 0] rfl)
        · have h := h.2 c_101
          refine lv_iconst (v := 1) hx hb dX1_common_2_132 (by decide) ?_
          refine lv_goto (tgt := 137) hx hb dX1_common_2_133 (by decide) ?_
          refine lv_istore (lv' := [(5, .int 1), (0, .ref (b + 0)), (3, .ref (b + x3)), (4, .ref (b + x4))]) hx hb dX1_common_2_137 hl (by decide) rfl (fun ls hl => ?_)
          exact J139 _ _ _ _ _ _ _ _ _ _ h hle0 hcn hsn hzz hyy hk_x3 hk_x4 hk_p1 hk_p2 hP hS (lv_sub hl [1, 2, 3, 0] rfl)
      · have h := h.2 c_118
        refine lv_aload_n hx hb dX1_common_2_70 rfl (lv_at hl 0 rfl) ?_
        obtain ⟨v_102, ev_102, h⟩ := h
        refine x_get (CC := RX1) (TT := TX1) (N := 26) (ci := 0) (v := rfv b (xr T 0 9)) hx hb hts in_X1 hown hK hP (xs_0 hP) (by decide) (by decide) rfl (xE_8 (xs_0 hP)) 9 (by decide) q394 rfl rfl dX1_common_2_71 ?_
        refine x_some ev_102 ?_
        have hk_v_102 : kd K v_102 = 4 := hP.ty (xs_0 hP) (by decide) ev_102
        refine x_cS (As := [.ref (b + v_102)]) (rest := []) ⟨hx, hb, hml, hown, hts⟩ (mx1_topRow l G b hole v_102 K T hk_v_102 _ h) (va_cwS 1 hts (lw_S q1126 q1127 q118 q1128) rfl rfl rfl cwx_X1_topRow ⟨Nat.le_of_ble_eq_true rfl, Nat.le_of_ble_eq_true rfl⟩) hK hV hb0 hP hS rfl hl.1 rfl (Nat.le_of_ble_eq_true rfl) dX1_common_2_74 ⟨by first | exact Nat.zero_le _ | (show _ + _ ≤ Z - kc K0; omega), by first | exact Nat.zero_le _ | (show _ + _ ≤ Y - ks K0; omega)⟩ (fun r_103 T1 K1 H locs h hle1 hc1 hs1 hP hS => ?_)
        obtain ⟨h, hTe, hKe⟩ := h
        rw [hTe, hKe] at hP
        refine lv_aload_n hx hb dX1_common_2_77 rfl (lv_at hl 0 rfl) ?_
        obtain ⟨v_106, ev_106, h⟩ := h
        refine x_get (CC := RX1) (TT := TX1) (N := 26) (ci := 0) (v := rfv b (xr T 0 10)) hx hb hts in_X1 hown hK hP (xs_0 hP) (by decide) (by decide) rfl (xE_8 (xs_0 hP)) 10 (by decide) q395 rfl rfl dX1_common_2_78 ?_
        refine x_some ev_106 ?_
        have hk_v_106 : kd K v_106 = 4 := hP.ty (xs_0 hP) (by decide) ev_106
        refine x_cS (As := [.ref (b + v_106)]) (rest := [.int r_103]) ⟨hx, hb, hml, hown, hts⟩ (mx1_topRow l G b hole v_106 K T hk_v_106 _ h) (va_cwS 1 hts (lw_S q1126 q1127 q118 q1128) rfl rfl rfl cwx_X1_topRow ⟨Nat.le_of_ble_eq_true rfl, Nat.le_of_ble_eq_true rfl⟩) hK hV hb0 hP hS rfl hl.1 rfl (Nat.le_of_ble_eq_true rfl) dX1_common_2_81 ⟨by first | exact Nat.zero_le _ | (show _ + _ ≤ Z - kc K0; omega), by first | exact Nat.zero_le _ | (show _ + _ ≤ Y - ks K0; omega)⟩ (fun r_107 T1 K1 H locs h hle1 hc1 hs1 hP hS => ?_)
        obtain ⟨h, hTe, hKe⟩ := h
        rw [hTe, hKe] at hP
        refine lv_icmp_lt (tgt := 99) hx hb dX1_common_2_84 (by decide) (fun c_117 => ?_) (fun c_117 => ?_)
        · have h := h.1 c_117
          exact J99 _ _ _ _ _ _ _ h hle0 hcn hsn hzz hyy hk_x3 hk_x4 hk_p1 hk_p2 hP hS (lv_sub hl [0, 1, 2] rfl)
        · have h := h.2 c_117
          refine lv_aload_n hx hb dX1_common_2_87 rfl (lv_at hl 0 rfl) ?_
          refine lv_aload_n hx hb dX1_common_2_88 rfl (lv_at hl 0 rfl) ?_
          obtain ⟨v_110, ev_110, h⟩ := h
          refine x_get (CC := RX1) (TT := TX1) (N := 26) (ci := 0) (v := rfv b (xr T 0 9)) hx hb hts in_X1 hown hK hP (xs_0 hP) (by decide) (by decide) rfl (xE_8 (xs_0 hP)) 9 (by decide) q394 rfl rfl dX1_common_2_89 ?_
          refine x_some ev_110 ?_
          have hk_v_110 : kd K v_110 = 4 := hP.ty (xs_0 hP) (by decide) ev_110
          refine lv_aload_n hx hb dX1_common_2_92 rfl (lv_at hl 0 rfl) ?_
          obtain ⟨v_111, ev_111, h⟩ := h
          refine x_get (CC := RX1) (TT := TX1) (N := 26) (ci := 0) (v := rfv b (xr T 0 10)) hx hb hts in_X1 hown hK hP (xs_0 hP) (by decide) (by decide) rfl (xE_8 (xs_0 hP)) 10 (by decide) q395 rfl rfl dX1_common_2_93 ?_
          refine x_some ev_111 ?_
          have hk_v_111 : kd K v_111 = 4 := hP.ty (xs_0 hP) (by decide) ev_111
          obtain ⟨Z_115, Y_116, hz1, hz2, hy1, hy2, h⟩ := h
          refine x_cV (k := 0) (As := [.ref (b + v_110), .ref (b + v_111)]) (rest := []) ⟨hx, hb, hml, hown, hts⟩ (mx1_leaves_3 l G b hole v_110 v_111 K T Z_115 Y_116 hz1 hy1 hk_v_110 hk_v_111 _ h) (cwV 2 hts (lw_V q1129 q1131 qs54 q118 q1132) rfl rfl rfl cwx_X1_leaves_3 ⟨Nat.le_of_ble_eq_true rfl, Nat.le_of_ble_eq_true rfl⟩) (x_recv (CC := RX1) (ci := 0) hK hP (xs_0 hP) (by decide) (by decide) rfl (xE_8 (xs_0 hP))) hK hV hb0 hP hS rfl hl.1 rfl (Nat.le_of_ble_eq_true rfl) dX1_common_2_96 ⟨by first | exact Nat.zero_le _ | (show _ + _ ≤ Z - kc K0; omega), by first | exact Nat.zero_le _ | (show _ + _ ≤ Y - ks K0; omega)⟩ (fun r_112 T1 K1 H locs h hle1 hc1 hs1 hP hS => ?_)
          generalize T1 = T_113 at h hP
          generalize K1 = K_114 at h hP hle1 hc1 hs1
          have hk_x3 : kd K_114 x3 = 1 := hle1.kd hk_x3
          have hk_x4 : kd K_114 x4 = 1 := hle1.kd hk_x4
          have hk_p1 : kd K_114 p1 = 2 := hle1.kd hk_p1
          have hk_p2 : kd K_114 p2 = 2 := hle1.kd hk_p2
          have hle0 := hle0.tr hle1
          have hcn : kc K0 + (cn + (Z_115 - kc K)) = kc K_114 := by omega
          have hsn : ks K0 + (sn + (Y_116 - ks K)) = ks K_114 := by omega
          have hzz : kc K_114 ≤ Z := by omega
          have hyy : ks K_114 ≤ Y := by omega
          exact J99 _ _ _ _ _ _ _ h hle0 hcn hsn hzz hyy hk_x3 hk_x4 hk_p1 hk_p2 hP hS (lv_sub hl [0, 1, 2] rfl)
  have hcn : kc K0 + 0 = kc K0 := rfl
  have hsn : ks K0 + 0 = ks K0 := rfl
  have hzz := hZ
  have hyy := hY
  unfold wx1_common_2 at h
  refine lv_aload_n hx hb dX1_common_2_0 rfl (lv_at hl 1 rfl) ?_
  refine x_cV (k := p1) (As := []) (rest := []) ⟨hx, hb, hml, hown, hts⟩ (mx6_isZero l G b hole p1 K0 T hk_p1 _ h) (cwV 0 hts (lw_V q785 q786 q787 q126 q788) rfl rfl rfl cwx_X6_isZero ⟨Nat.le_of_ble_eq_true rfl, Nat.le_of_ble_eq_true rfl⟩) (x_recv (CC := RX6) (ci := 5) hK hP hk_p1 (by decide) (by decide) rfl (xE_2 hk_p1)) hK hV hb0 hP hS rfl hl.1 rfl (Nat.le_of_ble_eq_true rfl) dX1_common_2_1 ⟨by first | exact Nat.zero_le _ | (show _ + _ ≤ Z - kc K0; omega), by first | exact Nat.zero_le _ | (show _ + _ ≤ Y - ks K0; omega)⟩ (fun r_119 T1 K1 H locs h hle1 hc1 hs1 hP hS => ?_)
  obtain ⟨h, hTe, hKe⟩ := h
  rw [hTe, hKe] at hP
  refine lv_if_ne (tgt := 14) hx hb dX1_common_2_4 (by decide) (fun c_144 => ?_) (fun c_144 => ?_)
  · have h := h.1 c_144
    exact J14 _ _ _ _ _ _ _ h hle0 hcn hsn hzz hyy hk_p1 hk_p2 hP hS (lv_sub hl [0, 1, 2] rfl)
  · have h := h.2 c_144
    refine lv_aload_n hx hb dX1_common_2_7 rfl (lv_at hl 2 rfl) ?_
    refine x_cV (k := p2) (As := []) (rest := []) ⟨hx, hb, hml, hown, hts⟩ (mx6_isZero l G b hole p2 K0 T hk_p2 _ h) (cwV 0 hts (lw_V q785 q786 q787 q126 q788) rfl rfl rfl cwx_X6_isZero ⟨Nat.le_of_ble_eq_true rfl, Nat.le_of_ble_eq_true rfl⟩) (x_recv (CC := RX6) (ci := 5) hK hP hk_p2 (by decide) (by decide) rfl (xE_2 hk_p2)) hK hV hb0 hP hS rfl hl.1 rfl (Nat.le_of_ble_eq_true rfl) dX1_common_2_8 ⟨by first | exact Nat.zero_le _ | (show _ + _ ≤ Z - kc K0; omega), by first | exact Nat.zero_le _ | (show _ + _ ≤ Y - ks K0; omega)⟩ (fun r_122 T1 K1 H locs h hle1 hc1 hs1 hP hS => ?_)
    obtain ⟨h, hTe, hKe⟩ := h
    rw [hTe, hKe] at hP
    refine lv_if_eq (tgt := 31) hx hb dX1_common_2_11 (by decide) (fun c_143 => ?_) (fun c_143 => ?_)
    · have h := h.1 c_143
      refine lv_aload_n hx hb dX1_common_2_31 rfl (lv_at hl 0 rfl) ?_
      refine lv_aload_n hx hb dX1_common_2_32 rfl (lv_at hl 0 rfl) ?_
      refine lv_aload_n hx hb dX1_common_2_33 rfl (lv_at hl 1 rfl) ?_
      refine lv_aload_n hx hb dX1_common_2_34 rfl (lv_at hl 0 rfl) ?_
      obtain ⟨v_125, ev_125, h⟩ := h
      refine x_get (CC := RX1) (TT := TX1) (N := 26) (ci := 0) (v := rfv b (xr T 0 9)) hx hb hts in_X1 hown hK hP (xs_0 hP) (by decide) (by decide) rfl (xE_8 (xs_0 hP)) 9 (by decide) q394 rfl rfl dX1_common_2_35 ?_
      refine x_some ev_125 ?_
      have hk_v_125 : kd K0 v_125 = 4 := hP.ty (xs_0 hP) (by decide) ev_125
      refine x_cV (k := 0) (As := [.ref (b + p1), .ref (b + v_125)]) (rest := [.ref (b + 0)]) ⟨hx, hb, hml, hown, hts⟩ (mx1_lays_2 l G b hole p1 v_125 K0 T hk_p1 hk_v_125 _ h) (cwV 2 hts (lw_V q1100 q1102 qs49 q118 q1103) rfl rfl rfl cwx_X1_lays_2 ⟨Nat.le_of_ble_eq_true rfl, Nat.le_of_ble_eq_true rfl⟩) (x_recv (CC := RX1) (ci := 0) hK hP (xs_0 hP) (by decide) (by decide) rfl (xE_8 (xs_0 hP))) hK hV hb0 hP hS rfl hl.1 rfl (Nat.le_of_ble_eq_true rfl) dX1_common_2_38 ⟨by first | exact Nat.zero_le _ | (show _ + _ ≤ Z - kc K0; omega), by first | exact Nat.zero_le _ | (show _ + _ ≤ Y - ks K0; omega)⟩ (fun r_126 T1 K1 H locs h hle1 hc1 hs1 hP hS => ?_)
      obtain ⟨h, hk_r_126, hKe⟩ := h
      rw [hKe] at hP
      generalize T1 = T_127 at h hP
      rw [hKe] at hk_r_126
      obtain ⟨Z_132, Y_133, hz1, hz2, hy1, hy2, h⟩ := h
      refine x_cV (k := 0) (As := [.ref (b + r_126)]) (rest := []) ⟨hx, hb, hml, hown, hts⟩ (mx1_primitive l G b hole r_126 K0 T_127 Z_132 Y_133 hz1 hy1 hk_r_126 _ h) (cwV 1 hts (lw_V q1104 q1106 qs50 q118 q1107) rfl rfl rfl cwx_X1_primitive ⟨Nat.le_of_ble_eq_true rfl, Nat.le_of_ble_eq_true rfl⟩) (x_recv (CC := RX1) (ci := 0) hK hP (xs_0 hP) (by decide) (by decide) rfl (xE_8 (xs_0 hP))) hK hV hb0 hP hS rfl hl.1 rfl (Nat.le_of_ble_eq_true rfl) dX1_common_2_41 ⟨by first | exact Nat.zero_le _ | (show _ + _ ≤ Z - kc K0; omega), by first | exact Nat.zero_le _ | (show _ + _ ≤ Y - ks K0; omega)⟩ (fun r_129 T1 K1 H locs h hle1 hc1 hs1 hP hS => ?_)
      obtain ⟨h, hk_r_129⟩ := h
      generalize T1 = T_130 at h hP
      generalize K1 = K_131 at h hP hle1 hc1 hs1 hk_r_129
      have hk_p1 : kd K_131 p1 = 2 := hle1.kd hk_p1
      have hk_p2 : kd K_131 p2 = 2 := hle1.kd hk_p2
      have hle0 := hle0.tr hle1
      have hcn : kc K0 + (0 + (Z_132 - kc K0)) = kc K_131 := by omega
      have hsn : ks K0 + (0 + (Y_133 - ks K0)) = ks K_131 := by omega
      have hzz : kc K_131 ≤ Z := by omega
      have hyy : ks K_131 ≤ Y := by omega
      refine lv_astore_n (lv' := [(3, .ref (b + r_129)), (0, .ref (b + 0)), (1, .ref (b + p1)), (2, .ref (b + p2))]) hx hb dX1_common_2_44 rfl hl (by decide) rfl (fun ls hl => ?_)
      refine lv_aload_n hx hb dX1_common_2_45 rfl (lv_at hl 1 rfl) ?_
      refine lv_aload_n hx hb dX1_common_2_46 rfl (lv_at hl 1 rfl) ?_
      refine lv_aload_n hx hb dX1_common_2_47 rfl (lv_at hl 3 rfl) ?_
      refine lv_aload_n hx hb dX1_common_2_48 rfl (lv_at hl 1 rfl) ?_
      obtain ⟨v_134, ev_134, h⟩ := h
      refine x_get (CC := RX1) (TT := TX1) (N := 26) (ci := 0) (v := rfv b (xr T_130 0 10)) hx hb hts in_X1 hown hK hP (xs_0 hP) (by decide) (by decide) rfl (xE_8 (xs_0 hP)) 10 (by decide) q395 rfl rfl dX1_common_2_49 ?_
      refine x_some ev_134 ?_
      have hk_v_134 : kd K_131 v_134 = 4 := hP.ty (xs_0 hP) (by decide) ev_134
      refine x_cV (k := 0) (As := [.ref (b + p2), .ref (b + v_134)]) (rest := [.ref (b + 0)]) ⟨hx, hb, hml, hown, hts⟩ (mx1_lays_2 l G b hole p2 v_134 K_131 T_130 hk_p2 hk_v_134 _ h) (cwV 2 hts (lw_V q1100 q1102 qs49 q118 q1103) rfl rfl rfl cwx_X1_lays_2 ⟨Nat.le_of_ble_eq_true rfl, Nat.le_of_ble_eq_true rfl⟩) (x_recv (CC := RX1) (ci := 0) hK hP (xs_0 hP) (by decide) (by decide) rfl (xE_8 (xs_0 hP))) hK hV hb0 hP hS rfl hl.1 rfl (Nat.le_of_ble_eq_true rfl) dX1_common_2_52 ⟨by first | exact Nat.zero_le _ | (show _ + _ ≤ Z - kc K0; omega), by first | exact Nat.zero_le _ | (show _ + _ ≤ Y - ks K0; omega)⟩ (fun r_135 T1 K1 H locs h hle1 hc1 hs1 hP hS => ?_)
      obtain ⟨h, hk_r_135, hKe⟩ := h
      rw [hKe] at hP
      generalize T1 = T_136 at h hP
      rw [hKe] at hk_r_135
      obtain ⟨Z_141, Y_142, hz1, hz2, hy1, hy2, h⟩ := h
      refine x_cV (k := 0) (As := [.ref (b + r_135)]) (rest := []) ⟨hx, hb, hml, hown, hts⟩ (mx1_primitive l G b hole r_135 K_131 T_136 Z_141 Y_142 hz1 hy1 hk_r_135 _ h) (cwV 1 hts (lw_V q1104 q1106 qs50 q118 q1107) rfl rfl rfl cwx_X1_primitive ⟨Nat.le_of_ble_eq_true rfl, Nat.le_of_ble_eq_true rfl⟩) (x_recv (CC := RX1) (ci := 0) hK hP (xs_0 hP) (by decide) (by decide) rfl (xE_8 (xs_0 hP))) hK hV hb0 hP hS rfl hl.1 rfl (Nat.le_of_ble_eq_true rfl) dX1_common_2_55 ⟨by first | exact Nat.zero_le _ | (show _ + _ ≤ Z - kc K0; omega), by first | exact Nat.zero_le _ | (show _ + _ ≤ Y - ks K0; omega)⟩ (fun r_138 T1 K1 H locs h hle1 hc1 hs1 hP hS => ?_)
      obtain ⟨h, hk_r_138⟩ := h
      generalize T1 = T_139 at h hP
      generalize K1 = K_140 at h hP hle1 hc1 hs1 hk_r_138
      have hk_r_129 : kd K_140 r_129 = 1 := hle1.kd hk_r_129
      have hk_p1 : kd K_140 p1 = 2 := hle1.kd hk_p1
      have hk_p2 : kd K_140 p2 = 2 := hle1.kd hk_p2
      have hle0 := hle0.tr hle1
      have hcn : kc K0 + ((0 + (Z_132 - kc K0)) + (Z_141 - kc K_131)) = kc K_140 := by omega
      have hsn : ks K0 + ((0 + (Y_133 - ks K0)) + (Y_142 - ks K_131)) = ks K_140 := by omega
      have hzz : kc K_140 ≤ Z := by omega
      have hyy : ks K_140 ≤ Y := by omega
      refine lv_astore (lv' := [(4, .ref (b + r_138)), (3, .ref (b + r_129)), (0, .ref (b + 0)), (1, .ref (b + p1)), (2, .ref (b + p2))]) hx hb dX1_common_2_58 hl (by decide) rfl (fun ls hl => ?_)
      exact L60 _ _ _ _ _ _ _ _ _ h hle0 hcn hsn hzz hyy hk_r_129 hk_r_138 hk_p1 hk_p2 hP hS (lv_sub hl [2, 1, 0] rfl)
    · have h := h.2 c_143
      exact J14 _ _ _ _ _ _ _ h hle0 hcn hsn hzz hyy hk_p1 hk_p2 hP hS (lv_sub hl [0, 1, 2] rfl)
theorem cwx_X1_common : yX1_common.cls = RX1 ∧ yX1_common.cls ≠ "java/lang/invoke/MethodHandle" ∧ yX1_common.cls ≠ "java/lang/invoke/VarHandle" ∧ (parseMethodDescriptor yX1_common.desc).map (fun d => d.parameters.length) = some 3 := by decide +kernel
def wx1_common_j47 (p1 : Int32) (p2 : Int32) (p3 : Int32) (Z Y : Nat) (post : Int32 → XT → XK → Prop)  (K : XK) (T : XT) : Prop :=
    wx1_no 5 K T (fun r_1 T_2 =>
    post r_1 T_2 (kset K Z Y))
def wx1_common (p1 : Int32) (p2 : Int32) (p3 : Int32) (K0 : XK) (T : XT) (Z Y : Nat) (post : Int32 → XT → XK → Prop) : Prop :=
  kc K0 + 1 ≤ Z ∧ ks K0 + 3 ≤ Y ∧ ∀ K_4 : XK, K_4 = knew K0 1 3 3 → ∀ T_5 : XT, T_5 = xnil T (kz K0) →
  ∃ j_6 : Nat, j_6 < kl K_4 (kz K0) ∧ 0 = nI j_6 ∧ ∀ T_7 : XT, T_7 = xwi T_5 (kz K0) j_6 p1 →
  ∃ j_8 : Nat, j_8 < kl K_4 (kz K0) ∧ 1 = nI j_8 ∧ ∀ T_9 : XT, T_9 = xwi T_7 (kz K0) j_8 p2 →
  ∃ j_10 : Nat, j_10 < kl K_4 (kz K0) ∧ 2 = nI j_10 ∧ ∀ T_11 : XT, T_11 = xwi T_9 (kz K0) j_10 p3 →
  wx1_is (kz K0) K_4 T_11 (fun r_12 =>
  wx1_why r_12 K_4 T_11 (fun r_15 =>
  wx1_isRefused r_15 K_4 T_11 (fun r_18 T_19 =>
  ((r_18 = 0 →
    wx1_hasThird p1 K_4 T_19 (fun r_21 =>
    ((¬ r_21 = 0 →
      wx1_common_j47 p1 p2 p3 Z Y post  K_4 T_19) ∧
     (r_21 = 0 →
      wx1_hasThird p2 K_4 T_19 (fun r_24 =>
      ((r_24 = 0 →
        ∃ v_27 : Nat, xr T_19 0 18 = some v_27 ∧
        ∃ j_28 : Nat, j_28 < kl K_4 v_27 ∧ p1 = nI j_28 ∧ ∃ v_29 : Nat, xr T_19 v_27 j_28 = some v_29 ∧
        ∃ v_30 : Nat, xr T_19 0 18 = some v_30 ∧
        ∃ j_31 : Nat, j_31 < kl K_4 v_30 ∧ p2 = nI j_31 ∧ ∃ v_32 : Nat, xr T_19 v_30 j_31 = some v_32 ∧
        ∃ Z_36 Y_37 : Nat, kc K_4 ≤ Z_36 ∧ Z_36 ≤ Z ∧ ks K_4 ≤ Y_37 ∧ Y_37 ≤ Y ∧ wx1_common_2 v_29 v_32 K_4 T_19 Z_36 Y_37 (fun r_33 T_34 K_35 =>
        ∃ Z_41 Y_42 : Nat, kc K_35 ≤ Z_41 ∧ Z_41 ≤ Z ∧ ks K_35 ≤ Y_42 ∧ Y_42 ≤ Y ∧ wx1_lays (some r_33) p3 K_35 T_34 Z_41 Y_42 (fun r_38 T_39 K_40 =>
        post r_38 T_39 (kset K_40 Z Y)))) ∧
       (¬ (r_24 = 0) →
        wx1_common_j47 p1 p2 p3 Z Y post  K_4 T_19))))))) ∧
   (¬ (r_18 = 0) →
    post (-1) T_19 (kset K_4 Z Y))))))
set_option maxHeartbeats 4000000 in
theorem mx1_common (l : Launch) (G : XG) (b : Nat) (hole : Nat → Prop) (p1 : Int32) (p2 : Int32) (p3 : Int32) (K0 : XK) (T : XT) (Z Y : Nat) (hZ : kc K0 ≤ Z) (hY : ks K0 ≤ Y)  (post : Int32 → XT → XK → Prop) (h : wx1_common p1 p2 p3 K0 T Z Y post) : Met l yX1_common (ws_ yX1_common cX1_common 4 (some .int)) ({ frames := 9, cells := (Z - kc K0), slots := (Y - ks K0), locals := 219 } : Room) (xPc G b hole [.ref (b + 0), .int p1, .int p2, .int p3] K0 T) (xQ G b hole K0 (Z - kc K0) (Y - ks K0) (ρ := Int32) eI (fun r T1 K1 => post r T1 K1)) (Z - kc K0) (Y - ks K0) (xA b hole) := by
  refine Met.ofW (cc := cX1_common) (maxL := 4) (ret := (some .int)) (by decide) rfl ?_
  intro p e s m args below meth c s₁ B hml hv
  obtain ⟨rfl, hP, hK, hV⟩ := hv
  have hx := B.exec
  have hb := B.bytes
  have hr := B.returns
  have hts := atoms_spec (ws := ws_ yX1_common cX1_common 4 (some .int)) B.pre
  have hts : ∀ w ∈ lw_all, w.before _ s = true := fun w h => hts w (List.mem_cons_of_mem _ h)
  have hown : s.vm.findClass RX1 = some m.cls := findClass_of_methodNamed B.named
  have hlocks := B.notSynchronized
  have hb0 : b ≤ s.heap.size := by rw [hP.2.2.2]; exact Nat.le_add_right _ _
  have hS : va_S (xA b hole) s.heap s.heap [] := va_S.rf
  have hl := lv_entry ([.ref (b + 0), .int p1, .int p2, .int p3]) (n := 4) (Nat.le_of_ble_eq_true rfl)
  rw [lg_entry_eq]
  generalize (lg_sl ([.ref (b + 0), .int p1, .int p2, .int p3]) ++ List.replicate (4 - (lg_sl ([.ref (b + 0), .int p1, .int p2, .int p3])).length) Slot.unset).toArray = ls at hl ⊢
  have hl : lv_has ls 4 [(0, .ref (b + 0)), (1, .int p1), (2, .int p2), (3, .int p3)] := hl
  have hle0 : kle K0 K0 := kle.rf
  have J47 : ∀  (T : XT) (K : XK) (cn sn : Nat) (H : Heap) (locs : List Loc) (ls : Array Slot), wx1_common_j47 p1 p2 p3 Z Y post  K T → kle K0 K → kc K0 + cn = kc K → ks K0 + sn = ks K → kc K ≤ Z → ks K ≤ Y → xW G b hole K T H → va_S (xA b hole) s.heap H locs → lv_has ls 4 [(0, .ref (b + 0))] → W p l e (headSpec (ws_ yX1_common cX1_common 4 (some .int)) ({ frames := 9, cells := (Z - kc K0), slots := (Y - ks K0), locals := 219 } : Room)).room s m ([.ref (b + 0), .int p1, .int p2, .int p3] : List Value).toArray below meth c H locs cn sn (MQ below (xQ G b hole K0 (Z - kc K0) (Y - ks K0) (ρ := Int32) eI (fun r T1 K1 => post r T1 K1)) ([.ref (b + 0), .int p1, .int p2, .int p3] : List Value).toArray s (Z - kc K0) (Y - ks K0) (xA b hole)) (F0 m 47 ls []) := by
    intro  T K cn sn H locs ls h hle0 hcn hsn hzz hyy hP hS hl
    unfold wx1_common_j47 at h
    refine lv_aload_n hx hb dX1_common_47 rfl (lv_at hl 0 rfl) ?_
    refine lv_iconst (v := 5) hx hb dX1_common_48 (by decide) ?_
    refine x_cV (k := 0) (As := [.int 5]) (rest := []) ⟨hx, hb, hml, hown, hts⟩ (mx1_no l G b hole 5 K T  _ h) (cwV 1 hts (lw_V q486 q488 qs3 q118 q489) rfl rfl rfl cwx_X1_no ⟨Nat.le_of_ble_eq_true rfl, Nat.le_of_ble_eq_true rfl⟩) (x_recv (CC := RX1) (ci := 0) hK hP (xs_0 hP) (by decide) (by decide) rfl (xE_8 (xs_0 hP))) hK hV hb0 hP hS rfl hl.1 rfl (Nat.le_of_ble_eq_true rfl) dX1_common_49 ⟨by first | exact Nat.zero_le _ | (show _ + _ ≤ Z - kc K0; omega), by first | exact Nat.zero_le _ | (show _ + _ ≤ Y - ks K0; omega)⟩ (fun r_1 T1 K1 H locs h hle1 hc1 hs1 hP hS => ?_)
    obtain ⟨h, hKe⟩ := h
    rw [hKe] at hP
    generalize T1 = T_2 at h hP
    refine lv_goto (tgt := 76) hx hb dX1_common_52 (by decide) ?_
    refine W.widen (k := Z - kc K0) (n := Y - ks K0) (by omega) (by omega) ?_
    exact W.iret (v := r_1) hx hb hr (fun t ht hW => ⟨⟨r_1, T_2, (kset K Z Y), rfl, h, hle0, (by show Z = _; omega), (by show Y = _; omega), by rw [ht]; exact hP, va_K.moved hW.alike hK⟩, hS.F ht⟩) hS.2.2 dX1_common_76
  have hcn : kc K0 + 0 = kc K0 := rfl
  have hsn : ks K0 + 0 = ks K0 := rfl
  have hzz := hZ
  have hyy := hY
  unfold wx1_common at h
  refine lv_aload_n hx hb dX1_common_0 rfl (lv_at hl 0 rfl) ?_
  refine lv_aload_n hx hb dX1_common_1 rfl (lv_at hl 0 rfl) ?_
  refine lv_iconst (v := 3) hx hb dX1_common_2 (by decide) ?_
  obtain ⟨hc1, hs1, h⟩ := h
  obtain ⟨K_4, eK_4⟩ : ∃ z : XK, z = knew K0 1 3 3 := ⟨_, rfl⟩
  obtain ⟨T_5, eT_5⟩ : ∃ z : XT, z = xnil T (kz K0) := ⟨_, rfl⟩
  have h := h K_4 eK_4 T_5 eT_5
  have hle1 : kle K0 K_4 := by rw [eK_4]; exact kle.new hP.2.2.1 _ _ _
  refine x_newai (N := 3) hx hb hts q170 hK hP hS (by decide) (by decide) (by show _ + 1 ≤ Z - kc K0; omega) (by show _ + _ ≤ Y - ks K0; omega) dX1_common_3 (fun H hP hS => ?_)
  rw [← eK_4, ← eT_5] at hP
  have hk_n4 : kd K_4 (kz K0) = 1 := by rw [eK_4]; exact knew_kd
  have hle0 := hle0.tr hle1
  have hcn : kc K0 + (0 + 1) = kc K_4 := by rw [eK_4]; show _ = kc K0 + 1; omega
  have hsn : ks K0 + (0 + 3) = ks K_4 := by rw [eK_4]; show _ = ks K0 + 3; omega
  have hzz : kc K_4 ≤ Z := by rw [eK_4]; exact hc1
  have hyy : ks K_4 ≤ Y := by rw [eK_4]; exact hs1
  refine lv_dup hx hb dX1_common_5 rfl ?_
  refine lv_iconst (v := 0) hx hb dX1_common_6 (by decide) ?_
  refine lv_iload_n hx hb dX1_common_7 rfl (lv_at hl 1 rfl) ?_
  obtain ⟨j_6, hj_6, ej_6, h⟩ := h
  obtain ⟨T_7, eT_7⟩ : ∃ z : XT, z = xwi T_5 (kz K0) j_6 p1 := ⟨_, rfl⟩
  have h := h T_7 eT_7
  refine x_iast hx hb hK hP hS hk_n4 ej_6 hj_6 dX1_common_8 (fun H locs hP hS => ?_)
  rw [← eT_7] at hP
  refine lv_dup hx hb dX1_common_9 rfl ?_
  refine lv_iconst (v := 1) hx hb dX1_common_10 (by decide) ?_
  refine lv_iload_n hx hb dX1_common_11 rfl (lv_at hl 2 rfl) ?_
  obtain ⟨j_8, hj_8, ej_8, h⟩ := h
  obtain ⟨T_9, eT_9⟩ : ∃ z : XT, z = xwi T_7 (kz K0) j_8 p2 := ⟨_, rfl⟩
  have h := h T_9 eT_9
  refine x_iast hx hb hK hP hS hk_n4 ej_8 hj_8 dX1_common_12 (fun H locs hP hS => ?_)
  rw [← eT_9] at hP
  refine lv_dup hx hb dX1_common_13 rfl ?_
  refine lv_iconst (v := 2) hx hb dX1_common_14 (by decide) ?_
  refine lv_iload_n hx hb dX1_common_15 rfl (lv_at hl 3 rfl) ?_
  obtain ⟨j_10, hj_10, ej_10, h⟩ := h
  obtain ⟨T_11, eT_11⟩ : ∃ z : XT, z = xwi T_9 (kz K0) j_10 p3 := ⟨_, rfl⟩
  have h := h T_11 eT_11
  refine x_iast hx hb hK hP hS hk_n4 ej_10 hj_10 dX1_common_16 (fun H locs hP hS => ?_)
  rw [← eT_11] at hP
  refine x_cS (As := [.ref (b + (kz K0))]) (rest := [.ref (b + 0), .ref (b + 0)]) ⟨hx, hb, hml, hown, hts⟩ (mx1_is l G b hole (kz K0) K_4 T_11 hk_n4 _ h) (va_cwS 1 hts (lw_S q793 q794 q118 q795) rfl rfl rfl cwx_X1_is ⟨Nat.le_of_ble_eq_true rfl, Nat.le_of_ble_eq_true rfl⟩) hK hV hb0 hP hS rfl hl.1 rfl (Nat.le_of_ble_eq_true rfl) dX1_common_17 ⟨by first | exact Nat.zero_le _ | (show _ + _ ≤ Z - kc K0; omega), by first | exact Nat.zero_le _ | (show _ + _ ≤ Y - ks K0; omega)⟩ (fun r_12 T1 K1 H locs h hle1 hc1 hs1 hP hS => ?_)
  obtain ⟨h, hTe, hKe⟩ := h
  rw [hTe, hKe] at hP
  refine x_cV (k := 0) (As := [.int r_12]) (rest := [.ref (b + 0)]) ⟨hx, hb, hml, hown, hts⟩ (mx1_why l G b hole r_12 K_4 T_11  _ h) (cwV 1 hts (lw_V q769 q771 qs24 q118 q772) rfl rfl rfl cwx_X1_why ⟨Nat.le_of_ble_eq_true rfl, Nat.le_of_ble_eq_true rfl⟩) (x_recv (CC := RX1) (ci := 0) hK hP (xs_0 hP) (by decide) (by decide) rfl (xE_8 (xs_0 hP))) hK hV hb0 hP hS rfl hl.1 rfl (Nat.le_of_ble_eq_true rfl) dX1_common_20 ⟨by first | exact Nat.zero_le _ | (show _ + _ ≤ Z - kc K0; omega), by first | exact Nat.zero_le _ | (show _ + _ ≤ Y - ks K0; omega)⟩ (fun r_15 T1 K1 H locs h hle1 hc1 hs1 hP hS => ?_)
  obtain ⟨h, hTe, hKe⟩ := h
  rw [hTe, hKe] at hP
  refine x_cV (k := 0) (As := [.int r_15]) (rest := []) ⟨hx, hb, hml, hown, hts⟩ (mx1_isRefused l G b hole r_15 K_4 T_11  _ h) (cwV 1 hts (lw_V q777 q779 qs26 q118 q780) rfl rfl rfl cwx_X1_isRefused ⟨Nat.le_of_ble_eq_true rfl, Nat.le_of_ble_eq_true rfl⟩) (x_recv (CC := RX1) (ci := 0) hK hP (xs_0 hP) (by decide) (by decide) rfl (xE_8 (xs_0 hP))) hK hV hb0 hP hS rfl hl.1 rfl (Nat.le_of_ble_eq_true rfl) dX1_common_23 ⟨by first | exact Nat.zero_le _ | (show _ + _ ≤ Z - kc K0; omega), by first | exact Nat.zero_le _ | (show _ + _ ≤ Y - ks K0; omega)⟩ (fun r_18 T1 K1 H locs h hle1 hc1 hs1 hP hS => ?_)
  obtain ⟨h, hKe⟩ := h
  rw [hKe] at hP
  generalize T1 = T_19 at h hP
  refine lv_if_eq (tgt := 31) hx hb dX1_common_26 (by decide) (fun c_45 => ?_) (fun c_45 => ?_)
  · have h := h.1 c_45
    refine lv_aload_n hx hb dX1_common_31 rfl (lv_at hl 0 rfl) ?_
    refine lv_iload_n hx hb dX1_common_32 rfl (lv_at hl 1 rfl) ?_
    refine x_cV (k := 0) (As := [.int p1]) (rest := []) ⟨hx, hb, hml, hown, hts⟩ (mx1_hasThird l G b hole p1 K_4 T_19  _ h) (cwV 1 hts (lw_V q1092 q1094 qs47 q118 q1095) rfl rfl rfl cwx_X1_hasThird ⟨Nat.le_of_ble_eq_true rfl, Nat.le_of_ble_eq_true rfl⟩) (x_recv (CC := RX1) (ci := 0) hK hP (xs_0 hP) (by decide) (by decide) rfl (xE_8 (xs_0 hP))) hK hV hb0 hP hS rfl hl.1 rfl (Nat.le_of_ble_eq_true rfl) dX1_common_33 ⟨by first | exact Nat.zero_le _ | (show _ + _ ≤ Z - kc K0; omega), by first | exact Nat.zero_le _ | (show _ + _ ≤ Y - ks K0; omega)⟩ (fun r_21 T1 K1 H locs h hle1 hc1 hs1 hP hS => ?_)
    obtain ⟨h, hTe, hKe⟩ := h
    rw [hTe, hKe] at hP
    refine lv_if_ne (tgt := 47) hx hb dX1_common_36 (by decide) (fun c_44 => ?_) (fun c_44 => ?_)
    · have h := h.1 c_44
      exact J47 _ _ _ _ _ _ _ h hle0 hcn hsn hzz hyy hP hS (lv_sub hl [0] rfl)
    · have h := h.2 c_44
      refine lv_aload_n hx hb dX1_common_39 rfl (lv_at hl 0 rfl) ?_
      refine lv_iload_n hx hb dX1_common_40 rfl (lv_at hl 2 rfl) ?_
      refine x_cV (k := 0) (As := [.int p2]) (rest := []) ⟨hx, hb, hml, hown, hts⟩ (mx1_hasThird l G b hole p2 K_4 T_19  _ h) (cwV 1 hts (lw_V q1092 q1094 qs47 q118 q1095) rfl rfl rfl cwx_X1_hasThird ⟨Nat.le_of_ble_eq_true rfl, Nat.le_of_ble_eq_true rfl⟩) (x_recv (CC := RX1) (ci := 0) hK hP (xs_0 hP) (by decide) (by decide) rfl (xE_8 (xs_0 hP))) hK hV hb0 hP hS rfl hl.1 rfl (Nat.le_of_ble_eq_true rfl) dX1_common_41 ⟨by first | exact Nat.zero_le _ | (show _ + _ ≤ Z - kc K0; omega), by first | exact Nat.zero_le _ | (show _ + _ ≤ Y - ks K0; omega)⟩ (fun r_24 T1 K1 H locs h hle1 hc1 hs1 hP hS => ?_)
      obtain ⟨h, hTe, hKe⟩ := h
      rw [hTe, hKe] at hP
      refine lv_if_eq (tgt := 55) hx hb dX1_common_44 (by decide) (fun c_43 => ?_) (fun c_43 => ?_)
      · have h := h.1 c_43
        refine lv_aload_n hx hb dX1_common_55 rfl (lv_at hl 0 rfl) ?_
        refine lv_aload_n hx hb dX1_common_56 rfl (lv_at hl 0 rfl) ?_
        refine lv_aload_n hx hb dX1_common_57 rfl (lv_at hl 0 rfl) ?_
        obtain ⟨v_27, ev_27, h⟩ := h
        refine x_get (CC := RX1) (TT := TX1) (N := 26) (ci := 0) (v := rfv b (xr T_19 0 18)) hx hb hts in_X1 hown hK hP (xs_0 hP) (by decide) (by decide) rfl (xE_8 (xs_0 hP)) 18 (by decide) q405 rfl rfl dX1_common_58 ?_
        refine x_some ev_27 ?_
        have hk_v_27 : kd K_4 v_27 = 3 := hP.ty (xs_0 hP) (by decide) ev_27
        refine lv_iload_n hx hb dX1_common_61 rfl (lv_at hl 1 rfl) ?_
        obtain ⟨j_28, hj_28, ej_28, v_29, ev_29, h⟩ := h
        refine x_aald3 hx hb hK hP hk_v_27 ej_28 hj_28 dX1_common_62 ?_
        refine x_some ev_29 ?_
        have hk_v_29 : kd K_4 v_29 = 2 := hP.ty hk_v_27 (by decide) ev_29
        refine lv_aload_n hx hb dX1_common_63 rfl (lv_at hl 0 rfl) ?_
        obtain ⟨v_30, ev_30, h⟩ := h
        refine x_get (CC := RX1) (TT := TX1) (N := 26) (ci := 0) (v := rfv b (xr T_19 0 18)) hx hb hts in_X1 hown hK hP (xs_0 hP) (by decide) (by decide) rfl (xE_8 (xs_0 hP)) 18 (by decide) q405 rfl rfl dX1_common_64 ?_
        refine x_some ev_30 ?_
        have hk_v_30 : kd K_4 v_30 = 3 := hP.ty (xs_0 hP) (by decide) ev_30
        refine lv_iload_n hx hb dX1_common_67 rfl (lv_at hl 2 rfl) ?_
        obtain ⟨j_31, hj_31, ej_31, v_32, ev_32, h⟩ := h
        refine x_aald3 hx hb hK hP hk_v_30 ej_31 hj_31 dX1_common_68 ?_
        refine x_some ev_32 ?_
        have hk_v_32 : kd K_4 v_32 = 2 := hP.ty hk_v_30 (by decide) ev_32
        obtain ⟨Z_36, Y_37, hz1, hz2, hy1, hy2, h⟩ := h
        refine x_cV (k := 0) (As := [.ref (b + v_29), .ref (b + v_32)]) (rest := [.ref (b + 0)]) ⟨hx, hb, hml, hown, hts⟩ (mx1_common_2 l G b hole v_29 v_32 K_4 T_19 Z_36 Y_37 hz1 hy1 hk_v_29 hk_v_32 _ h) (cwV 2 hts (lw_V q1096 q1098 qs48 q118 q1099) rfl rfl rfl cwx_X1_common_2 ⟨Nat.le_of_ble_eq_true rfl, Nat.le_of_ble_eq_true rfl⟩) (x_recv (CC := RX1) (ci := 0) hK hP (xs_0 hP) (by decide) (by decide) rfl (xE_8 (xs_0 hP))) hK hV hb0 hP hS rfl hl.1 rfl (Nat.le_of_ble_eq_true rfl) dX1_common_69 ⟨by first | exact Nat.zero_le _ | (show _ + _ ≤ Z - kc K0; omega), by first | exact Nat.zero_le _ | (show _ + _ ≤ Y - ks K0; omega)⟩ (fun r_33 T1 K1 H locs h hle1 hc1 hs1 hP hS => ?_)
        obtain ⟨h, hk_r_33⟩ := h
        generalize T1 = T_34 at h hP
        generalize K1 = K_35 at h hP hle1 hc1 hs1 hk_r_33
        have hle0 := hle0.tr hle1
        have hcn : kc K0 + ((0 + 1) + (Z_36 - kc K_4)) = kc K_35 := by omega
        have hsn : ks K0 + ((0 + 3) + (Y_37 - ks K_4)) = ks K_35 := by omega
        have hzz : kc K_35 ≤ Z := by omega
        have hyy : ks K_35 ≤ Y := by omega
        refine lv_iload_n hx hb dX1_common_72 rfl (lv_at hl 3 rfl) ?_
        obtain ⟨Z_41, Y_42, hz1, hz2, hy1, hy2, h⟩ := h
        refine x_cV (k := 0) (As := [.ref (b + r_33), .int p3]) (rest := []) ⟨hx, hb, hml, hown, hts⟩ (mx1_lays l G b hole (some r_33) p3 K_35 T_34 Z_41 Y_42 hz1 hy1 (fun _ e9 => by cases e9; exact hk_r_33) _ h) (cwV 2 hts (lw_V q995 q997 qs43 q118 q998) rfl rfl rfl cwx_X1_lays ⟨Nat.le_of_ble_eq_true rfl, Nat.le_of_ble_eq_true rfl⟩) (x_recv (CC := RX1) (ci := 0) hK hP (xs_0 hP) (by decide) (by decide) rfl (xE_8 (xs_0 hP))) hK hV hb0 hP hS rfl hl.1 rfl (Nat.le_of_ble_eq_true rfl) dX1_common_73 ⟨by first | exact Nat.zero_le _ | (show _ + _ ≤ Z - kc K0; omega), by first | exact Nat.zero_le _ | (show _ + _ ≤ Y - ks K0; omega)⟩ (fun r_38 T1 K1 H locs h hle1 hc1 hs1 hP hS => ?_)
        generalize T1 = T_39 at h hP
        generalize K1 = K_40 at h hP hle1 hc1 hs1
        have hle0 := hle0.tr hle1
        have hcn : kc K0 + (((0 + 1) + (Z_36 - kc K_4)) + (Z_41 - kc K_35)) = kc K_40 := by omega
        have hsn : ks K0 + (((0 + 3) + (Y_37 - ks K_4)) + (Y_42 - ks K_35)) = ks K_40 := by omega
        have hzz : kc K_40 ≤ Z := by omega
        have hyy : ks K_40 ≤ Y := by omega
        refine W.widen (k := Z - kc K0) (n := Y - ks K0) (by omega) (by omega) ?_
        exact W.iret (v := r_38) hx hb hr (fun t ht hW => ⟨⟨r_38, T_39, (kset K_40 Z Y), rfl, h, hle0, (by show Z = _; omega), (by show Y = _; omega), by rw [ht]; exact hP, va_K.moved hW.alike hK⟩, hS.F ht⟩) hS.2.2 dX1_common_76
      · have h := h.2 c_43
        exact J47 _ _ _ _ _ _ _ h hle0 hcn hsn hzz hyy hP hS (lv_sub hl [0] rfl)
  · have h := h.2 c_45
    refine lv_iconst (v := (-1)) hx hb dX1_common_29 (by decide) ?_
    refine W.widen (k := Z - kc K0) (n := Y - ks K0) (by omega) (by omega) ?_
    exact W.iret (v := (-1)) hx hb hr (fun t ht hW => ⟨⟨(-1), T_19, (kset K_4 Z Y), rfl, h, hle0, (by show Z = _; omega), (by show Y = _; omega), by rw [ht]; exact hP, va_K.moved hW.alike hK⟩, hS.F ht⟩) hS.2.2 dX1_common_30
theorem cwx_X1_inY : yX1_inY.cls = RX1 ∧ yX1_inY.cls ≠ "java/lang/invoke/MethodHandle" ∧ yX1_inY.cls ≠ "java/lang/invoke/VarHandle" ∧ (parseMethodDescriptor yX1_inY.desc).map (fun d => d.parameters.length) = some 1 := by decide +kernel
def wx1_inY_b7 (p1 : Nat) (Z Y : Nat) (post : Nat → XT → XK → Prop) (R7 : Int32 → XT → Prop) (x2 : Nat) (x3 : Int32) (K : XK) (T : XT) : Prop :=
      wx1_top p1 K T (fun r_1 =>
      ((r_1 < x3 →
        ∃ Z_7 Y_8 : Nat, kc K ≤ Z_7 ∧ Z_7 ≤ Z ∧ ks K ≤ Y_8 ∧ Y_8 ≤ Y ∧ wx1_sorted x2 K T Z_7 Y_8 (fun r_4 T_5 K_6 =>
        post r_4 T_5 (kset K_6 Z Y))) ∧
       (¬ (r_1 < x3) →
        wx1_packed 0 x3 0 K T (fun r_9 =>
        ∃ j_12 : Nat, j_12 < kl K p1 ∧ x3 = nI j_12 ∧
        ∃ j_13 : Nat, j_13 < kl K x2 ∧ r_9 = nI j_13 ∧ ∀ T_14 : XT, T_14 = xwi T x2 j_13 (xi T p1 j_12) →
        ∀ x3_15 : Int32, x3_15 = x3 + 1 →
        R7 x3_15 T_14))))
def wx1_inY_l7 (p1 : Nat) (Z Y : Nat) (post : Nat → XT → XK → Prop) (x2 : Nat) (x3 : Int32) (K : XK) (T : XT) : Prop := wLoop (fun (R : ((Int32) × (XT)) → Prop) (v : (Int32) × (XT)) => wx1_inY_b7 p1 Z Y post (fun x3 T => R (x3, T)) x2 v.1 K v.2) (x3, T)
def wx1_inY (p1 : Nat) (K0 : XK) (T : XT) (Z Y : Nat) (post : Nat → XT → XK → Prop) : Prop :=
  wx1_blank  K0 T (fun r_17 T_18 =>
  wx1_inY_l7 p1 Z Y post r_17 0 K0 T_18)
set_option maxHeartbeats 4000000 in
theorem mx1_inY (l : Launch) (G : XG) (b : Nat) (hole : Nat → Prop) (p1 : Nat) (K0 : XK) (T : XT) (Z Y : Nat) (hZ : kc K0 ≤ Z) (hY : ks K0 ≤ Y) (hk_p1 : kd K0 p1 = 1) (post : Nat → XT → XK → Prop) (h : wx1_inY p1 K0 T Z Y post) : Met l yX1_inY (ws_ yX1_inY cX1_inY 4 (some (.object "TermDesk$Poly"))) ({ frames := 5, cells := (Z - kc K0), slots := (Y - ks K0), locals := 115 } : Room) (xPc G b hole [.ref (b + 0), .ref (b + p1)] K0 T) (xQ G b hole K0 (Z - kc K0) (Y - ks K0) (ρ := Nat) (eR b) (fun r T1 K1 => post r T1 K1 ∧ kd K1 r = 2)) (Z - kc K0) (Y - ks K0) (xA b hole) := by
  refine Met.ofW (cc := cX1_inY) (maxL := 4) (ret := (some (.object "TermDesk$Poly"))) (by decide) rfl ?_
  intro p e s m args below meth c s₁ B hml hv
  obtain ⟨rfl, hP, hK, hV⟩ := hv
  have hx := B.exec
  have hb := B.bytes
  have hr := B.returns
  have hts := atoms_spec (ws := ws_ yX1_inY cX1_inY 4 (some (.object "TermDesk$Poly"))) B.pre
  have hts : ∀ w ∈ lw_all, w.before _ s = true := fun w h => hts w (List.mem_cons_of_mem _ h)
  have hown : s.vm.findClass RX1 = some m.cls := findClass_of_methodNamed B.named
  have hlocks := B.notSynchronized
  have hb0 : b ≤ s.heap.size := by rw [hP.2.2.2]; exact Nat.le_add_right _ _
  have hS : va_S (xA b hole) s.heap s.heap [] := va_S.rf
  have hl := lv_entry ([.ref (b + 0), .ref (b + p1)]) (n := 4) (Nat.le_of_ble_eq_true rfl)
  rw [lg_entry_eq]
  generalize (lg_sl ([.ref (b + 0), .ref (b + p1)]) ++ List.replicate (4 - (lg_sl ([.ref (b + 0), .ref (b + p1)])).length) Slot.unset).toArray = ls at hl ⊢
  have hl : lv_has ls 4 [(0, .ref (b + 0)), (1, .ref (b + p1))] := hl
  have hle0 : kle K0 K0 := kle.rf
  have L7 : ∀ (x2 : Nat) (x3 : Int32) (T : XT) (K : XK) (cn sn : Nat) (H : Heap) (locs : List Loc) (ls : Array Slot), wx1_inY_l7 p1 Z Y post x2 x3 K T → kle K0 K → kc K0 + cn = kc K → ks K0 + sn = ks K → kc K ≤ Z → ks K ≤ Y → (kd K x2 = 1) → (kd K p1 = 1) → xW G b hole K T H → va_S (xA b hole) s.heap H locs → lv_has ls 4 [(0, .ref (b + 0)), (1, .ref (b + p1)), (2, .ref (b + x2)), (3, .int x3)] → W p l e (headSpec (ws_ yX1_inY cX1_inY 4 (some (.object "TermDesk$Poly"))) ({ frames := 5, cells := (Z - kc K0), slots := (Y - ks K0), locals := 115 } : Room)).room s m ([.ref (b + 0), .ref (b + p1)] : List Value).toArray below meth c H locs cn sn (MQ below (xQ G b hole K0 (Z - kc K0) (Y - ks K0) (ρ := Nat) (eR b) (fun r T1 K1 => post r T1 K1 ∧ kd K1 r = 2)) ([.ref (b + 0), .ref (b + p1)] : List Value).toArray s (Z - kc K0) (Y - ks K0) (xA b hole)) (F0 m 7 ls []) := by
    intro x2 x3 T K cn sn H locs ls h hle0 hcn hsn hzz hyy hk_x2 hk_p1 hP hS hl
    obtain ⟨I7, n7, hI, hstep7⟩ := h
    induction n7 using Nat.strongRecOn generalizing x3 T H locs ls with
    | ind n7 ih7 =>
      have h : wx1_inY_b7 p1 Z Y post (fun x3 T => ∃ mm, mm < n7 ∧ I7 mm (x3, T)) x2 x3 K T := hstep7 n7 _ hI
      clear hI
      unfold wx1_inY_b7 at h
      refine lv_iload_n hx hb dX1_inY_7 rfl (lv_at hl 3 rfl) ?_
      refine lv_aload_n hx hb dX1_inY_8 rfl (lv_at hl 1 rfl) ?_
      refine x_cS (As := [.ref (b + p1)]) (rest := [.int x3]) ⟨hx, hb, hml, hown, hts⟩ (mx1_top l G b hole p1 K T hk_p1 _ h) (va_cwS 1 hts (lw_S q1113 q1114 q118 q1115) rfl rfl rfl cwx_X1_top ⟨Nat.le_of_ble_eq_true rfl, Nat.le_of_ble_eq_true rfl⟩) hK hV hb0 hP hS rfl hl.1 rfl (Nat.le_of_ble_eq_true rfl) dX1_inY_9 ⟨by first | exact Nat.zero_le _ | (show _ + _ ≤ Z - kc K0; omega), by first | exact Nat.zero_le _ | (show _ + _ ≤ Y - ks K0; omega)⟩ (fun r_1 T1 K1 H locs h hle1 hc1 hs1 hP hS => ?_)
      obtain ⟨h, hTe, hKe⟩ := h
      rw [hTe, hKe] at hP
      refine lv_icmp_gt (tgt := 32) hx hb dX1_inY_12 (by decide) (fun c_16 => ?_) (fun c_16 => ?_)
      · have h := h.1 c_16
        refine lv_aload_n hx hb dX1_inY_32 rfl (lv_at hl 0 rfl) ?_
        refine lv_aload_n hx hb dX1_inY_33 rfl (lv_at hl 2 rfl) ?_
        obtain ⟨Z_7, Y_8, hz1, hz2, hy1, hy2, h⟩ := h
        refine x_cV (k := 0) (As := [.ref (b + x2)]) (rest := []) ⟨hx, hb, hml, hown, hts⟩ (mx1_sorted l G b hole x2 K T Z_7 Y_8 hz1 hy1 hk_x2 _ h) (cwV 1 hts (lw_V q1067 q750 qs23 q118 q751) rfl rfl rfl cwx_X1_sorted ⟨Nat.le_of_ble_eq_true rfl, Nat.le_of_ble_eq_true rfl⟩) (x_recv (CC := RX1) (ci := 0) hK hP (xs_0 hP) (by decide) (by decide) rfl (xE_8 (xs_0 hP))) hK hV hb0 hP hS rfl hl.1 rfl (Nat.le_of_ble_eq_true rfl) dX1_inY_34 ⟨by first | exact Nat.zero_le _ | (show _ + _ ≤ Z - kc K0; omega), by first | exact Nat.zero_le _ | (show _ + _ ≤ Y - ks K0; omega)⟩ (fun r_4 T1 K1 H locs h hle1 hc1 hs1 hP hS => ?_)
        obtain ⟨h, hk_r_4⟩ := h
        generalize T1 = T_5 at h hP
        generalize K1 = K_6 at h hP hle1 hc1 hs1 hk_r_4
        have hk_p1 : kd K_6 p1 = 1 := hle1.kd hk_p1
        have hk_x2 : kd K_6 x2 = 1 := hle1.kd hk_x2
        have hle0 := hle0.tr hle1
        have hcn : kc K0 + (cn + (Z_7 - kc K)) = kc K_6 := by omega
        have hsn : ks K0 + (sn + (Y_8 - ks K)) = ks K_6 := by omega
        have hzz : kc K_6 ≤ Z := by omega
        have hyy : ks K_6 ≤ Y := by omega
        refine W.widen (k := Z - kc K0) (n := Y - ks K0) (by omega) (by omega) ?_
        exact W.aret (v := .ref (b + r_4)) hx hb hr (Or.inl ⟨_, rfl⟩) (Or.inr ⟨_, rfl⟩) (fun t ht hW => ⟨⟨r_4, T_5, (kset K_6 Z Y), rfl, ⟨h, hk_r_4⟩, hle0, (by show Z = _; omega), (by show Y = _; omega), by rw [ht]; exact hP, va_K.moved hW.alike hK⟩, hS.F ht⟩) hS.2.2 dX1_inY_37
      · have h := h.2 c_16
        refine lv_aload_n hx hb dX1_inY_15 rfl (lv_at hl 2 rfl) ?_
        refine lv_iconst (v := 0) hx hb dX1_inY_16 (by decide) ?_
        refine lv_iload_n hx hb dX1_inY_17 rfl (lv_at hl 3 rfl) ?_
        refine lv_iconst (v := 0) hx hb dX1_inY_18 (by decide) ?_
        refine x_cS (As := [.int 0, .int x3, .int 0]) (rest := [.ref (b + x2)]) ⟨hx, hb, hml, hown, hts⟩ (mx1_packed l G b hole 0 x3 0 K T  _ h) (va_cwS 3 hts (lw_S q836 q837 q118 q838) rfl rfl rfl cwx_X1_packed ⟨Nat.le_of_ble_eq_true rfl, Nat.le_of_ble_eq_true rfl⟩) hK hV hb0 hP hS rfl hl.1 rfl (Nat.le_of_ble_eq_true rfl) dX1_inY_19 ⟨by first | exact Nat.zero_le _ | (show _ + _ ≤ Z - kc K0; omega), by first | exact Nat.zero_le _ | (show _ + _ ≤ Y - ks K0; omega)⟩ (fun r_9 T1 K1 H locs h hle1 hc1 hs1 hP hS => ?_)
        obtain ⟨h, hTe, hKe⟩ := h
        rw [hTe, hKe] at hP
        refine lv_aload_n hx hb dX1_inY_22 rfl (lv_at hl 1 rfl) ?_
        refine lv_iload_n hx hb dX1_inY_23 rfl (lv_at hl 3 rfl) ?_
        obtain ⟨j_12, hj_12, ej_12, h⟩ := h
        refine x_iald hx hb hK hP hk_p1 ej_12 hj_12 dX1_inY_24 ?_
        obtain ⟨j_13, hj_13, ej_13, h⟩ := h
        obtain ⟨T_14, eT_14⟩ : ∃ z : XT, z = xwi T x2 j_13 (xi T p1 j_12) := ⟨_, rfl⟩
        have h := h T_14 eT_14
        refine x_iast hx hb hK hP hS hk_x2 ej_13 hj_13 dX1_inY_25 (fun H locs hP hS => ?_)
        rw [← eT_14] at hP
        obtain ⟨x3_15, ex3_15⟩ : ∃ y : Int32, y = x3 + 1 := ⟨_, rfl⟩
        have h := h x3_15 ex3_15
        refine lv_iinc (v := x3_15) (lv' := [(3, .int x3_15), (0, .ref (b + 0)), (1, .ref (b + p1)), (2, .ref (b + x2))]) hx hb dX1_inY_26 hl (k := 3) rfl (by rw [ex3_15]; rfl) (by decide) rfl (fun ls hl => ?_)
        refine lv_goto (tgt := 7) hx hb dX1_inY_29 (by decide) ?_
        obtain ⟨mm, hmm, h⟩ := h
        exact ih7 mm hmm _ _ _ _ _  hP hS (lv_sub hl [1, 2, 3, 0] rfl) h
  have hcn : kc K0 + 0 = kc K0 := rfl
  have hsn : ks K0 + 0 = ks K0 := rfl
  have hzz := hZ
  have hyy := hY
  unfold wx1_inY at h
  refine lv_aload_n hx hb dX1_inY_0 rfl (lv_at hl 0 rfl) ?_
  refine x_cV (k := 0) (As := []) (rest := []) ⟨hx, hb, hml, hown, hts⟩ (mx1_blank l G b hole  K0 T  _ h) (cwV 0 hts (lw_V q835 q739 qs21 q118 q740) rfl rfl rfl cwx_X1_blank ⟨Nat.le_of_ble_eq_true rfl, Nat.le_of_ble_eq_true rfl⟩) (x_recv (CC := RX1) (ci := 0) hK hP (xs_0 hP) (by decide) (by decide) rfl (xE_8 (xs_0 hP))) hK hV hb0 hP hS rfl hl.1 rfl (Nat.le_of_ble_eq_true rfl) dX1_inY_1 ⟨by first | exact Nat.zero_le _ | (show _ + _ ≤ Z - kc K0; omega), by first | exact Nat.zero_le _ | (show _ + _ ≤ Y - ks K0; omega)⟩ (fun r_17 T1 K1 H locs h hle1 hc1 hs1 hP hS => ?_)
  obtain ⟨h, hk_r_17, hKe⟩ := h
  rw [hKe] at hP
  generalize T1 = T_18 at h hP
  rw [hKe] at hk_r_17
  refine lv_astore_n (lv' := [(2, .ref (b + r_17)), (0, .ref (b + 0)), (1, .ref (b + p1))]) hx hb dX1_inY_4 rfl hl (by decide) rfl (fun ls hl => ?_)
  refine lv_iconst (v := 0) hx hb dX1_inY_5 (by decide) ?_
  refine lv_istore_n (lv' := [(3, .int 0), (2, .ref (b + r_17)), (0, .ref (b + 0)), (1, .ref (b + p1))]) hx hb dX1_inY_6 rfl hl (by decide) rfl (fun ls hl => ?_)
  exact L7 _ _ _ _ _ _ _ _ _ h hle0 hcn hsn hzz hyy hk_r_17 hk_p1 hP hS (lv_sub hl [2, 3, 1, 0] rfl)
theorem cwx_X1_content : yX1_content.cls = RX1 ∧ yX1_content.cls ≠ "java/lang/invoke/MethodHandle" ∧ yX1_content.cls ≠ "java/lang/invoke/VarHandle" ∧ (parseMethodDescriptor yX1_content.desc).map (fun d => d.parameters.length) = some 2 := by decide +kernel
def wx1_content (p1 : Int32) (p2 : Int32) (K0 : XK) (T : XT) (Z Y : Nat) (post : Int32 → XT → XK → Prop) : Prop :=
  kc K0 + 1 ≤ Z ∧ ks K0 + 2 ≤ Y ∧ ∀ K_1 : XK, K_1 = knew K0 1 2 2 → ∀ T_2 : XT, T_2 = xnil T (kz K0) →
  ∃ j_3 : Nat, j_3 < kl K_1 (kz K0) ∧ 0 = nI j_3 ∧ ∀ T_4 : XT, T_4 = xwi T_2 (kz K0) j_3 p1 →
  ∃ j_5 : Nat, j_5 < kl K_1 (kz K0) ∧ 1 = nI j_5 ∧ ∀ T_6 : XT, T_6 = xwi T_4 (kz K0) j_5 p2 →
  wx1_is (kz K0) K_1 T_6 (fun r_7 =>
  wx1_why r_7 K_1 T_6 (fun r_10 =>
  wx1_isRefused r_10 K_1 T_6 (fun r_13 T_14 =>
  ((r_13 = 0 →
    wx1_hasThird p1 K_1 T_14 (fun r_16 =>
    ((r_16 = 0 →
      ∃ v_19 : Nat, xr T_14 0 18 = some v_19 ∧
      ∃ j_20 : Nat, j_20 < kl K_1 v_19 ∧ p1 = nI j_20 ∧ ∃ v_21 : Nat, xr T_14 v_19 j_20 = some v_21 ∧
      ∃ v_22 : Nat, xr T_14 0 9 = some v_22 ∧
      wx1_lays_2 v_21 v_22 K_1 T_14 (fun r_23 T_24 =>
      wx1_contentOf r_23 K_1 T_24 (fun r_26 T_27 =>
      ∃ Z_32 Y_33 : Nat, kc K_1 ≤ Z_32 ∧ Z_32 ≤ Z ∧ ks K_1 ≤ Y_33 ∧ Y_33 ≤ Y ∧ wx1_inY r_26 K_1 T_27 Z_32 Y_33 (fun r_29 T_30 K_31 =>
      ∃ Z_37 Y_38 : Nat, kc K_31 ≤ Z_37 ∧ Z_37 ≤ Z ∧ ks K_31 ≤ Y_38 ∧ Y_38 ≤ Y ∧ wx1_lays (some r_29) p2 K_31 T_30 Z_37 Y_38 (fun r_34 T_35 K_36 =>
      post r_34 T_35 (kset K_36 Z Y)))))) ∧
     (¬ (r_16 = 0) →
      wx1_no 5 K_1 T_14 (fun r_39 T_40 =>
      post r_39 T_40 (kset K_1 Z Y)))))) ∧
   (¬ (r_13 = 0) →
    post (-1) T_14 (kset K_1 Z Y))))))
set_option maxHeartbeats 4000000 in
theorem mx1_content (l : Launch) (G : XG) (b : Nat) (hole : Nat → Prop) (p1 : Int32) (p2 : Int32) (K0 : XK) (T : XT) (Z Y : Nat) (hZ : kc K0 ≤ Z) (hY : ks K0 ≤ Y)  (post : Int32 → XT → XK → Prop) (h : wx1_content p1 p2 K0 T Z Y post) : Met l yX1_content (ws_ yX1_content cX1_content 3 (some .int)) ({ frames := 6, cells := (Z - kc K0), slots := (Y - ks K0), locals := 138 } : Room) (xPc G b hole [.ref (b + 0), .int p1, .int p2] K0 T) (xQ G b hole K0 (Z - kc K0) (Y - ks K0) (ρ := Int32) eI (fun r T1 K1 => post r T1 K1)) (Z - kc K0) (Y - ks K0) (xA b hole) := by
  refine Met.ofW (cc := cX1_content) (maxL := 3) (ret := (some .int)) (by decide) rfl ?_
  intro p e s m args below meth c s₁ B hml hv
  obtain ⟨rfl, hP, hK, hV⟩ := hv
  have hx := B.exec
  have hb := B.bytes
  have hr := B.returns
  have hts := atoms_spec (ws := ws_ yX1_content cX1_content 3 (some .int)) B.pre
  have hts : ∀ w ∈ lw_all, w.before _ s = true := fun w h => hts w (List.mem_cons_of_mem _ h)
  have hown : s.vm.findClass RX1 = some m.cls := findClass_of_methodNamed B.named
  have hlocks := B.notSynchronized
  have hb0 : b ≤ s.heap.size := by rw [hP.2.2.2]; exact Nat.le_add_right _ _
  have hS : va_S (xA b hole) s.heap s.heap [] := va_S.rf
  have hl := lv_entry ([.ref (b + 0), .int p1, .int p2]) (n := 3) (Nat.le_of_ble_eq_true rfl)
  rw [lg_entry_eq]
  generalize (lg_sl ([.ref (b + 0), .int p1, .int p2]) ++ List.replicate (3 - (lg_sl ([.ref (b + 0), .int p1, .int p2])).length) Slot.unset).toArray = ls at hl ⊢
  have hl : lv_has ls 3 [(0, .ref (b + 0)), (1, .int p1), (2, .int p2)] := hl
  have hle0 : kle K0 K0 := kle.rf
  have hcn : kc K0 + 0 = kc K0 := rfl
  have hsn : ks K0 + 0 = ks K0 := rfl
  have hzz := hZ
  have hyy := hY
  unfold wx1_content at h
  refine lv_aload_n hx hb dX1_content_0 rfl (lv_at hl 0 rfl) ?_
  refine lv_aload_n hx hb dX1_content_1 rfl (lv_at hl 0 rfl) ?_
  refine lv_iconst (v := 2) hx hb dX1_content_2 (by decide) ?_
  obtain ⟨hc1, hs1, h⟩ := h
  obtain ⟨K_1, eK_1⟩ : ∃ z : XK, z = knew K0 1 2 2 := ⟨_, rfl⟩
  obtain ⟨T_2, eT_2⟩ : ∃ z : XT, z = xnil T (kz K0) := ⟨_, rfl⟩
  have h := h K_1 eK_1 T_2 eT_2
  have hle1 : kle K0 K_1 := by rw [eK_1]; exact kle.new hP.2.2.1 _ _ _
  refine x_newai (N := 2) hx hb hts q170 hK hP hS (by decide) (by decide) (by show _ + 1 ≤ Z - kc K0; omega) (by show _ + _ ≤ Y - ks K0; omega) dX1_content_3 (fun H hP hS => ?_)
  rw [← eK_1, ← eT_2] at hP
  have hk_n1 : kd K_1 (kz K0) = 1 := by rw [eK_1]; exact knew_kd
  have hle0 := hle0.tr hle1
  have hcn : kc K0 + (0 + 1) = kc K_1 := by rw [eK_1]; show _ = kc K0 + 1; omega
  have hsn : ks K0 + (0 + 2) = ks K_1 := by rw [eK_1]; show _ = ks K0 + 2; omega
  have hzz : kc K_1 ≤ Z := by rw [eK_1]; exact hc1
  have hyy : ks K_1 ≤ Y := by rw [eK_1]; exact hs1
  refine lv_dup hx hb dX1_content_5 rfl ?_
  refine lv_iconst (v := 0) hx hb dX1_content_6 (by decide) ?_
  refine lv_iload_n hx hb dX1_content_7 rfl (lv_at hl 1 rfl) ?_
  obtain ⟨j_3, hj_3, ej_3, h⟩ := h
  obtain ⟨T_4, eT_4⟩ : ∃ z : XT, z = xwi T_2 (kz K0) j_3 p1 := ⟨_, rfl⟩
  have h := h T_4 eT_4
  refine x_iast hx hb hK hP hS hk_n1 ej_3 hj_3 dX1_content_8 (fun H locs hP hS => ?_)
  rw [← eT_4] at hP
  refine lv_dup hx hb dX1_content_9 rfl ?_
  refine lv_iconst (v := 1) hx hb dX1_content_10 (by decide) ?_
  refine lv_iload_n hx hb dX1_content_11 rfl (lv_at hl 2 rfl) ?_
  obtain ⟨j_5, hj_5, ej_5, h⟩ := h
  obtain ⟨T_6, eT_6⟩ : ∃ z : XT, z = xwi T_4 (kz K0) j_5 p2 := ⟨_, rfl⟩
  have h := h T_6 eT_6
  refine x_iast hx hb hK hP hS hk_n1 ej_5 hj_5 dX1_content_12 (fun H locs hP hS => ?_)
  rw [← eT_6] at hP
  refine x_cS (As := [.ref (b + (kz K0))]) (rest := [.ref (b + 0), .ref (b + 0)]) ⟨hx, hb, hml, hown, hts⟩ (mx1_is l G b hole (kz K0) K_1 T_6 hk_n1 _ h) (va_cwS 1 hts (lw_S q793 q794 q118 q795) rfl rfl rfl cwx_X1_is ⟨Nat.le_of_ble_eq_true rfl, Nat.le_of_ble_eq_true rfl⟩) hK hV hb0 hP hS rfl hl.1 rfl (Nat.le_of_ble_eq_true rfl) dX1_content_13 ⟨by first | exact Nat.zero_le _ | (show _ + _ ≤ Z - kc K0; omega), by first | exact Nat.zero_le _ | (show _ + _ ≤ Y - ks K0; omega)⟩ (fun r_7 T1 K1 H locs h hle1 hc1 hs1 hP hS => ?_)
  obtain ⟨h, hTe, hKe⟩ := h
  rw [hTe, hKe] at hP
  refine x_cV (k := 0) (As := [.int r_7]) (rest := [.ref (b + 0)]) ⟨hx, hb, hml, hown, hts⟩ (mx1_why l G b hole r_7 K_1 T_6  _ h) (cwV 1 hts (lw_V q769 q771 qs24 q118 q772) rfl rfl rfl cwx_X1_why ⟨Nat.le_of_ble_eq_true rfl, Nat.le_of_ble_eq_true rfl⟩) (x_recv (CC := RX1) (ci := 0) hK hP (xs_0 hP) (by decide) (by decide) rfl (xE_8 (xs_0 hP))) hK hV hb0 hP hS rfl hl.1 rfl (Nat.le_of_ble_eq_true rfl) dX1_content_16 ⟨by first | exact Nat.zero_le _ | (show _ + _ ≤ Z - kc K0; omega), by first | exact Nat.zero_le _ | (show _ + _ ≤ Y - ks K0; omega)⟩ (fun r_10 T1 K1 H locs h hle1 hc1 hs1 hP hS => ?_)
  obtain ⟨h, hTe, hKe⟩ := h
  rw [hTe, hKe] at hP
  refine x_cV (k := 0) (As := [.int r_10]) (rest := []) ⟨hx, hb, hml, hown, hts⟩ (mx1_isRefused l G b hole r_10 K_1 T_6  _ h) (cwV 1 hts (lw_V q777 q779 qs26 q118 q780) rfl rfl rfl cwx_X1_isRefused ⟨Nat.le_of_ble_eq_true rfl, Nat.le_of_ble_eq_true rfl⟩) (x_recv (CC := RX1) (ci := 0) hK hP (xs_0 hP) (by decide) (by decide) rfl (xE_8 (xs_0 hP))) hK hV hb0 hP hS rfl hl.1 rfl (Nat.le_of_ble_eq_true rfl) dX1_content_19 ⟨by first | exact Nat.zero_le _ | (show _ + _ ≤ Z - kc K0; omega), by first | exact Nat.zero_le _ | (show _ + _ ≤ Y - ks K0; omega)⟩ (fun r_13 T1 K1 H locs h hle1 hc1 hs1 hP hS => ?_)
  obtain ⟨h, hKe⟩ := h
  rw [hKe] at hP
  generalize T1 = T_14 at h hP
  refine lv_if_eq (tgt := 27) hx hb dX1_content_22 (by decide) (fun c_43 => ?_) (fun c_43 => ?_)
  · have h := h.1 c_43
    refine lv_aload_n hx hb dX1_content_27 rfl (lv_at hl 0 rfl) ?_
    refine lv_iload_n hx hb dX1_content_28 rfl (lv_at hl 1 rfl) ?_
    refine x_cV (k := 0) (As := [.int p1]) (rest := []) ⟨hx, hb, hml, hown, hts⟩ (mx1_hasThird l G b hole p1 K_1 T_14  _ h) (cwV 1 hts (lw_V q1092 q1094 qs47 q118 q1095) rfl rfl rfl cwx_X1_hasThird ⟨Nat.le_of_ble_eq_true rfl, Nat.le_of_ble_eq_true rfl⟩) (x_recv (CC := RX1) (ci := 0) hK hP (xs_0 hP) (by decide) (by decide) rfl (xE_8 (xs_0 hP))) hK hV hb0 hP hS rfl hl.1 rfl (Nat.le_of_ble_eq_true rfl) dX1_content_29 ⟨by first | exact Nat.zero_le _ | (show _ + _ ≤ Z - kc K0; omega), by first | exact Nat.zero_le _ | (show _ + _ ≤ Y - ks K0; omega)⟩ (fun r_16 T1 K1 H locs h hle1 hc1 hs1 hP hS => ?_)
    obtain ⟨h, hTe, hKe⟩ := h
    rw [hTe, hKe] at hP
    refine lv_if_eq (tgt := 43) hx hb dX1_content_32 (by decide) (fun c_42 => ?_) (fun c_42 => ?_)
    · have h := h.1 c_42
      refine lv_aload_n hx hb dX1_content_43 rfl (lv_at hl 0 rfl) ?_
      refine lv_aload_n hx hb dX1_content_44 rfl (lv_at hl 0 rfl) ?_
      refine lv_aload_n hx hb dX1_content_45 rfl (lv_at hl 0 rfl) ?_
      refine lv_aload_n hx hb dX1_content_46 rfl (lv_at hl 0 rfl) ?_
      refine lv_aload_n hx hb dX1_content_47 rfl (lv_at hl 0 rfl) ?_
      obtain ⟨v_19, ev_19, h⟩ := h
      refine x_get (CC := RX1) (TT := TX1) (N := 26) (ci := 0) (v := rfv b (xr T_14 0 18)) hx hb hts in_X1 hown hK hP (xs_0 hP) (by decide) (by decide) rfl (xE_8 (xs_0 hP)) 18 (by decide) q405 rfl rfl dX1_content_48 ?_
      refine x_some ev_19 ?_
      have hk_v_19 : kd K_1 v_19 = 3 := hP.ty (xs_0 hP) (by decide) ev_19
      refine lv_iload_n hx hb dX1_content_51 rfl (lv_at hl 1 rfl) ?_
      obtain ⟨j_20, hj_20, ej_20, v_21, ev_21, h⟩ := h
      refine x_aald3 hx hb hK hP hk_v_19 ej_20 hj_20 dX1_content_52 ?_
      refine x_some ev_21 ?_
      have hk_v_21 : kd K_1 v_21 = 2 := hP.ty hk_v_19 (by decide) ev_21
      refine lv_aload_n hx hb dX1_content_53 rfl (lv_at hl 0 rfl) ?_
      obtain ⟨v_22, ev_22, h⟩ := h
      refine x_get (CC := RX1) (TT := TX1) (N := 26) (ci := 0) (v := rfv b (xr T_14 0 9)) hx hb hts in_X1 hown hK hP (xs_0 hP) (by decide) (by decide) rfl (xE_8 (xs_0 hP)) 9 (by decide) q394 rfl rfl dX1_content_54 ?_
      refine x_some ev_22 ?_
      have hk_v_22 : kd K_1 v_22 = 4 := hP.ty (xs_0 hP) (by decide) ev_22
      refine x_cV (k := 0) (As := [.ref (b + v_21), .ref (b + v_22)]) (rest := [.ref (b + 0), .ref (b + 0), .ref (b + 0)]) ⟨hx, hb, hml, hown, hts⟩ (mx1_lays_2 l G b hole v_21 v_22 K_1 T_14 hk_v_21 hk_v_22 _ h) (cwV 2 hts (lw_V q1100 q1102 qs49 q118 q1103) rfl rfl rfl cwx_X1_lays_2 ⟨Nat.le_of_ble_eq_true rfl, Nat.le_of_ble_eq_true rfl⟩) (x_recv (CC := RX1) (ci := 0) hK hP (xs_0 hP) (by decide) (by decide) rfl (xE_8 (xs_0 hP))) hK hV hb0 hP hS rfl hl.1 rfl (Nat.le_of_ble_eq_true rfl) dX1_content_57 ⟨by first | exact Nat.zero_le _ | (show _ + _ ≤ Z - kc K0; omega), by first | exact Nat.zero_le _ | (show _ + _ ≤ Y - ks K0; omega)⟩ (fun r_23 T1 K1 H locs h hle1 hc1 hs1 hP hS => ?_)
      obtain ⟨h, hk_r_23, hKe⟩ := h
      rw [hKe] at hP
      generalize T1 = T_24 at h hP
      rw [hKe] at hk_r_23
      refine x_cV (k := 0) (As := [.ref (b + r_23)]) (rest := [.ref (b + 0), .ref (b + 0)]) ⟨hx, hb, hml, hown, hts⟩ (mx1_contentOf l G b hole r_23 K_1 T_24 hk_r_23 _ h) (cwV 1 hts (lw_V q1108 q1110 qs51 q118 q1111) rfl rfl rfl cwx_X1_contentOf ⟨Nat.le_of_ble_eq_true rfl, Nat.le_of_ble_eq_true rfl⟩) (x_recv (CC := RX1) (ci := 0) hK hP (xs_0 hP) (by decide) (by decide) rfl (xE_8 (xs_0 hP))) hK hV hb0 hP hS rfl hl.1 rfl (Nat.le_of_ble_eq_true rfl) dX1_content_60 ⟨by first | exact Nat.zero_le _ | (show _ + _ ≤ Z - kc K0; omega), by first | exact Nat.zero_le _ | (show _ + _ ≤ Y - ks K0; omega)⟩ (fun r_26 T1 K1 H locs h hle1 hc1 hs1 hP hS => ?_)
      obtain ⟨h, hk_r_26, hKe⟩ := h
      rw [hKe] at hP
      generalize T1 = T_27 at h hP
      rw [hKe] at hk_r_26
      obtain ⟨Z_32, Y_33, hz1, hz2, hy1, hy2, h⟩ := h
      refine x_cV (k := 0) (As := [.ref (b + r_26)]) (rest := [.ref (b + 0)]) ⟨hx, hb, hml, hown, hts⟩ (mx1_inY l G b hole r_26 K_1 T_27 Z_32 Y_33 hz1 hy1 hk_r_26 _ h) (cwV 1 hts (lw_V q1141 q1143 qs56 q118 q1144) rfl rfl rfl cwx_X1_inY ⟨Nat.le_of_ble_eq_true rfl, Nat.le_of_ble_eq_true rfl⟩) (x_recv (CC := RX1) (ci := 0) hK hP (xs_0 hP) (by decide) (by decide) rfl (xE_8 (xs_0 hP))) hK hV hb0 hP hS rfl hl.1 rfl (Nat.le_of_ble_eq_true rfl) dX1_content_63 ⟨by first | exact Nat.zero_le _ | (show _ + _ ≤ Z - kc K0; omega), by first | exact Nat.zero_le _ | (show _ + _ ≤ Y - ks K0; omega)⟩ (fun r_29 T1 K1 H locs h hle1 hc1 hs1 hP hS => ?_)
      obtain ⟨h, hk_r_29⟩ := h
      generalize T1 = T_30 at h hP
      generalize K1 = K_31 at h hP hle1 hc1 hs1 hk_r_29
      have hle0 := hle0.tr hle1
      have hcn : kc K0 + ((0 + 1) + (Z_32 - kc K_1)) = kc K_31 := by omega
      have hsn : ks K0 + ((0 + 2) + (Y_33 - ks K_1)) = ks K_31 := by omega
      have hzz : kc K_31 ≤ Z := by omega
      have hyy : ks K_31 ≤ Y := by omega
      refine lv_iload_n hx hb dX1_content_66 rfl (lv_at hl 2 rfl) ?_
      obtain ⟨Z_37, Y_38, hz1, hz2, hy1, hy2, h⟩ := h
      refine x_cV (k := 0) (As := [.ref (b + r_29), .int p2]) (rest := []) ⟨hx, hb, hml, hown, hts⟩ (mx1_lays l G b hole (some r_29) p2 K_31 T_30 Z_37 Y_38 hz1 hy1 (fun _ e9 => by cases e9; exact hk_r_29) _ h) (cwV 2 hts (lw_V q995 q997 qs43 q118 q998) rfl rfl rfl cwx_X1_lays ⟨Nat.le_of_ble_eq_true rfl, Nat.le_of_ble_eq_true rfl⟩) (x_recv (CC := RX1) (ci := 0) hK hP (xs_0 hP) (by decide) (by decide) rfl (xE_8 (xs_0 hP))) hK hV hb0 hP hS rfl hl.1 rfl (Nat.le_of_ble_eq_true rfl) dX1_content_67 ⟨by first | exact Nat.zero_le _ | (show _ + _ ≤ Z - kc K0; omega), by first | exact Nat.zero_le _ | (show _ + _ ≤ Y - ks K0; omega)⟩ (fun r_34 T1 K1 H locs h hle1 hc1 hs1 hP hS => ?_)
      generalize T1 = T_35 at h hP
      generalize K1 = K_36 at h hP hle1 hc1 hs1
      have hle0 := hle0.tr hle1
      have hcn : kc K0 + (((0 + 1) + (Z_32 - kc K_1)) + (Z_37 - kc K_31)) = kc K_36 := by omega
      have hsn : ks K0 + (((0 + 2) + (Y_33 - ks K_1)) + (Y_38 - ks K_31)) = ks K_36 := by omega
      have hzz : kc K_36 ≤ Z := by omega
      have hyy : ks K_36 ≤ Y := by omega
      refine W.widen (k := Z - kc K0) (n := Y - ks K0) (by omega) (by omega) ?_
      exact W.iret (v := r_34) hx hb hr (fun t ht hW => ⟨⟨r_34, T_35, (kset K_36 Z Y), rfl, h, hle0, (by show Z = _; omega), (by show Y = _; omega), by rw [ht]; exact hP, va_K.moved hW.alike hK⟩, hS.F ht⟩) hS.2.2 dX1_content_70
    · have h := h.2 c_42
      refine lv_aload_n hx hb dX1_content_35 rfl (lv_at hl 0 rfl) ?_
      refine lv_iconst (v := 5) hx hb dX1_content_36 (by decide) ?_
      refine x_cV (k := 0) (As := [.int 5]) (rest := []) ⟨hx, hb, hml, hown, hts⟩ (mx1_no l G b hole 5 K_1 T_14  _ h) (cwV 1 hts (lw_V q486 q488 qs3 q118 q489) rfl rfl rfl cwx_X1_no ⟨Nat.le_of_ble_eq_true rfl, Nat.le_of_ble_eq_true rfl⟩) (x_recv (CC := RX1) (ci := 0) hK hP (xs_0 hP) (by decide) (by decide) rfl (xE_8 (xs_0 hP))) hK hV hb0 hP hS rfl hl.1 rfl (Nat.le_of_ble_eq_true rfl) dX1_content_37 ⟨by first | exact Nat.zero_le _ | (show _ + _ ≤ Z - kc K0; omega), by first | exact Nat.zero_le _ | (show _ + _ ≤ Y - ks K0; omega)⟩ (fun r_39 T1 K1 H locs h hle1 hc1 hs1 hP hS => ?_)
      obtain ⟨h, hKe⟩ := h
      rw [hKe] at hP
      generalize T1 = T_40 at h hP
      refine lv_goto (tgt := 70) hx hb dX1_content_40 (by decide) ?_
      refine W.widen (k := Z - kc K0) (n := Y - ks K0) (by omega) (by omega) ?_
      exact W.iret (v := r_39) hx hb hr (fun t ht hW => ⟨⟨r_39, T_40, (kset K_1 Z Y), rfl, h, hle0, (by show Z = _; omega), (by show Y = _; omega), by rw [ht]; exact hP, va_K.moved hW.alike hK⟩, hS.F ht⟩) hS.2.2 dX1_content_70
  · have h := h.2 c_43
    refine lv_iconst (v := (-1)) hx hb dX1_content_25 (by decide) ?_
    refine W.widen (k := Z - kc K0) (n := Y - ks K0) (by omega) (by omega) ?_
    exact W.iret (v := (-1)) hx hb hr (fun t ht hW => ⟨⟨(-1), T_14, (kset K_1 Z Y), rfl, h, hle0, (by show Z = _; omega), (by show Y = _; omega), by rw [ht]; exact hP, va_K.moved hW.alike hK⟩, hS.F ht⟩) hS.2.2 dX1_content_26
theorem cwx_X1_primitive_2 : yX1_primitive_2.cls = RX1 ∧ yX1_primitive_2.cls ≠ "java/lang/invoke/MethodHandle" ∧ yX1_primitive_2.cls ≠ "java/lang/invoke/VarHandle" ∧ (parseMethodDescriptor yX1_primitive_2.desc).map (fun d => d.parameters.length) = some 2 := by decide +kernel
def wx1_primitive_2_b79 (p1 : Int32) (p2 : Int32) (Z Y : Nat) (post : Int32 → XT → XK → Prop) (R69 : Int32 → XT → Prop) (R79 : Int32 → XT → Prop) (x4 : Nat) (x5 : Int32) (x6 : Int32) (K : XK) (T : XT) : Prop :=
          ∃ v_1 : Nat, xr T 0 9 = some v_1 ∧
          ∃ j_2 : Nat, j_2 < kl K v_1 ∧ x5 = nI j_2 ∧ ∃ v_3 : Nat, xr T v_1 j_2 = some v_3 ∧
          wx1_top v_3 K T (fun r_4 =>
          ((r_4 < x6 →
            ∀ x5_7 : Int32, x5_7 = x5 + 1 →
            R69 x5_7 T) ∧
           (¬ (r_4 < x6) →
            wx1_packed x5 x6 0 K T (fun r_8 =>
            ∃ v_11 : Nat, xr T 0 9 = some v_11 ∧
            ∃ j_12 : Nat, j_12 < kl K v_11 ∧ x5 = nI j_12 ∧ ∃ v_13 : Nat, xr T v_11 j_12 = some v_13 ∧
            ∃ j_14 : Nat, j_14 < kl K v_13 ∧ x6 = nI j_14 ∧
            ∃ j_15 : Nat, j_15 < kl K x4 ∧ r_8 = nI j_15 ∧ ∀ T_16 : XT, T_16 = xwi T x4 j_15 (xi T v_13 j_14) →
            ∀ x6_17 : Int32, x6_17 = x6 + 1 →
            R79 x6_17 T_16))))
def wx1_primitive_2_l79 (p1 : Int32) (p2 : Int32) (Z Y : Nat) (post : Int32 → XT → XK → Prop) (R69 : Int32 → XT → Prop) (x4 : Nat) (x5 : Int32) (x6 : Int32) (K : XK) (T : XT) : Prop := wLoop (fun (R : ((Int32) × (XT)) → Prop) (v : (Int32) × (XT)) => wx1_primitive_2_b79 p1 p2 Z Y post R69 (fun x6 T => R (x6, T)) x4 x5 v.1 K v.2) (x6, T)
def wx1_primitive_2_b69 (p1 : Int32) (p2 : Int32) (Z Y : Nat) (post : Int32 → XT → XK → Prop) (R69 : Int32 → XT → Prop) (x4 : Nat) (x5 : Int32) (K : XK) (T : XT) : Prop :=
      ((15 < x5 →
        ∃ Z_22 Y_23 : Nat, kc K ≤ Z_22 ∧ Z_22 ≤ Z ∧ ks K ≤ Y_23 ∧ Y_23 ≤ Y ∧ wx1_sorted x4 K T Z_22 Y_23 (fun r_19 T_20 K_21 =>
        ∃ Z_27 Y_28 : Nat, kc K_21 ≤ Z_27 ∧ Z_27 ≤ Z ∧ ks K_21 ≤ Y_28 ∧ Y_28 ≤ Y ∧ wx1_lays (some r_19) p2 K_21 T_20 Z_27 Y_28 (fun r_24 T_25 K_26 =>
        post r_24 T_25 (kset K_26 Z Y)))) ∧
       (¬ (15 < x5) →
        wx1_primitive_2_l79 p1 p2 Z Y post R69 x4 x5 0 K T))
def wx1_primitive_2_l69 (p1 : Int32) (p2 : Int32) (Z Y : Nat) (post : Int32 → XT → XK → Prop) (x4 : Nat) (x5 : Int32) (K : XK) (T : XT) : Prop := wLoop (fun (R : ((Int32) × (XT)) → Prop) (v : (Int32) × (XT)) => wx1_primitive_2_b69 p1 p2 Z Y post (fun x5 T => R (x5, T)) x4 v.1 K v.2) (x5, T)
def wx1_primitive_2 (p1 : Int32) (p2 : Int32) (K0 : XK) (T : XT) (Z Y : Nat) (post : Int32 → XT → XK → Prop) : Prop :=
  kc K0 + 1 ≤ Z ∧ ks K0 + 2 ≤ Y ∧ ∀ K_30 : XK, K_30 = knew K0 1 2 2 → ∀ T_31 : XT, T_31 = xnil T (kz K0) →
  ∃ j_32 : Nat, j_32 < kl K_30 (kz K0) ∧ 0 = nI j_32 ∧ ∀ T_33 : XT, T_33 = xwi T_31 (kz K0) j_32 p1 →
  ∃ j_34 : Nat, j_34 < kl K_30 (kz K0) ∧ 1 = nI j_34 ∧ ∀ T_35 : XT, T_35 = xwi T_33 (kz K0) j_34 p2 →
  wx1_is (kz K0) K_30 T_35 (fun r_36 =>
  wx1_why r_36 K_30 T_35 (fun r_39 =>
  wx1_isRefused r_39 K_30 T_35 (fun r_42 T_43 =>
  ((r_42 = 0 →
    wx1_hasThird p1 K_30 T_43 (fun r_45 =>
    ((r_45 = 0 →
      ∃ v_48 : Nat, xr T_43 0 18 = some v_48 ∧
      ∃ j_49 : Nat, j_49 < kl K_30 v_48 ∧ p1 = nI j_49 ∧ ∃ v_50 : Nat, xr T_43 v_48 j_49 = some v_50 ∧
      ∃ v_51 : Nat, xr T_43 0 9 = some v_51 ∧
      wx1_lays_2 v_50 v_51 K_30 T_43 (fun r_52 T_53 =>
      ∃ Z_58 Y_59 : Nat, kc K_30 ≤ Z_58 ∧ Z_58 ≤ Z ∧ ks K_30 ≤ Y_59 ∧ Y_59 ≤ Y ∧ wx1_primitive r_52 K_30 T_53 Z_58 Y_59 (fun r_55 T_56 K_57 =>
      wx1_blank  K_57 T_56 (fun r_60 T_61 =>
      wx1_primitive_2_l69 p1 p2 Z Y post r_60 0 K_57 T_61)))) ∧
     (¬ (r_45 = 0) →
      wx1_no 5 K_30 T_43 (fun r_63 T_64 =>
      post r_63 T_64 (kset K_30 Z Y)))))) ∧
   (¬ (r_42 = 0) →
    post (-1) T_43 (kset K_30 Z Y))))))
set_option maxHeartbeats 4000000 in
theorem mx1_primitive_2 (l : Launch) (G : XG) (b : Nat) (hole : Nat → Prop) (p1 : Int32) (p2 : Int32) (K0 : XK) (T : XT) (Z Y : Nat) (hZ : kc K0 ≤ Z) (hY : ks K0 ≤ Y)  (post : Int32 → XT → XK → Prop) (h : wx1_primitive_2 p1 p2 K0 T Z Y post) : Met l yX1_primitive_2 (ws_ yX1_primitive_2 cX1_primitive_2 7 (some .int)) ({ frames := 5, cells := (Z - kc K0), slots := (Y - ks K0), locals := 115 } : Room) (xPc G b hole [.ref (b + 0), .int p1, .int p2] K0 T) (xQ G b hole K0 (Z - kc K0) (Y - ks K0) (ρ := Int32) eI (fun r T1 K1 => post r T1 K1)) (Z - kc K0) (Y - ks K0) (xA b hole) := by
  refine Met.ofW (cc := cX1_primitive_2) (maxL := 7) (ret := (some .int)) (by decide) rfl ?_
  intro p e s m args below meth c s₁ B hml hv
  obtain ⟨rfl, hP, hK, hV⟩ := hv
  have hx := B.exec
  have hb := B.bytes
  have hr := B.returns
  have hts := atoms_spec (ws := ws_ yX1_primitive_2 cX1_primitive_2 7 (some .int)) B.pre
  have hts : ∀ w ∈ lw_all, w.before _ s = true := fun w h => hts w (List.mem_cons_of_mem _ h)
  have hown : s.vm.findClass RX1 = some m.cls := findClass_of_methodNamed B.named
  have hlocks := B.notSynchronized
  have hb0 : b ≤ s.heap.size := by rw [hP.2.2.2]; exact Nat.le_add_right _ _
  have hS : va_S (xA b hole) s.heap s.heap [] := va_S.rf
  have hl := lv_entry ([.ref (b + 0), .int p1, .int p2]) (n := 7) (Nat.le_of_ble_eq_true rfl)
  rw [lg_entry_eq]
  generalize (lg_sl ([.ref (b + 0), .int p1, .int p2]) ++ List.replicate (7 - (lg_sl ([.ref (b + 0), .int p1, .int p2])).length) Slot.unset).toArray = ls at hl ⊢
  have hl : lv_has ls 7 [(0, .ref (b + 0)), (1, .int p1), (2, .int p2)] := hl
  have hle0 : kle K0 K0 := kle.rf
  have L69 : ∀ (x4 : Nat) (x5 : Int32) (T : XT) (K : XK) (cn sn : Nat) (H : Heap) (locs : List Loc) (ls : Array Slot), wx1_primitive_2_l69 p1 p2 Z Y post x4 x5 K T → kle K0 K → kc K0 + cn = kc K → ks K0 + sn = ks K → kc K ≤ Z → ks K ≤ Y → (kd K x4 = 1) → xW G b hole K T H → va_S (xA b hole) s.heap H locs → lv_has ls 7 [(0, .ref (b + 0)), (2, .int p2), (4, .ref (b + x4)), (5, .int x5)] → W p l e (headSpec (ws_ yX1_primitive_2 cX1_primitive_2 7 (some .int)) ({ frames := 5, cells := (Z - kc K0), slots := (Y - ks K0), locals := 115 } : Room)).room s m ([.ref (b + 0), .int p1, .int p2] : List Value).toArray below meth c H locs cn sn (MQ below (xQ G b hole K0 (Z - kc K0) (Y - ks K0) (ρ := Int32) eI (fun r T1 K1 => post r T1 K1)) ([.ref (b + 0), .int p1, .int p2] : List Value).toArray s (Z - kc K0) (Y - ks K0) (xA b hole)) (F0 m 69 ls []) := by
    intro x4 x5 T K cn sn H locs ls h hle0 hcn hsn hzz hyy hk_x4 hP hS hl
    obtain ⟨I69, n69, hI, hstep69⟩ := h
    induction n69 using Nat.strongRecOn generalizing x5 T H locs ls with
    | ind n69 ih69 =>
      have h : wx1_primitive_2_b69 p1 p2 Z Y post (fun x5 T => ∃ mm, mm < n69 ∧ I69 mm (x5, T)) x4 x5 K T := hstep69 n69 _ hI
      clear hI
      have L79 : ∀ (x5 : Int32) (x6 : Int32) (T : XT) (H : Heap) (locs : List Loc) (ls : Array Slot), wx1_primitive_2_l79 p1 p2 Z Y post (fun x5 T => ∃ mm, mm < n69 ∧ I69 mm (x5, T)) x4 x5 x6 K T → xW G b hole K T H → va_S (xA b hole) s.heap H locs → lv_has ls 7 [(0, .ref (b + 0)), (2, .int p2), (4, .ref (b + x4)), (5, .int x5), (6, .int x6)] → W p l e (headSpec (ws_ yX1_primitive_2 cX1_primitive_2 7 (some .int)) ({ frames := 5, cells := (Z - kc K0), slots := (Y - ks K0), locals := 115 } : Room)).room s m ([.ref (b + 0), .int p1, .int p2] : List Value).toArray below meth c H locs cn sn (MQ below (xQ G b hole K0 (Z - kc K0) (Y - ks K0) (ρ := Int32) eI (fun r T1 K1 => post r T1 K1)) ([.ref (b + 0), .int p1, .int p2] : List Value).toArray s (Z - kc K0) (Y - ks K0) (xA b hole)) (F0 m 79 ls []) := by
        intro x5 x6 T H locs ls h hP hS hl
        obtain ⟨I79, n79, hI, hstep79⟩ := h
        induction n79 using Nat.strongRecOn generalizing x6 T H locs ls with
        | ind n79 ih79 =>
          have h : wx1_primitive_2_b79 p1 p2 Z Y post (fun x5 T => ∃ mm, mm < n69 ∧ I69 mm (x5, T)) (fun x6 T => ∃ mm, mm < n79 ∧ I79 mm (x6, T)) x4 x5 x6 K T := hstep79 n79 _ hI
          clear hI
          unfold wx1_primitive_2_b79 at h
          refine lv_iload hx hb dX1_primitive_2_79 (lv_at hl 4 rfl) ?_
          refine lv_aload_n hx hb dX1_primitive_2_81 rfl (lv_at hl 0 rfl) ?_
          obtain ⟨v_1, ev_1, h⟩ := h
          refine x_get (CC := RX1) (TT := TX1) (N := 26) (ci := 0) (v := rfv b (xr T 0 9)) hx hb hts in_X1 hown hK hP (xs_0 hP) (by decide) (by decide) rfl (xE_8 (xs_0 hP)) 9 (by decide) q394 rfl rfl dX1_primitive_2_82 ?_
          refine x_some ev_1 ?_
          have hk_v_1 : kd K v_1 = 4 := hP.ty (xs_0 hP) (by decide) ev_1
          refine lv_iload hx hb dX1_primitive_2_85 (lv_at hl 3 rfl) ?_
          obtain ⟨j_2, hj_2, ej_2, v_3, ev_3, h⟩ := h
          refine x_aald4 hx hb hK hP hk_v_1 ej_2 hj_2 dX1_primitive_2_87 ?_
          refine x_some ev_3 ?_
          have hk_v_3 : kd K v_3 = 1 := hP.ty hk_v_1 (by decide) ev_3
          refine x_cS (As := [.ref (b + v_3)]) (rest := [.int x6]) ⟨hx, hb, hml, hown, hts⟩ (mx1_top l G b hole v_3 K T hk_v_3 _ h) (va_cwS 1 hts (lw_S q1113 q1114 q118 q1115) rfl rfl rfl cwx_X1_top ⟨Nat.le_of_ble_eq_true rfl, Nat.le_of_ble_eq_true rfl⟩) hK hV hb0 hP hS rfl hl.1 rfl (Nat.le_of_ble_eq_true rfl) dX1_primitive_2_88 ⟨by first | exact Nat.zero_le _ | (show _ + _ ≤ Z - kc K0; omega), by first | exact Nat.zero_le _ | (show _ + _ ≤ Y - ks K0; omega)⟩ (fun r_4 T1 K1 H locs h hle1 hc1 hs1 hP hS => ?_)
          obtain ⟨h, hTe, hKe⟩ := h
          rw [hTe, hKe] at hP
          refine lv_icmp_gt (tgt := 121) hx hb dX1_primitive_2_91 (by decide) (fun c_18 => ?_) (fun c_18 => ?_)
          · have h := h.1 c_18
            obtain ⟨x5_7, ex5_7⟩ : ∃ y : Int32, y = x5 + 1 := ⟨_, rfl⟩
            have h := h x5_7 ex5_7
            refine lv_iinc (v := x5_7) (lv' := [(5, .int x5_7), (0, .ref (b + 0)), (2, .int p2), (4, .ref (b + x4)), (6, .int x6)]) hx hb dX1_primitive_2_121 hl (k := 3) rfl (by rw [ex5_7]; rfl) (by decide) rfl (fun ls hl => ?_)
            refine lv_goto (tgt := 69) hx hb dX1_primitive_2_124 (by decide) ?_
            obtain ⟨mm, hmm, h⟩ := h
            exact ih69 mm hmm _ _ _ _ _  hP hS (lv_sub hl [1, 2, 3, 0] rfl) h
          · have h := h.2 c_18
            refine lv_aload hx hb dX1_primitive_2_94 (lv_at hl 2 rfl) ?_
            refine lv_iload hx hb dX1_primitive_2_96 (lv_at hl 3 rfl) ?_
            refine lv_iload hx hb dX1_primitive_2_98 (lv_at hl 4 rfl) ?_
            refine lv_iconst (v := 0) hx hb dX1_primitive_2_100 (by decide) ?_
            refine x_cS (As := [.int x5, .int x6, .int 0]) (rest := [.ref (b + x4)]) ⟨hx, hb, hml, hown, hts⟩ (mx1_packed l G b hole x5 x6 0 K T  _ h) (va_cwS 3 hts (lw_S q836 q837 q118 q838) rfl rfl rfl cwx_X1_packed ⟨Nat.le_of_ble_eq_true rfl, Nat.le_of_ble_eq_true rfl⟩) hK hV hb0 hP hS rfl hl.1 rfl (Nat.le_of_ble_eq_true rfl) dX1_primitive_2_101 ⟨by first | exact Nat.zero_le _ | (show _ + _ ≤ Z - kc K0; omega), by first | exact Nat.zero_le _ | (show _ + _ ≤ Y - ks K0; omega)⟩ (fun r_8 T1 K1 H locs h hle1 hc1 hs1 hP hS => ?_)
            obtain ⟨h, hTe, hKe⟩ := h
            rw [hTe, hKe] at hP
            refine lv_aload_n hx hb dX1_primitive_2_104 rfl (lv_at hl 0 rfl) ?_
            obtain ⟨v_11, ev_11, h⟩ := h
            refine x_get (CC := RX1) (TT := TX1) (N := 26) (ci := 0) (v := rfv b (xr T 0 9)) hx hb hts in_X1 hown hK hP (xs_0 hP) (by decide) (by decide) rfl (xE_8 (xs_0 hP)) 9 (by decide) q394 rfl rfl dX1_primitive_2_105 ?_
            refine x_some ev_11 ?_
            have hk_v_11 : kd K v_11 = 4 := hP.ty (xs_0 hP) (by decide) ev_11
            refine lv_iload hx hb dX1_primitive_2_108 (lv_at hl 3 rfl) ?_
            obtain ⟨j_12, hj_12, ej_12, v_13, ev_13, h⟩ := h
            refine x_aald4 hx hb hK hP hk_v_11 ej_12 hj_12 dX1_primitive_2_110 ?_
            refine x_some ev_13 ?_
            have hk_v_13 : kd K v_13 = 1 := hP.ty hk_v_11 (by decide) ev_13
            refine lv_iload hx hb dX1_primitive_2_111 (lv_at hl 4 rfl) ?_
            obtain ⟨j_14, hj_14, ej_14, h⟩ := h
            refine x_iald hx hb hK hP hk_v_13 ej_14 hj_14 dX1_primitive_2_113 ?_
            obtain ⟨j_15, hj_15, ej_15, h⟩ := h
            obtain ⟨T_16, eT_16⟩ : ∃ z : XT, z = xwi T x4 j_15 (xi T v_13 j_14) := ⟨_, rfl⟩
            have h := h T_16 eT_16
            refine x_iast hx hb hK hP hS hk_x4 ej_15 hj_15 dX1_primitive_2_114 (fun H locs hP hS => ?_)
            rw [← eT_16] at hP
            obtain ⟨x6_17, ex6_17⟩ : ∃ y : Int32, y = x6 + 1 := ⟨_, rfl⟩
            have h := h x6_17 ex6_17
            refine lv_iinc (v := x6_17) (lv' := [(6, .int x6_17), (0, .ref (b + 0)), (2, .int p2), (4, .ref (b + x4)), (5, .int x5)]) hx hb dX1_primitive_2_115 hl (k := 4) rfl (by rw [ex6_17]; rfl) (by decide) rfl (fun ls hl => ?_)
            refine lv_goto (tgt := 79) hx hb dX1_primitive_2_118 (by decide) ?_
            obtain ⟨mm, hmm, h⟩ := h
            exact ih79 mm hmm _ _ _ _ _  hP hS (lv_sub hl [1, 2, 3, 4, 0] rfl) h
      unfold wx1_primitive_2_b69 at h
      refine lv_iload hx hb dX1_primitive_2_69 (lv_at hl 3 rfl) ?_
      refine lv_bipush (v := 15) hx hb dX1_primitive_2_71 (by decide) ?_
      refine lv_icmp_gt (tgt := 127) hx hb dX1_primitive_2_73 (by decide) (fun c_29 => ?_) (fun c_29 => ?_)
      · have h := h.1 c_29
        refine lv_aload_n hx hb dX1_primitive_2_127 rfl (lv_at hl 0 rfl) ?_
        refine lv_aload_n hx hb dX1_primitive_2_128 rfl (lv_at hl 0 rfl) ?_
        refine lv_aload hx hb dX1_primitive_2_129 (lv_at hl 2 rfl) ?_
        obtain ⟨Z_22, Y_23, hz1, hz2, hy1, hy2, h⟩ := h
        refine x_cV (k := 0) (As := [.ref (b + x4)]) (rest := [.ref (b + 0)]) ⟨hx, hb, hml, hown, hts⟩ (mx1_sorted l G b hole x4 K T Z_22 Y_23 hz1 hy1 hk_x4 _ h) (cwV 1 hts (lw_V q1067 q750 qs23 q118 q751) rfl rfl rfl cwx_X1_sorted ⟨Nat.le_of_ble_eq_true rfl, Nat.le_of_ble_eq_true rfl⟩) (x_recv (CC := RX1) (ci := 0) hK hP (xs_0 hP) (by decide) (by decide) rfl (xE_8 (xs_0 hP))) hK hV hb0 hP hS rfl hl.1 rfl (Nat.le_of_ble_eq_true rfl) dX1_primitive_2_131 ⟨by first | exact Nat.zero_le _ | (show _ + _ ≤ Z - kc K0; omega), by first | exact Nat.zero_le _ | (show _ + _ ≤ Y - ks K0; omega)⟩ (fun r_19 T1 K1 H locs h hle1 hc1 hs1 hP hS => ?_)
        obtain ⟨h, hk_r_19⟩ := h
        generalize T1 = T_20 at h hP
        generalize K1 = K_21 at h hP hle1 hc1 hs1 hk_r_19
        have hk_x4 : kd K_21 x4 = 1 := hle1.kd hk_x4
        have hle0 := hle0.tr hle1
        have hcn : kc K0 + (cn + (Z_22 - kc K)) = kc K_21 := by omega
        have hsn : ks K0 + (sn + (Y_23 - ks K)) = ks K_21 := by omega
        have hzz : kc K_21 ≤ Z := by omega
        have hyy : ks K_21 ≤ Y := by omega
        refine lv_iload_n hx hb dX1_primitive_2_134 rfl (lv_at hl 1 rfl) ?_
        obtain ⟨Z_27, Y_28, hz1, hz2, hy1, hy2, h⟩ := h
        refine x_cV (k := 0) (As := [.ref (b + r_19), .int p2]) (rest := []) ⟨hx, hb, hml, hown, hts⟩ (mx1_lays l G b hole (some r_19) p2 K_21 T_20 Z_27 Y_28 hz1 hy1 (fun _ e9 => by cases e9; exact hk_r_19) _ h) (cwV 2 hts (lw_V q995 q997 qs43 q118 q998) rfl rfl rfl cwx_X1_lays ⟨Nat.le_of_ble_eq_true rfl, Nat.le_of_ble_eq_true rfl⟩) (x_recv (CC := RX1) (ci := 0) hK hP (xs_0 hP) (by decide) (by decide) rfl (xE_8 (xs_0 hP))) hK hV hb0 hP hS rfl hl.1 rfl (Nat.le_of_ble_eq_true rfl) dX1_primitive_2_135 ⟨by first | exact Nat.zero_le _ | (show _ + _ ≤ Z - kc K0; omega), by first | exact Nat.zero_le _ | (show _ + _ ≤ Y - ks K0; omega)⟩ (fun r_24 T1 K1 H locs h hle1 hc1 hs1 hP hS => ?_)
        generalize T1 = T_25 at h hP
        generalize K1 = K_26 at h hP hle1 hc1 hs1
        have hk_x4 : kd K_26 x4 = 1 := hle1.kd hk_x4
        have hle0 := hle0.tr hle1
        have hcn : kc K0 + ((cn + (Z_22 - kc K)) + (Z_27 - kc K_21)) = kc K_26 := by omega
        have hsn : ks K0 + ((sn + (Y_23 - ks K)) + (Y_28 - ks K_21)) = ks K_26 := by omega
        have hzz : kc K_26 ≤ Z := by omega
        have hyy : ks K_26 ≤ Y := by omega
        refine W.widen (k := Z - kc K0) (n := Y - ks K0) (by omega) (by omega) ?_
        exact W.iret (v := r_24) hx hb hr (fun t ht hW => ⟨⟨r_24, T_25, (kset K_26 Z Y), rfl, h, hle0, (by show Z = _; omega), (by show Y = _; omega), by rw [ht]; exact hP, va_K.moved hW.alike hK⟩, hS.F ht⟩) hS.2.2 dX1_primitive_2_138
      · have h := h.2 c_29
        refine lv_iconst (v := 0) hx hb dX1_primitive_2_76 (by decide) ?_
        refine lv_istore (lv' := [(6, .int 0), (0, .ref (b + 0)), (2, .int p2), (4, .ref (b + x4)), (5, .int x5)]) hx hb dX1_primitive_2_77 hl (by decide) rfl (fun ls hl => ?_)
        exact L79 _ _ _ _ _ _ h  hP hS (lv_sub hl [1, 2, 3, 4, 0] rfl)
  have hcn : kc K0 + 0 = kc K0 := rfl
  have hsn : ks K0 + 0 = ks K0 := rfl
  have hzz := hZ
  have hyy := hY
  unfold wx1_primitive_2 at h
  refine lv_aload_n hx hb dX1_primitive_2_0 rfl (lv_at hl 0 rfl) ?_
  refine lv_aload_n hx hb dX1_primitive_2_1 rfl (lv_at hl 0 rfl) ?_
  refine lv_iconst (v := 2) hx hb dX1_primitive_2_2 (by decide) ?_
  obtain ⟨hc1, hs1, h⟩ := h
  obtain ⟨K_30, eK_30⟩ : ∃ z : XK, z = knew K0 1 2 2 := ⟨_, rfl⟩
  obtain ⟨T_31, eT_31⟩ : ∃ z : XT, z = xnil T (kz K0) := ⟨_, rfl⟩
  have h := h K_30 eK_30 T_31 eT_31
  have hle1 : kle K0 K_30 := by rw [eK_30]; exact kle.new hP.2.2.1 _ _ _
  refine x_newai (N := 2) hx hb hts q170 hK hP hS (by decide) (by decide) (by show _ + 1 ≤ Z - kc K0; omega) (by show _ + _ ≤ Y - ks K0; omega) dX1_primitive_2_3 (fun H hP hS => ?_)
  rw [← eK_30, ← eT_31] at hP
  have hk_n30 : kd K_30 (kz K0) = 1 := by rw [eK_30]; exact knew_kd
  have hle0 := hle0.tr hle1
  have hcn : kc K0 + (0 + 1) = kc K_30 := by rw [eK_30]; show _ = kc K0 + 1; omega
  have hsn : ks K0 + (0 + 2) = ks K_30 := by rw [eK_30]; show _ = ks K0 + 2; omega
  have hzz : kc K_30 ≤ Z := by rw [eK_30]; exact hc1
  have hyy : ks K_30 ≤ Y := by rw [eK_30]; exact hs1
  refine lv_dup hx hb dX1_primitive_2_5 rfl ?_
  refine lv_iconst (v := 0) hx hb dX1_primitive_2_6 (by decide) ?_
  refine lv_iload_n hx hb dX1_primitive_2_7 rfl (lv_at hl 1 rfl) ?_
  obtain ⟨j_32, hj_32, ej_32, h⟩ := h
  obtain ⟨T_33, eT_33⟩ : ∃ z : XT, z = xwi T_31 (kz K0) j_32 p1 := ⟨_, rfl⟩
  have h := h T_33 eT_33
  refine x_iast hx hb hK hP hS hk_n30 ej_32 hj_32 dX1_primitive_2_8 (fun H locs hP hS => ?_)
  rw [← eT_33] at hP
  refine lv_dup hx hb dX1_primitive_2_9 rfl ?_
  refine lv_iconst (v := 1) hx hb dX1_primitive_2_10 (by decide) ?_
  refine lv_iload_n hx hb dX1_primitive_2_11 rfl (lv_at hl 2 rfl) ?_
  obtain ⟨j_34, hj_34, ej_34, h⟩ := h
  obtain ⟨T_35, eT_35⟩ : ∃ z : XT, z = xwi T_33 (kz K0) j_34 p2 := ⟨_, rfl⟩
  have h := h T_35 eT_35
  refine x_iast hx hb hK hP hS hk_n30 ej_34 hj_34 dX1_primitive_2_12 (fun H locs hP hS => ?_)
  rw [← eT_35] at hP
  refine x_cS (As := [.ref (b + (kz K0))]) (rest := [.ref (b + 0), .ref (b + 0)]) ⟨hx, hb, hml, hown, hts⟩ (mx1_is l G b hole (kz K0) K_30 T_35 hk_n30 _ h) (va_cwS 1 hts (lw_S q793 q794 q118 q795) rfl rfl rfl cwx_X1_is ⟨Nat.le_of_ble_eq_true rfl, Nat.le_of_ble_eq_true rfl⟩) hK hV hb0 hP hS rfl hl.1 rfl (Nat.le_of_ble_eq_true rfl) dX1_primitive_2_13 ⟨by first | exact Nat.zero_le _ | (show _ + _ ≤ Z - kc K0; omega), by first | exact Nat.zero_le _ | (show _ + _ ≤ Y - ks K0; omega)⟩ (fun r_36 T1 K1 H locs h hle1 hc1 hs1 hP hS => ?_)
  obtain ⟨h, hTe, hKe⟩ := h
  rw [hTe, hKe] at hP
  refine x_cV (k := 0) (As := [.int r_36]) (rest := [.ref (b + 0)]) ⟨hx, hb, hml, hown, hts⟩ (mx1_why l G b hole r_36 K_30 T_35  _ h) (cwV 1 hts (lw_V q769 q771 qs24 q118 q772) rfl rfl rfl cwx_X1_why ⟨Nat.le_of_ble_eq_true rfl, Nat.le_of_ble_eq_true rfl⟩) (x_recv (CC := RX1) (ci := 0) hK hP (xs_0 hP) (by decide) (by decide) rfl (xE_8 (xs_0 hP))) hK hV hb0 hP hS rfl hl.1 rfl (Nat.le_of_ble_eq_true rfl) dX1_primitive_2_16 ⟨by first | exact Nat.zero_le _ | (show _ + _ ≤ Z - kc K0; omega), by first | exact Nat.zero_le _ | (show _ + _ ≤ Y - ks K0; omega)⟩ (fun r_39 T1 K1 H locs h hle1 hc1 hs1 hP hS => ?_)
  obtain ⟨h, hTe, hKe⟩ := h
  rw [hTe, hKe] at hP
  refine x_cV (k := 0) (As := [.int r_39]) (rest := []) ⟨hx, hb, hml, hown, hts⟩ (mx1_isRefused l G b hole r_39 K_30 T_35  _ h) (cwV 1 hts (lw_V q777 q779 qs26 q118 q780) rfl rfl rfl cwx_X1_isRefused ⟨Nat.le_of_ble_eq_true rfl, Nat.le_of_ble_eq_true rfl⟩) (x_recv (CC := RX1) (ci := 0) hK hP (xs_0 hP) (by decide) (by decide) rfl (xE_8 (xs_0 hP))) hK hV hb0 hP hS rfl hl.1 rfl (Nat.le_of_ble_eq_true rfl) dX1_primitive_2_19 ⟨by first | exact Nat.zero_le _ | (show _ + _ ≤ Z - kc K0; omega), by first | exact Nat.zero_le _ | (show _ + _ ≤ Y - ks K0; omega)⟩ (fun r_42 T1 K1 H locs h hle1 hc1 hs1 hP hS => ?_)
  obtain ⟨h, hKe⟩ := h
  rw [hKe] at hP
  generalize T1 = T_43 at h hP
  refine lv_if_eq (tgt := 27) hx hb dX1_primitive_2_22 (by decide) (fun c_67 => ?_) (fun c_67 => ?_)
  · have h := h.1 c_67
    refine lv_aload_n hx hb dX1_primitive_2_27 rfl (lv_at hl 0 rfl) ?_
    refine lv_iload_n hx hb dX1_primitive_2_28 rfl (lv_at hl 1 rfl) ?_
    refine x_cV (k := 0) (As := [.int p1]) (rest := []) ⟨hx, hb, hml, hown, hts⟩ (mx1_hasThird l G b hole p1 K_30 T_43  _ h) (cwV 1 hts (lw_V q1092 q1094 qs47 q118 q1095) rfl rfl rfl cwx_X1_hasThird ⟨Nat.le_of_ble_eq_true rfl, Nat.le_of_ble_eq_true rfl⟩) (x_recv (CC := RX1) (ci := 0) hK hP (xs_0 hP) (by decide) (by decide) rfl (xE_8 (xs_0 hP))) hK hV hb0 hP hS rfl hl.1 rfl (Nat.le_of_ble_eq_true rfl) dX1_primitive_2_29 ⟨by first | exact Nat.zero_le _ | (show _ + _ ≤ Z - kc K0; omega), by first | exact Nat.zero_le _ | (show _ + _ ≤ Y - ks K0; omega)⟩ (fun r_45 T1 K1 H locs h hle1 hc1 hs1 hP hS => ?_)
    obtain ⟨h, hTe, hKe⟩ := h
    rw [hTe, hKe] at hP
    refine lv_if_eq (tgt := 41) hx hb dX1_primitive_2_32 (by decide) (fun c_66 => ?_) (fun c_66 => ?_)
    · have h := h.1 c_66
      refine lv_aload_n hx hb dX1_primitive_2_41 rfl (lv_at hl 0 rfl) ?_
      refine lv_aload_n hx hb dX1_primitive_2_42 rfl (lv_at hl 0 rfl) ?_
      refine lv_aload_n hx hb dX1_primitive_2_43 rfl (lv_at hl 0 rfl) ?_
      obtain ⟨v_48, ev_48, h⟩ := h
      refine x_get (CC := RX1) (TT := TX1) (N := 26) (ci := 0) (v := rfv b (xr T_43 0 18)) hx hb hts in_X1 hown hK hP (xs_0 hP) (by decide) (by decide) rfl (xE_8 (xs_0 hP)) 18 (by decide) q405 rfl rfl dX1_primitive_2_44 ?_
      refine x_some ev_48 ?_
      have hk_v_48 : kd K_30 v_48 = 3 := hP.ty (xs_0 hP) (by decide) ev_48
      refine lv_iload_n hx hb dX1_primitive_2_47 rfl (lv_at hl 1 rfl) ?_
      obtain ⟨j_49, hj_49, ej_49, v_50, ev_50, h⟩ := h
      refine x_aald3 hx hb hK hP hk_v_48 ej_49 hj_49 dX1_primitive_2_48 ?_
      refine x_some ev_50 ?_
      have hk_v_50 : kd K_30 v_50 = 2 := hP.ty hk_v_48 (by decide) ev_50
      refine lv_aload_n hx hb dX1_primitive_2_49 rfl (lv_at hl 0 rfl) ?_
      obtain ⟨v_51, ev_51, h⟩ := h
      refine x_get (CC := RX1) (TT := TX1) (N := 26) (ci := 0) (v := rfv b (xr T_43 0 9)) hx hb hts in_X1 hown hK hP (xs_0 hP) (by decide) (by decide) rfl (xE_8 (xs_0 hP)) 9 (by decide) q394 rfl rfl dX1_primitive_2_50 ?_
      refine x_some ev_51 ?_
      have hk_v_51 : kd K_30 v_51 = 4 := hP.ty (xs_0 hP) (by decide) ev_51
      refine x_cV (k := 0) (As := [.ref (b + v_50), .ref (b + v_51)]) (rest := [.ref (b + 0)]) ⟨hx, hb, hml, hown, hts⟩ (mx1_lays_2 l G b hole v_50 v_51 K_30 T_43 hk_v_50 hk_v_51 _ h) (cwV 2 hts (lw_V q1100 q1102 qs49 q118 q1103) rfl rfl rfl cwx_X1_lays_2 ⟨Nat.le_of_ble_eq_true rfl, Nat.le_of_ble_eq_true rfl⟩) (x_recv (CC := RX1) (ci := 0) hK hP (xs_0 hP) (by decide) (by decide) rfl (xE_8 (xs_0 hP))) hK hV hb0 hP hS rfl hl.1 rfl (Nat.le_of_ble_eq_true rfl) dX1_primitive_2_53 ⟨by first | exact Nat.zero_le _ | (show _ + _ ≤ Z - kc K0; omega), by first | exact Nat.zero_le _ | (show _ + _ ≤ Y - ks K0; omega)⟩ (fun r_52 T1 K1 H locs h hle1 hc1 hs1 hP hS => ?_)
      obtain ⟨h, hk_r_52, hKe⟩ := h
      rw [hKe] at hP
      generalize T1 = T_53 at h hP
      rw [hKe] at hk_r_52
      obtain ⟨Z_58, Y_59, hz1, hz2, hy1, hy2, h⟩ := h
      refine x_cV (k := 0) (As := [.ref (b + r_52)]) (rest := []) ⟨hx, hb, hml, hown, hts⟩ (mx1_primitive l G b hole r_52 K_30 T_53 Z_58 Y_59 hz1 hy1 hk_r_52 _ h) (cwV 1 hts (lw_V q1104 q1106 qs50 q118 q1107) rfl rfl rfl cwx_X1_primitive ⟨Nat.le_of_ble_eq_true rfl, Nat.le_of_ble_eq_true rfl⟩) (x_recv (CC := RX1) (ci := 0) hK hP (xs_0 hP) (by decide) (by decide) rfl (xE_8 (xs_0 hP))) hK hV hb0 hP hS rfl hl.1 rfl (Nat.le_of_ble_eq_true rfl) dX1_primitive_2_56 ⟨by first | exact Nat.zero_le _ | (show _ + _ ≤ Z - kc K0; omega), by first | exact Nat.zero_le _ | (show _ + _ ≤ Y - ks K0; omega)⟩ (fun r_55 T1 K1 H locs h hle1 hc1 hs1 hP hS => ?_)
      obtain ⟨h, hk_r_55⟩ := h
      generalize T1 = T_56 at h hP
      generalize K1 = K_57 at h hP hle1 hc1 hs1 hk_r_55
      have hle0 := hle0.tr hle1
      have hcn : kc K0 + ((0 + 1) + (Z_58 - kc K_30)) = kc K_57 := by omega
      have hsn : ks K0 + ((0 + 2) + (Y_59 - ks K_30)) = ks K_57 := by omega
      have hzz : kc K_57 ≤ Z := by omega
      have hyy : ks K_57 ≤ Y := by omega
      refine lv_astore_n (lv' := [(3, .ref (b + r_55)), (0, .ref (b + 0)), (1, .int p1), (2, .int p2)]) hx hb dX1_primitive_2_59 rfl hl (by decide) rfl (fun ls hl => ?_)
      refine lv_aload_n hx hb dX1_primitive_2_60 rfl (lv_at hl 1 rfl) ?_
      refine x_cV (k := 0) (As := []) (rest := []) ⟨hx, hb, hml, hown, hts⟩ (mx1_blank l G b hole  K_57 T_56  _ h) (cwV 0 hts (lw_V q835 q739 qs21 q118 q740) rfl rfl rfl cwx_X1_blank ⟨Nat.le_of_ble_eq_true rfl, Nat.le_of_ble_eq_true rfl⟩) (x_recv (CC := RX1) (ci := 0) hK hP (xs_0 hP) (by decide) (by decide) rfl (xE_8 (xs_0 hP))) hK hV hb0 hP hS rfl hl.1 rfl (Nat.le_of_ble_eq_true rfl) dX1_primitive_2_61 ⟨by first | exact Nat.zero_le _ | (show _ + _ ≤ Z - kc K0; omega), by first | exact Nat.zero_le _ | (show _ + _ ≤ Y - ks K0; omega)⟩ (fun r_60 T1 K1 H locs h hle1 hc1 hs1 hP hS => ?_)
      obtain ⟨h, hk_r_60, hKe⟩ := h
      rw [hKe] at hP
      generalize T1 = T_61 at h hP
      rw [hKe] at hk_r_60
      refine lv_astore (lv' := [(4, .ref (b + r_60)), (3, .ref (b + r_55)), (0, .ref (b + 0)), (1, .int p1), (2, .int p2)]) hx hb dX1_primitive_2_64 hl (by decide) rfl (fun ls hl => ?_)
      refine lv_iconst (v := 0) hx hb dX1_primitive_2_66 (by decide) ?_
      refine lv_istore (lv' := [(5, .int 0), (4, .ref (b + r_60)), (3, .ref (b + r_55)), (0, .ref (b + 0)), (1, .int p1), (2, .int p2)]) hx hb dX1_primitive_2_67 hl (by decide) rfl (fun ls hl => ?_)
      exact L69 _ _ _ _ _ _ _ _ _ h hle0 hcn hsn hzz hyy hk_r_60 hP hS (lv_sub hl [3, 5, 1, 0] rfl)
    · have h := h.2 c_66
      refine lv_aload_n hx hb dX1_primitive_2_35 rfl (lv_at hl 0 rfl) ?_
      refine lv_iconst (v := 5) hx hb dX1_primitive_2_36 (by decide) ?_
      refine x_cV (k := 0) (As := [.int 5]) (rest := []) ⟨hx, hb, hml, hown, hts⟩ (mx1_no l G b hole 5 K_30 T_43  _ h) (cwV 1 hts (lw_V q486 q488 qs3 q118 q489) rfl rfl rfl cwx_X1_no ⟨Nat.le_of_ble_eq_true rfl, Nat.le_of_ble_eq_true rfl⟩) (x_recv (CC := RX1) (ci := 0) hK hP (xs_0 hP) (by decide) (by decide) rfl (xE_8 (xs_0 hP))) hK hV hb0 hP hS rfl hl.1 rfl (Nat.le_of_ble_eq_true rfl) dX1_primitive_2_37 ⟨by first | exact Nat.zero_le _ | (show _ + _ ≤ Z - kc K0; omega), by first | exact Nat.zero_le _ | (show _ + _ ≤ Y - ks K0; omega)⟩ (fun r_63 T1 K1 H locs h hle1 hc1 hs1 hP hS => ?_)
      obtain ⟨h, hKe⟩ := h
      rw [hKe] at hP
      generalize T1 = T_64 at h hP
      refine W.widen (k := Z - kc K0) (n := Y - ks K0) (by omega) (by omega) ?_
      exact W.iret (v := r_63) hx hb hr (fun t ht hW => ⟨⟨r_63, T_64, (kset K_30 Z Y), rfl, h, hle0, (by show Z = _; omega), (by show Y = _; omega), by rw [ht]; exact hP, va_K.moved hW.alike hK⟩, hS.F ht⟩) hS.2.2 dX1_primitive_2_40
  · have h := h.2 c_67
    refine lv_iconst (v := (-1)) hx hb dX1_primitive_2_25 (by decide) ?_
    refine W.widen (k := Z - kc K0) (n := Y - ks K0) (by omega) (by omega) ?_
    exact W.iret (v := (-1)) hx hb hr (fun t ht hW => ⟨⟨(-1), T_43, (kset K_30 Z Y), rfl, h, hle0, (by show Z = _; omega), (by show Y = _; omega), by rw [ht]; exact hP, va_K.moved hW.alike hK⟩, hS.F ht⟩) hS.2.2 dX1_primitive_2_26
theorem cwx_X1_free : yX1_free.cls = RX1 ∧ yX1_free.cls ≠ "java/lang/invoke/MethodHandle" ∧ yX1_free.cls ≠ "java/lang/invoke/VarHandle" ∧ (parseMethodDescriptor yX1_free.desc).map (fun d => d.parameters.length) = some 1 := by decide +kernel
def wx1_free_j30 (p1 : Int32) (post : Int32 → Prop) (R2 : Int32 → Prop) (x2 : Int32) (K : XK) (T : XT) : Prop :=
        ∀ x2_1 : Int32, x2_1 = x2 + 1 →
        R2 x2_1
def wx1_free_b2 (p1 : Int32) (post : Int32 → Prop) (R2 : Int32 → Prop)  (x2 : Int32) (K : XK) (T : XT) : Prop :=
      ((8 ≤ x2 →
        post (-1)) ∧
       (¬ (8 ≤ x2) →
        ((¬ ((jshr p1 x2) &&& 1) = 0 →
          wx1_free_j30 p1 post R2 x2 K T) ∧
         (((jshr p1 x2) &&& 1) = 0 →
          ∃ v_2 : Nat, xr T 0 18 = some v_2 ∧
          ∃ j_3 : Nat, j_3 < kl K v_2 ∧ x2 = nI j_3 ∧ ∃ v_4 : Nat, xr T v_2 j_3 = some v_4 ∧
          wx6_isZero v_4 K T (fun r_5 =>
          ((r_5 = 0 →
            wx1_free_j30 p1 post R2 x2 K T) ∧
           (¬ (r_5 = 0) →
            post x2)))))))
def wx1_free_l2 (p1 : Int32) (post : Int32 → Prop)  (x2 : Int32) (K : XK) (T : XT) : Prop := wLoop (fun (R : ((Int32)) → Prop) (v : (Int32)) => wx1_free_b2 p1 post (fun x2 => R x2)  v K T) x2
def wx1_free (p1 : Int32) (K : XK) (T : XT) (post : Int32 → Prop) : Prop :=
  wx1_free_l2 p1 post 0 K T
set_option maxHeartbeats 4000000 in
theorem mx1_free (l : Launch) (G : XG) (b : Nat) (hole : Nat → Prop) (p1 : Int32) (K : XK) (T : XT)  (post : Int32 → Prop) (h : wx1_free p1 K T post) : Met l yX1_free (ws_ yX1_free cX1_free 3 (some .int)) ({ frames := 1, cells := 0, slots := 0, locals := 20 } : Room) (xPc G b hole [.ref (b + 0), .int p1] K T) (xQ G b hole K 0 0 (ρ := Int32) eI (fun r T1 K1 => post r ∧ T1 = T ∧ K1 = K)) 0 0 (xA b hole) := by
  refine Met.ofW (cc := cX1_free) (maxL := 3) (ret := (some .int)) (by decide) rfl ?_
  intro p e s m args below meth c s₁ B hml hv
  obtain ⟨rfl, hP, hK, hV⟩ := hv
  have hx := B.exec
  have hb := B.bytes
  have hr := B.returns
  have hts := atoms_spec (ws := ws_ yX1_free cX1_free 3 (some .int)) B.pre
  have hts : ∀ w ∈ lw_all, w.before _ s = true := fun w h => hts w (List.mem_cons_of_mem _ h)
  have hown : s.vm.findClass RX1 = some m.cls := findClass_of_methodNamed B.named
  have hlocks := B.notSynchronized
  have hb0 : b ≤ s.heap.size := by rw [hP.2.2.2]; exact Nat.le_add_right _ _
  have hS : va_S (xA b hole) s.heap s.heap [] := va_S.rf
  have hl := lv_entry ([.ref (b + 0), .int p1]) (n := 3) (Nat.le_of_ble_eq_true rfl)
  rw [lg_entry_eq]
  generalize (lg_sl ([.ref (b + 0), .int p1]) ++ List.replicate (3 - (lg_sl ([.ref (b + 0), .int p1])).length) Slot.unset).toArray = ls at hl ⊢
  have hl : lv_has ls 3 [(0, .ref (b + 0)), (1, .int p1)] := hl
  have L2 : ∀ (x2 : Int32) (H : Heap) (locs : List Loc) (ls : Array Slot), wx1_free_l2 p1 post  x2 K T → xW G b hole K T H → va_S (xA b hole) s.heap H locs → lv_has ls 3 [(0, .ref (b + 0)), (1, .int p1), (2, .int x2)] → W p l e (headSpec (ws_ yX1_free cX1_free 3 (some .int)) ({ frames := 1, cells := 0, slots := 0, locals := 20 } : Room)).room s m ([.ref (b + 0), .int p1] : List Value).toArray below meth c H locs 0 0 (MQ below (xQ G b hole K 0 0 (ρ := Int32) eI (fun r T1 K1 => post r ∧ T1 = T ∧ K1 = K)) ([.ref (b + 0), .int p1] : List Value).toArray s 0 0 (xA b hole)) (F0 m 2 ls []) := by
    intro x2 H locs ls h hP hS hl
    obtain ⟨I2, n2, hI, hstep2⟩ := h
    induction n2 using Nat.strongRecOn generalizing x2 H locs ls with
    | ind n2 ih2 =>
      have h : wx1_free_b2 p1 post (fun x2 => ∃ mm, mm < n2 ∧ I2 mm x2)  x2 K T := hstep2 n2 _ hI
      clear hI
      have J30 : ∀ (x2 : Int32) (H : Heap) (locs : List Loc) (ls : Array Slot), wx1_free_j30 p1 post (fun x2 => ∃ mm, mm < n2 ∧ I2 mm x2) x2 K T → xW G b hole K T H → va_S (xA b hole) s.heap H locs → lv_has ls 3 [(0, .ref (b + 0)), (1, .int p1), (2, .int x2)] → W p l e (headSpec (ws_ yX1_free cX1_free 3 (some .int)) ({ frames := 1, cells := 0, slots := 0, locals := 20 } : Room)).room s m ([.ref (b + 0), .int p1] : List Value).toArray below meth c H locs 0 0 (MQ below (xQ G b hole K 0 0 (ρ := Int32) eI (fun r T1 K1 => post r ∧ T1 = T ∧ K1 = K)) ([.ref (b + 0), .int p1] : List Value).toArray s 0 0 (xA b hole)) (F0 m 30 ls []) := by
        intro x2 H locs ls h hP hS hl
        unfold wx1_free_j30 at h
        obtain ⟨x2_1, ex2_1⟩ : ∃ y : Int32, y = x2 + 1 := ⟨_, rfl⟩
        have h := h x2_1 ex2_1
        refine lv_iinc (v := x2_1) (lv' := [(2, .int x2_1), (0, .ref (b + 0)), (1, .int p1)]) hx hb dX1_free_30 hl (k := 2) rfl (by rw [ex2_1]; rfl) (by decide) rfl (fun ls hl => ?_)
        refine lv_goto (tgt := 2) hx hb dX1_free_33 (by decide) ?_
        obtain ⟨mm, hmm, h⟩ := h
        exact ih2 mm hmm _ _ _ _  hP hS (lv_sub hl [1, 2, 0] rfl) h
      unfold wx1_free_b2 at h
      refine lv_iload_n hx hb dX1_free_2 rfl (lv_at hl 2 rfl) ?_
      refine lv_bipush (v := 8) hx hb dX1_free_3 (by decide) ?_
      refine lv_icmp_ge (tgt := 36) hx hb dX1_free_5 (by decide) (fun c_10 => ?_) (fun c_10 => ?_)
      · have h := h.1 c_10
        refine lv_iconst (v := (-1)) hx hb dX1_free_36 (by decide) ?_
        exact W.iret (v := (-1)) hx hb hr (fun t ht hW => ⟨⟨(-1), T, K, rfl, ⟨h, rfl, rfl⟩, kle.rf, rfl, rfl, by rw [ht]; exact hP, va_K.moved hW.alike hK⟩, hS.F ht⟩) hS.2.2 dX1_free_37
      · have h := h.2 c_10
        refine lv_iload_n hx hb dX1_free_8 rfl (lv_at hl 1 rfl) ?_
        refine lv_iload_n hx hb dX1_free_9 rfl (lv_at hl 2 rfl) ?_
        refine m_ishr hx hb dX1_free_10 ?_
        refine lv_iconst (v := 1) hx hb dX1_free_11 (by decide) ?_
        refine lv_iand hx hb dX1_free_12 ?_
        refine lv_if_ne (tgt := 30) hx hb dX1_free_13 (by decide) (fun c_9 => ?_) (fun c_9 => ?_)
        · have h := h.1 c_9
          exact J30 _ _ _ _ h  hP hS (lv_sub hl [0, 1, 2] rfl)
        · have h := h.2 c_9
          refine lv_aload_n hx hb dX1_free_16 rfl (lv_at hl 0 rfl) ?_
          obtain ⟨v_2, ev_2, h⟩ := h
          refine x_get (CC := RX1) (TT := TX1) (N := 26) (ci := 0) (v := rfv b (xr T 0 18)) hx hb hts in_X1 hown hK hP (xs_0 hP) (by decide) (by decide) rfl (xE_8 (xs_0 hP)) 18 (by decide) q405 rfl rfl dX1_free_17 ?_
          refine x_some ev_2 ?_
          have hk_v_2 : kd K v_2 = 3 := hP.ty (xs_0 hP) (by decide) ev_2
          refine lv_iload_n hx hb dX1_free_20 rfl (lv_at hl 2 rfl) ?_
          obtain ⟨j_3, hj_3, ej_3, v_4, ev_4, h⟩ := h
          refine x_aald3 hx hb hK hP hk_v_2 ej_3 hj_3 dX1_free_21 ?_
          refine x_some ev_4 ?_
          have hk_v_4 : kd K v_4 = 2 := hP.ty hk_v_2 (by decide) ev_4
          refine x_cV (k := v_4) (As := []) (rest := []) ⟨hx, hb, hml, hown, hts⟩ (mx6_isZero l G b hole v_4 K T hk_v_4 _ h) (cwV 0 hts (lw_V q785 q786 q787 q126 q788) rfl rfl rfl cwx_X6_isZero ⟨Nat.le_of_ble_eq_true rfl, Nat.le_of_ble_eq_true rfl⟩) (x_recv (CC := RX6) (ci := 5) hK hP hk_v_4 (by decide) (by decide) rfl (xE_2 hk_v_4)) hK hV hb0 hP hS rfl hl.1 rfl (Nat.le_of_ble_eq_true rfl) dX1_free_22 ⟨by first | exact Nat.zero_le _ | (show _ + _ ≤ Z - kc K0; omega), by first | exact Nat.zero_le _ | (show _ + _ ≤ Y - ks K0; omega)⟩ (fun r_5 T1 K1 H locs h hle1 hc1 hs1 hP hS => ?_)
          obtain ⟨h, hTe, hKe⟩ := h
          rw [hTe, hKe] at hP
          refine lv_if_eq (tgt := 30) hx hb dX1_free_25 (by decide) (fun c_8 => ?_) (fun c_8 => ?_)
          · have h := h.1 c_8
            exact J30 _ _ _ _ h  hP hS (lv_sub hl [0, 1, 2] rfl)
          · have h := h.2 c_8
            refine lv_iload_n hx hb dX1_free_28 rfl (lv_at hl 2 rfl) ?_
            exact W.iret (v := x2) hx hb hr (fun t ht hW => ⟨⟨x2, T, K, rfl, ⟨h, rfl, rfl⟩, kle.rf, rfl, rfl, by rw [ht]; exact hP, va_K.moved hW.alike hK⟩, hS.F ht⟩) hS.2.2 dX1_free_29
  unfold wx1_free at h
  refine lv_iconst (v := 0) hx hb dX1_free_0 (by decide) ?_
  refine lv_istore_n (lv' := [(2, .int 0), (0, .ref (b + 0)), (1, .int p1)]) hx hb dX1_free_1 rfl hl (by decide) rfl (fun ls hl => ?_)
  exact L2 _ _ _ _ h  hP hS (lv_sub hl [1, 2, 0] rfl)
theorem cwx_X1_complete : yX1_complete.cls = RX1 ∧ yX1_complete.cls ≠ "java/lang/invoke/MethodHandle" ∧ yX1_complete.cls ≠ "java/lang/invoke/VarHandle" ∧ (parseMethodDescriptor yX1_complete.desc).map (fun d => d.parameters.length) = some 1 := by decide +kernel
def wx1_complete_j37 (p1 : Int32) (Z Y : Nat) (post : Int32 → XT → XK → Prop)  (K : XK) (T : XT) : Prop :=
    wx1_no 5 K T (fun r_1 T_2 =>
    post r_1 T_2 (kset K Z Y))
def wx1_complete_j142 (p1 : Int32) (Z Y : Nat) (post : Int32 → XT → XK → Prop) (R45 : Int32 → XT → XK → Prop) (x2 : Int32) (x3 : Int32) (K : XK) (T : XT) : Prop :=
        ∀ x3_4 : Int32, x3_4 = x3 + 1 →
        R45 x3_4 T K
def wx1_complete_b45 (p1 : Int32) (Z Y : Nat) (post : Int32 → XT → XK → Prop) (R45 : Int32 → XT → XK → Prop) (x2 : Int32) (x3 : Int32) (K : XK) (T : XT) : Prop :=
      ((64 ≤ x3 →
        post (-2) T (kset K Z Y)) ∧
       (¬ (64 ≤ x3) →
        ∀ x4_5 : Int32, x4_5 = (x3 / 8) →
        ∀ x5_6 : Int32, x5_6 = (jrem x3 8) →
        ((x5_6 ≤ x4_5 →
          wx1_complete_j142 p1 Z Y post R45 x2 x3 K T) ∧
         (¬ (x5_6 ≤ x4_5) →
          ((((jshr p1 x4_5) &&& 1) = 0 →
            wx1_complete_j142 p1 Z Y post R45 x2 x3 K T) ∧
           (¬ (((jshr p1 x4_5) &&& 1) = 0) →
            ((¬ ((jshr p1 x5_6) &&& 1) = 0 →
              ∃ Z_10 Y_11 : Nat, kc K ≤ Z_10 ∧ Z_10 ≤ Z ∧ ks K ≤ Y_11 ∧ Y_11 ≤ Y ∧ wx1_leaves x4_5 x5_6 p1 K T Z_10 Y_11 (fun r_7 T_8 K_9 =>
              ((0 ≤ r_7 →
                ((¬ r_7 = 0 →
                  ∃ Z_15 Y_16 : Nat, kc K_9 ≤ Z_15 ∧ Z_15 ≤ Z ∧ ks K_9 ≤ Y_16 ∧ Y_16 ≤ Y ∧ wx2_poly 8 K_9 T_8 Z_15 Y_16 (fun r_12 T_13 K_14 =>
                  ∃ Z_20 Y_21 : Nat, kc K_14 ≤ Z_20 ∧ Z_20 ≤ Z ∧ ks K_14 ≤ Y_21 ∧ Y_21 ≤ Y ∧ wx1_lays (some r_12) x2 K_14 T_13 Z_20 Y_21 (fun r_17 T_18 K_19 =>
                  post x2 T_18 (kset K_19 Z Y)))) ∧
                 (r_7 = 0 →
                  wx1_complete_j142 p1 Z Y post R45 x2 x3 K_9 T_8))) ∧
               (¬ (0 ≤ r_7) →
                wx1_no (-r_7) K_9 T_8 (fun r_23 T_24 =>
                post r_23 T_24 (kset K_9 Z Y)))))) ∧
             (((jshr p1 x5_6) &&& 1) = 0 →
              wx1_complete_j142 p1 Z Y post R45 x2 x3 K T))))))))
def wx1_complete_l45 (p1 : Int32) (Z Y : Nat) (post : Int32 → XT → XK → Prop) (x2 : Int32) (x3 : Int32) (K : XK) (T : XT) : Prop := wLoop (fun (R : ((Int32) × (XT) × (XK)) → Prop) (v : (Int32) × (XT) × (XK)) => wx1_complete_b45 p1 Z Y post (fun x3 T K => R (x3, T, K)) x2 v.1 v.2.2 v.2.1) (x3, T, K)
def wx1_complete (p1 : Int32) (K0 : XK) (T : XT) (Z Y : Nat) (post : Int32 → XT → XK → Prop) : Prop :=
  wx1_isSet p1 K0 T (fun r_31 =>
  wx1_why_2 1 r_31 K0 T (fun r_34 =>
  wx1_isRefused r_34 K0 T (fun r_37 T_38 =>
  ((r_37 = 0 →
    wx1_free p1 K0 T_38 (fun r_40 =>
    wx1_hasZero p1 K0 T_38 (fun r_43 =>
    ((¬ r_43 = 0 →
      wx1_complete_j37 p1 Z Y post  K0 T_38) ∧
     (r_43 = 0 →
      ((¬ r_40 = (-1) →
        wx1_complete_l45 p1 Z Y post r_40 0 K0 T_38) ∧
       (r_40 = (-1) →
        wx1_complete_j37 p1 Z Y post  K0 T_38))))))) ∧
   (¬ (r_37 = 0) →
    post (-1) T_38 (kset K0 Z Y))))))
set_option maxHeartbeats 4000000 in
theorem mx1_complete (l : Launch) (G : XG) (b : Nat) (hole : Nat → Prop) (p1 : Int32) (K0 : XK) (T : XT) (Z Y : Nat) (hZ : kc K0 ≤ Z) (hY : ks K0 ≤ Y)  (post : Int32 → XT → XK → Prop) (h : wx1_complete p1 K0 T Z Y post) : Met l yX1_complete (ws_ yX1_complete cX1_complete 8 (some .int)) ({ frames := 10, cells := (Z - kc K0), slots := (Y - ks K0), locals := 238 } : Room) (xPc G b hole [.ref (b + 0), .int p1] K0 T) (xQ G b hole K0 (Z - kc K0) (Y - ks K0) (ρ := Int32) eI (fun r T1 K1 => post r T1 K1)) (Z - kc K0) (Y - ks K0) (xA b hole) := by
  refine Met.ofW (cc := cX1_complete) (maxL := 8) (ret := (some .int)) (by decide) rfl ?_
  intro p e s m args below meth c s₁ B hml hv
  obtain ⟨rfl, hP, hK, hV⟩ := hv
  have hx := B.exec
  have hb := B.bytes
  have hr := B.returns
  have hts := atoms_spec (ws := ws_ yX1_complete cX1_complete 8 (some .int)) B.pre
  have hts : ∀ w ∈ lw_all, w.before _ s = true := fun w h => hts w (List.mem_cons_of_mem _ h)
  have hown : s.vm.findClass RX1 = some m.cls := findClass_of_methodNamed B.named
  have hlocks := B.notSynchronized
  have hb0 : b ≤ s.heap.size := by rw [hP.2.2.2]; exact Nat.le_add_right _ _
  have hS : va_S (xA b hole) s.heap s.heap [] := va_S.rf
  have hl := lv_entry ([.ref (b + 0), .int p1]) (n := 8) (Nat.le_of_ble_eq_true rfl)
  rw [lg_entry_eq]
  generalize (lg_sl ([.ref (b + 0), .int p1]) ++ List.replicate (8 - (lg_sl ([.ref (b + 0), .int p1])).length) Slot.unset).toArray = ls at hl ⊢
  have hl : lv_has ls 8 [(0, .ref (b + 0)), (1, .int p1)] := hl
  have hle0 : kle K0 K0 := kle.rf
  have J37 : ∀  (T : XT) (K : XK) (cn sn : Nat) (H : Heap) (locs : List Loc) (ls : Array Slot), wx1_complete_j37 p1 Z Y post  K T → kle K0 K → kc K0 + cn = kc K → ks K0 + sn = ks K → kc K ≤ Z → ks K ≤ Y → xW G b hole K T H → va_S (xA b hole) s.heap H locs → lv_has ls 8 [(0, .ref (b + 0))] → W p l e (headSpec (ws_ yX1_complete cX1_complete 8 (some .int)) ({ frames := 10, cells := (Z - kc K0), slots := (Y - ks K0), locals := 238 } : Room)).room s m ([.ref (b + 0), .int p1] : List Value).toArray below meth c H locs cn sn (MQ below (xQ G b hole K0 (Z - kc K0) (Y - ks K0) (ρ := Int32) eI (fun r T1 K1 => post r T1 K1)) ([.ref (b + 0), .int p1] : List Value).toArray s (Z - kc K0) (Y - ks K0) (xA b hole)) (F0 m 37 ls []) := by
    intro  T K cn sn H locs ls h hle0 hcn hsn hzz hyy hP hS hl
    unfold wx1_complete_j37 at h
    refine lv_aload_n hx hb dX1_complete_37 rfl (lv_at hl 0 rfl) ?_
    refine lv_iconst (v := 5) hx hb dX1_complete_38 (by decide) ?_
    refine x_cV (k := 0) (As := [.int 5]) (rest := []) ⟨hx, hb, hml, hown, hts⟩ (mx1_no l G b hole 5 K T  _ h) (cwV 1 hts (lw_V q486 q488 qs3 q118 q489) rfl rfl rfl cwx_X1_no ⟨Nat.le_of_ble_eq_true rfl, Nat.le_of_ble_eq_true rfl⟩) (x_recv (CC := RX1) (ci := 0) hK hP (xs_0 hP) (by decide) (by decide) rfl (xE_8 (xs_0 hP))) hK hV hb0 hP hS rfl hl.1 rfl (Nat.le_of_ble_eq_true rfl) dX1_complete_39 ⟨by first | exact Nat.zero_le _ | (show _ + _ ≤ Z - kc K0; omega), by first | exact Nat.zero_le _ | (show _ + _ ≤ Y - ks K0; omega)⟩ (fun r_1 T1 K1 H locs h hle1 hc1 hs1 hP hS => ?_)
    obtain ⟨h, hKe⟩ := h
    rw [hKe] at hP
    generalize T1 = T_2 at h hP
    refine W.widen (k := Z - kc K0) (n := Y - ks K0) (by omega) (by omega) ?_
    exact W.iret (v := r_1) hx hb hr (fun t ht hW => ⟨⟨r_1, T_2, (kset K Z Y), rfl, h, hle0, (by show Z = _; omega), (by show Y = _; omega), by rw [ht]; exact hP, va_K.moved hW.alike hK⟩, hS.F ht⟩) hS.2.2 dX1_complete_42
  have L45 : ∀ (x2 : Int32) (x3 : Int32) (T : XT) (K : XK) (cn sn : Nat) (H : Heap) (locs : List Loc) (ls : Array Slot), wx1_complete_l45 p1 Z Y post x2 x3 K T → kle K0 K → kc K0 + cn = kc K → ks K0 + sn = ks K → kc K ≤ Z → ks K ≤ Y → xW G b hole K T H → va_S (xA b hole) s.heap H locs → lv_has ls 8 [(0, .ref (b + 0)), (1, .int p1), (2, .int x2), (3, .int x3)] → W p l e (headSpec (ws_ yX1_complete cX1_complete 8 (some .int)) ({ frames := 10, cells := (Z - kc K0), slots := (Y - ks K0), locals := 238 } : Room)).room s m ([.ref (b + 0), .int p1] : List Value).toArray below meth c H locs cn sn (MQ below (xQ G b hole K0 (Z - kc K0) (Y - ks K0) (ρ := Int32) eI (fun r T1 K1 => post r T1 K1)) ([.ref (b + 0), .int p1] : List Value).toArray s (Z - kc K0) (Y - ks K0) (xA b hole)) (F0 m 45 ls []) := by
    intro x2 x3 T K cn sn H locs ls h hle0 hcn hsn hzz hyy hP hS hl
    obtain ⟨I45, n45, hI, hstep45⟩ := h
    induction n45 using Nat.strongRecOn generalizing x3 T K cn sn H locs ls with
    | ind n45 ih45 =>
      have h : wx1_complete_b45 p1 Z Y post (fun x3 T K => ∃ mm, mm < n45 ∧ I45 mm (x3, T, K)) x2 x3 K T := hstep45 n45 _ hI
      clear hI
      have J142 : ∀ (x3 : Int32) (T : XT) (K : XK) (cn sn : Nat) (H : Heap) (locs : List Loc) (ls : Array Slot), wx1_complete_j142 p1 Z Y post (fun x3 T K => ∃ mm, mm < n45 ∧ I45 mm (x3, T, K)) x2 x3 K T → kle K0 K → kc K0 + cn = kc K → ks K0 + sn = ks K → kc K ≤ Z → ks K ≤ Y → xW G b hole K T H → va_S (xA b hole) s.heap H locs → lv_has ls 8 [(0, .ref (b + 0)), (1, .int p1), (2, .int x2), (3, .int x3)] → W p l e (headSpec (ws_ yX1_complete cX1_complete 8 (some .int)) ({ frames := 10, cells := (Z - kc K0), slots := (Y - ks K0), locals := 238 } : Room)).room s m ([.ref (b + 0), .int p1] : List Value).toArray below meth c H locs cn sn (MQ below (xQ G b hole K0 (Z - kc K0) (Y - ks K0) (ρ := Int32) eI (fun r T1 K1 => post r T1 K1)) ([.ref (b + 0), .int p1] : List Value).toArray s (Z - kc K0) (Y - ks K0) (xA b hole)) (F0 m 142 ls []) := by
        intro x3 T K cn sn H locs ls h hle0 hcn hsn hzz hyy hP hS hl
        unfold wx1_complete_j142 at h
        obtain ⟨x3_4, ex3_4⟩ : ∃ y : Int32, y = x3 + 1 := ⟨_, rfl⟩
        have h := h x3_4 ex3_4
        refine lv_iinc (v := x3_4) (lv' := [(3, .int x3_4), (0, .ref (b + 0)), (1, .int p1), (2, .int x2)]) hx hb dX1_complete_142 hl (k := 3) rfl (by rw [ex3_4]; rfl) (by decide) rfl (fun ls hl => ?_)
        refine lv_goto (tgt := 45) hx hb dX1_complete_145 (by decide) ?_
        obtain ⟨mm, hmm, h⟩ := h
        exact ih45 mm hmm _ _ _ _ _ _ _ _ hle0 hcn hsn hzz hyy hP hS (lv_sub hl [1, 2, 3, 0] rfl) h
      unfold wx1_complete_b45 at h
      refine lv_iload_n hx hb dX1_complete_45 rfl (lv_at hl 3 rfl) ?_
      refine lv_bipush (v := 64) hx hb dX1_complete_46 (by decide) ?_
      refine lv_icmp_ge (tgt := 148) hx hb dX1_complete_48 (by decide) (fun c_30 => ?_) (fun c_30 => ?_)
      · have h := h.1 c_30
        refine lv_bipush (v := (-2)) hx hb dX1_complete_148 (by decide) ?_
        refine W.widen (k := Z - kc K0) (n := Y - ks K0) (by omega) (by omega) ?_
        exact W.iret (v := (-2)) hx hb hr (fun t ht hW => ⟨⟨(-2), T, (kset K Z Y), rfl, h, hle0, (by show Z = _; omega), (by show Y = _; omega), by rw [ht]; exact hP, va_K.moved hW.alike hK⟩, hS.F ht⟩) hS.2.2 dX1_complete_150
      · have h := h.2 c_30
        refine lv_iload_n hx hb dX1_complete_51 rfl (lv_at hl 3 rfl) ?_
        refine lv_bipush (v := 8) hx hb dX1_complete_52 (by decide) ?_
        refine lv_idiv hx hb dX1_complete_54 (by decide) ?_
        refine lv_topi (fun x4_5 ex4_5 => ?_)
        have h := h x4_5 ex4_5
        refine lv_istore (lv' := [(4, .int x4_5), (0, .ref (b + 0)), (1, .int p1), (2, .int x2), (3, .int x3)]) hx hb dX1_complete_55 hl (by decide) rfl (fun ls hl => ?_)
        refine lv_iload_n hx hb dX1_complete_57 rfl (lv_at hl 4 rfl) ?_
        refine lv_bipush (v := 8) hx hb dX1_complete_58 (by decide) ?_
        refine m_irem hx hb dX1_complete_60 (by decide) ?_
        refine lv_topi (fun x5_6 ex5_6 => ?_)
        have h := h x5_6 ex5_6
        refine lv_istore (lv' := [(5, .int x5_6), (4, .int x4_5), (0, .ref (b + 0)), (1, .int p1), (2, .int x2), (3, .int x3)]) hx hb dX1_complete_61 hl (by decide) rfl (fun ls hl => ?_)
        refine lv_iload hx hb dX1_complete_63 (lv_at hl 1 rfl) ?_
        refine lv_iload hx hb dX1_complete_65 (lv_at hl 0 rfl) ?_
        refine lv_icmp_ge (tgt := 142) hx hb dX1_complete_67 (by decide) (fun c_29 => ?_) (fun c_29 => ?_)
        · have h := h.1 c_29
          exact J142 _ _ _ _ _ _ _ _ h hle0 hcn hsn hzz hyy hP hS (lv_sub hl [2, 3, 4, 5] rfl)
        · have h := h.2 c_29
          refine lv_iload_n hx hb dX1_complete_70 rfl (lv_at hl 3 rfl) ?_
          refine lv_iload hx hb dX1_complete_71 (lv_at hl 1 rfl) ?_
          refine m_ishr hx hb dX1_complete_73 ?_
          refine lv_iconst (v := 1) hx hb dX1_complete_74 (by decide) ?_
          refine lv_iand hx hb dX1_complete_75 ?_
          refine lv_if_eq (tgt := 142) hx hb dX1_complete_76 (by decide) (fun c_28 => ?_) (fun c_28 => ?_)
          · have h := h.1 c_28
            exact J142 _ _ _ _ _ _ _ _ h hle0 hcn hsn hzz hyy hP hS (lv_sub hl [2, 3, 4, 5] rfl)
          · have h := h.2 c_28
            refine lv_iload_n hx hb dX1_complete_79 rfl (lv_at hl 3 rfl) ?_
            refine lv_iload hx hb dX1_complete_80 (lv_at hl 0 rfl) ?_
            refine m_ishr hx hb dX1_complete_82 ?_
            refine lv_iconst (v := 1) hx hb dX1_complete_83 (by decide) ?_
            refine lv_iand hx hb dX1_complete_84 ?_
            refine lv_if_ne (tgt := 91) hx hb dX1_complete_85 (by decide) (fun c_27 => ?_) (fun c_27 => ?_)
            · have h := h.1 c_27
              refine lv_aload_n hx hb dX1_complete_91 rfl (lv_at hl 2 rfl) ?_
              refine lv_iload hx hb dX1_complete_92 (lv_at hl 1 rfl) ?_
              refine lv_iload hx hb dX1_complete_94 (lv_at hl 0 rfl) ?_
              refine lv_iload_n hx hb dX1_complete_96 rfl (lv_at hl 3 rfl) ?_
              obtain ⟨Z_10, Y_11, hz1, hz2, hy1, hy2, h⟩ := h
              refine x_cV (k := 0) (As := [.int x4_5, .int x5_6, .int p1]) (rest := []) ⟨hx, hb, hml, hown, hts⟩ (mx1_leaves l G b hole x4_5 x5_6 p1 K T Z_10 Y_11 hz1 hy1  _ h) (cwV 3 hts (lw_V q948 q950 qs38 q118 q951) rfl rfl rfl cwx_X1_leaves ⟨Nat.le_of_ble_eq_true rfl, Nat.le_of_ble_eq_true rfl⟩) (x_recv (CC := RX1) (ci := 0) hK hP (xs_0 hP) (by decide) (by decide) rfl (xE_8 (xs_0 hP))) hK hV hb0 hP hS rfl hl.1 rfl (Nat.le_of_ble_eq_true rfl) dX1_complete_97 ⟨by first | exact Nat.zero_le _ | (show _ + _ ≤ Z - kc K0; omega), by first | exact Nat.zero_le _ | (show _ + _ ≤ Y - ks K0; omega)⟩ (fun r_7 T1 K1 H locs h hle1 hc1 hs1 hP hS => ?_)
              generalize T1 = T_8 at h hP
              generalize K1 = K_9 at h hP hle1 hc1 hs1
              have hle0 := hle0.tr hle1
              have hcn : kc K0 + (cn + (Z_10 - kc K)) = kc K_9 := by omega
              have hsn : ks K0 + (sn + (Y_11 - ks K)) = ks K_9 := by omega
              have hzz : kc K_9 ≤ Z := by omega
              have hyy : ks K_9 ≤ Y := by omega
              refine lv_istore (lv' := [(6, .int r_7), (5, .int x5_6), (4, .int x4_5), (0, .ref (b + 0)), (1, .int p1), (2, .int x2), (3, .int x3)]) hx hb dX1_complete_100 hl (by decide) rfl (fun ls hl => ?_)
              refine lv_iload hx hb dX1_complete_102 (lv_at hl 0 rfl) ?_
              refine lv_if_ge (tgt := 115) hx hb dX1_complete_104 (by decide) (fun c_26 => ?_) (fun c_26 => ?_)
              · have h := h.1 c_26
                refine lv_iload hx hb dX1_complete_115 (lv_at hl 0 rfl) ?_
                refine lv_if_ne (tgt := 123) hx hb dX1_complete_117 (by decide) (fun c_22 => ?_) (fun c_22 => ?_)
                · have h := h.1 c_22
                  refine lv_aload_n hx hb dX1_complete_123 rfl (lv_at hl 3 rfl) ?_
                  refine lv_aload_n hx hb dX1_complete_124 rfl (lv_at hl 3 rfl) ?_
                  refine x_get (CC := RX1) (TT := TX1) (N := 26) (ci := 0) (v := .ref (b + 6)) hx hb hts in_X1 hown hK hP (xs_0 hP) (by decide) (by decide) rfl (xE_8 (xs_0 hP)) 8 (by decide) q393 rfl rfl dX1_complete_125 ?_
                  refine x_getN (CC := RX3) (TT := TX3) (N := 9) (ci := 2) (v := .ref (b + 8)) hx hb hts in_X3 hown hK hV.1 hP (xs_6 hP) (by decide) (by decide) rfl (xE_10 (xs_6 hP)) 1 (by decide) q183 rfl rfl dX1_complete_128 ?_
                  obtain ⟨Z_15, Y_16, hz1, hz2, hy1, hy2, h⟩ := h
                  refine x_cV (k := 8) (As := []) (rest := [.ref (b + 0)]) ⟨hx, hb, hml, hown, hts⟩ (mx2_poly l G b hole 8 K_9 T_8 Z_15 Y_16 hz1 hy1 (xs_8 hP) _ h) (cwV 0 hts (lw_V q971 q972 q973 q119 q974) rfl rfl rfl cwx_X2_poly ⟨Nat.le_of_ble_eq_true rfl, Nat.le_of_ble_eq_true rfl⟩) (x_recv (CC := RX2) (ci := 1) hK hP (xs_8 hP) (by decide) (by decide) rfl (xE_9 (xs_8 hP))) hK hV hb0 hP hS rfl hl.1 rfl (Nat.le_of_ble_eq_true rfl) dX1_complete_131 ⟨by first | exact Nat.zero_le _ | (show _ + _ ≤ Z - kc K0; omega), by first | exact Nat.zero_le _ | (show _ + _ ≤ Y - ks K0; omega)⟩ (fun r_12 T1 K1 H locs h hle1 hc1 hs1 hP hS => ?_)
                  obtain ⟨h, hk_r_12⟩ := h
                  generalize T1 = T_13 at h hP
                  generalize K1 = K_14 at h hP hle1 hc1 hs1 hk_r_12
                  have hle0 := hle0.tr hle1
                  have hcn : kc K0 + ((cn + (Z_10 - kc K)) + (Z_15 - kc K_9)) = kc K_14 := by omega
                  have hsn : ks K0 + ((sn + (Y_11 - ks K)) + (Y_16 - ks K_9)) = ks K_14 := by omega
                  have hzz : kc K_14 ≤ Z := by omega
                  have hyy : ks K_14 ≤ Y := by omega
                  refine lv_iload_n hx hb dX1_complete_134 rfl (lv_at hl 5 rfl) ?_
                  obtain ⟨Z_20, Y_21, hz1, hz2, hy1, hy2, h⟩ := h
                  refine x_cV (k := 0) (As := [.ref (b + r_12), .int x2]) (rest := []) ⟨hx, hb, hml, hown, hts⟩ (mx1_lays l G b hole (some r_12) x2 K_14 T_13 Z_20 Y_21 hz1 hy1 (fun _ e9 => by cases e9; exact hk_r_12) _ h) (cwV 2 hts (lw_V q995 q997 qs43 q118 q998) rfl rfl rfl cwx_X1_lays ⟨Nat.le_of_ble_eq_true rfl, Nat.le_of_ble_eq_true rfl⟩) (x_recv (CC := RX1) (ci := 0) hK hP (xs_0 hP) (by decide) (by decide) rfl (xE_8 (xs_0 hP))) hK hV hb0 hP hS rfl hl.1 rfl (Nat.le_of_ble_eq_true rfl) dX1_complete_135 ⟨by first | exact Nat.zero_le _ | (show _ + _ ≤ Z - kc K0; omega), by first | exact Nat.zero_le _ | (show _ + _ ≤ Y - ks K0; omega)⟩ (fun r_17 T1 K1 H locs h hle1 hc1 hs1 hP hS => ?_)
                  generalize T1 = T_18 at h hP
                  generalize K1 = K_19 at h hP hle1 hc1 hs1
                  have hle0 := hle0.tr hle1
                  have hcn : kc K0 + (((cn + (Z_10 - kc K)) + (Z_15 - kc K_9)) + (Z_20 - kc K_14)) = kc K_19 := by omega
                  have hsn : ks K0 + (((sn + (Y_11 - ks K)) + (Y_16 - ks K_9)) + (Y_21 - ks K_14)) = ks K_19 := by omega
                  have hzz : kc K_19 ≤ Z := by omega
                  have hyy : ks K_19 ≤ Y := by omega
                  refine lv_istore (lv' := [(7, .int r_17), (6, .int r_7), (5, .int x5_6), (4, .int x4_5), (0, .ref (b + 0)), (1, .int p1), (2, .int x2), (3, .int x3)]) hx hb dX1_complete_138 hl (by decide) rfl (fun ls hl => ?_)
                  refine lv_iload_n hx hb dX1_complete_140 rfl (lv_at hl 6 rfl) ?_
                  refine W.widen (k := Z - kc K0) (n := Y - ks K0) (by omega) (by omega) ?_
                  exact W.iret (v := x2) hx hb hr (fun t ht hW => ⟨⟨x2, T_18, (kset K_19 Z Y), rfl, h, hle0, (by show Z = _; omega), (by show Y = _; omega), by rw [ht]; exact hP, va_K.moved hW.alike hK⟩, hS.F ht⟩) hS.2.2 dX1_complete_141
                · have h := h.2 c_22
                  refine lv_goto (tgt := 142) hx hb dX1_complete_120 (by decide) ?_
                  exact J142 _ _ _ _ _ _ _ _ h hle0 hcn hsn hzz hyy hP hS (lv_sub hl [3, 4, 5, 6] rfl)
              · have h := h.2 c_26
                refine lv_aload_n hx hb dX1_complete_107 rfl (lv_at hl 3 rfl) ?_
                refine lv_iload hx hb dX1_complete_108 (lv_at hl 0 rfl) ?_
                refine lv_ineg hx hb dX1_complete_110 ?_
                refine x_cV (k := 0) (As := [.int (-r_7)]) (rest := []) ⟨hx, hb, hml, hown, hts⟩ (mx1_no l G b hole (-r_7) K_9 T_8  _ h) (cwV 1 hts (lw_V q486 q488 qs3 q118 q489) rfl rfl rfl cwx_X1_no ⟨Nat.le_of_ble_eq_true rfl, Nat.le_of_ble_eq_true rfl⟩) (x_recv (CC := RX1) (ci := 0) hK hP (xs_0 hP) (by decide) (by decide) rfl (xE_8 (xs_0 hP))) hK hV hb0 hP hS rfl hl.1 rfl (Nat.le_of_ble_eq_true rfl) dX1_complete_111 ⟨by first | exact Nat.zero_le _ | (show _ + _ ≤ Z - kc K0; omega), by first | exact Nat.zero_le _ | (show _ + _ ≤ Y - ks K0; omega)⟩ (fun r_23 T1 K1 H locs h hle1 hc1 hs1 hP hS => ?_)
                obtain ⟨h, hKe⟩ := h
                rw [hKe] at hP
                generalize T1 = T_24 at h hP
                refine W.widen (k := Z - kc K0) (n := Y - ks K0) (by omega) (by omega) ?_
                exact W.iret (v := r_23) hx hb hr (fun t ht hW => ⟨⟨r_23, T_24, (kset K_9 Z Y), rfl, h, hle0, (by show Z = _; omega), (by show Y = _; omega), by rw [ht]; exact hP, va_K.moved hW.alike hK⟩, hS.F ht⟩) hS.2.2 dX1_complete_114
            · have h := h.2 c_27
              refine lv_goto (tgt := 142) hx hb dX1_complete_88 (by decide) ?_
              exact J142 _ _ _ _ _ _ _ _ h hle0 hcn hsn hzz hyy hP hS (lv_sub hl [2, 3, 4, 5] rfl)
  have hcn : kc K0 + 0 = kc K0 := rfl
  have hsn : ks K0 + 0 = ks K0 := rfl
  have hzz := hZ
  have hyy := hY
  unfold wx1_complete at h
  refine lv_aload_n hx hb dX1_complete_0 rfl (lv_at hl 0 rfl) ?_
  refine lv_aload_n hx hb dX1_complete_1 rfl (lv_at hl 0 rfl) ?_
  refine lv_iconst (v := 1) hx hb dX1_complete_2 (by decide) ?_
  refine lv_iload_n hx hb dX1_complete_3 rfl (lv_at hl 1 rfl) ?_
  refine x_cS (As := [.int p1]) (rest := [.int 1, .ref (b + 0), .ref (b + 0)]) ⟨hx, hb, hml, hown, hts⟩ (mx1_isSet l G b hole p1 K0 T  _ h) (va_cwS 1 hts (lw_S q889 q890 q118 q891) rfl rfl rfl cwx_X1_isSet ⟨Nat.le_of_ble_eq_true rfl, Nat.le_of_ble_eq_true rfl⟩) hK hV hb0 hP hS rfl hl.1 rfl (Nat.le_of_ble_eq_true rfl) dX1_complete_4 ⟨by first | exact Nat.zero_le _ | (show _ + _ ≤ Z - kc K0; omega), by first | exact Nat.zero_le _ | (show _ + _ ≤ Y - ks K0; omega)⟩ (fun r_31 T1 K1 H locs h hle1 hc1 hs1 hP hS => ?_)
  obtain ⟨h, hTe, hKe⟩ := h
  rw [hTe, hKe] at hP
  refine x_cV (k := 0) (As := [.int 1, .int r_31]) (rest := [.ref (b + 0)]) ⟨hx, hb, hml, hown, hts⟩ (mx1_why_2 l G b hole 1 r_31 K0 T  _ h) (cwV 2 hts (lw_V q773 q775 qs25 q118 q776) rfl rfl rfl cwx_X1_why_2 ⟨Nat.le_of_ble_eq_true rfl, Nat.le_of_ble_eq_true rfl⟩) (x_recv (CC := RX1) (ci := 0) hK hP (xs_0 hP) (by decide) (by decide) rfl (xE_8 (xs_0 hP))) hK hV hb0 hP hS rfl hl.1 rfl (Nat.le_of_ble_eq_true rfl) dX1_complete_7 ⟨by first | exact Nat.zero_le _ | (show _ + _ ≤ Z - kc K0; omega), by first | exact Nat.zero_le _ | (show _ + _ ≤ Y - ks K0; omega)⟩ (fun r_34 T1 K1 H locs h hle1 hc1 hs1 hP hS => ?_)
  obtain ⟨h, hTe, hKe⟩ := h
  rw [hTe, hKe] at hP
  refine x_cV (k := 0) (As := [.int r_34]) (rest := []) ⟨hx, hb, hml, hown, hts⟩ (mx1_isRefused l G b hole r_34 K0 T  _ h) (cwV 1 hts (lw_V q777 q779 qs26 q118 q780) rfl rfl rfl cwx_X1_isRefused ⟨Nat.le_of_ble_eq_true rfl, Nat.le_of_ble_eq_true rfl⟩) (x_recv (CC := RX1) (ci := 0) hK hP (xs_0 hP) (by decide) (by decide) rfl (xE_8 (xs_0 hP))) hK hV hb0 hP hS rfl hl.1 rfl (Nat.le_of_ble_eq_true rfl) dX1_complete_10 ⟨by first | exact Nat.zero_le _ | (show _ + _ ≤ Z - kc K0; omega), by first | exact Nat.zero_le _ | (show _ + _ ≤ Y - ks K0; omega)⟩ (fun r_37 T1 K1 H locs h hle1 hc1 hs1 hP hS => ?_)
  obtain ⟨h, hKe⟩ := h
  rw [hKe] at hP
  generalize T1 = T_38 at h hP
  refine lv_if_eq (tgt := 18) hx hb dX1_complete_13 (by decide) (fun c_48 => ?_) (fun c_48 => ?_)
  · have h := h.1 c_48
    refine lv_aload_n hx hb dX1_complete_18 rfl (lv_at hl 0 rfl) ?_
    refine lv_iload_n hx hb dX1_complete_19 rfl (lv_at hl 1 rfl) ?_
    refine x_cV (k := 0) (As := [.int p1]) (rest := []) ⟨hx, hb, hml, hown, hts⟩ (mx1_free l G b hole p1 K0 T_38  _ h) (cwV 1 hts (lw_V q1153 q1155 qs57 q118 q1156) rfl rfl rfl cwx_X1_free ⟨Nat.le_of_ble_eq_true rfl, Nat.le_of_ble_eq_true rfl⟩) (x_recv (CC := RX1) (ci := 0) hK hP (xs_0 hP) (by decide) (by decide) rfl (xE_8 (xs_0 hP))) hK hV hb0 hP hS rfl hl.1 rfl (Nat.le_of_ble_eq_true rfl) dX1_complete_20 ⟨by first | exact Nat.zero_le _ | (show _ + _ ≤ Z - kc K0; omega), by first | exact Nat.zero_le _ | (show _ + _ ≤ Y - ks K0; omega)⟩ (fun r_40 T1 K1 H locs h hle1 hc1 hs1 hP hS => ?_)
    obtain ⟨h, hTe, hKe⟩ := h
    rw [hTe, hKe] at hP
    refine lv_istore_n (lv' := [(2, .int r_40), (0, .ref (b + 0)), (1, .int p1)]) hx hb dX1_complete_23 rfl hl (by decide) rfl (fun ls hl => ?_)
    refine lv_aload_n hx hb dX1_complete_24 rfl (lv_at hl 1 rfl) ?_
    refine lv_iload_n hx hb dX1_complete_25 rfl (lv_at hl 2 rfl) ?_
    refine x_cV (k := 0) (As := [.int p1]) (rest := []) ⟨hx, hb, hml, hown, hts⟩ (mx1_hasZero l G b hole p1 K0 T_38  _ h) (cwV 1 hts (lw_V q896 q898 qs34 q118 q899) rfl rfl rfl cwx_X1_hasZero ⟨Nat.le_of_ble_eq_true rfl, Nat.le_of_ble_eq_true rfl⟩) (x_recv (CC := RX1) (ci := 0) hK hP (xs_0 hP) (by decide) (by decide) rfl (xE_8 (xs_0 hP))) hK hV hb0 hP hS rfl hl.1 rfl (Nat.le_of_ble_eq_true rfl) dX1_complete_26 ⟨by first | exact Nat.zero_le _ | (show _ + _ ≤ Z - kc K0; omega), by first | exact Nat.zero_le _ | (show _ + _ ≤ Y - ks K0; omega)⟩ (fun r_43 T1 K1 H locs h hle1 hc1 hs1 hP hS => ?_)
    obtain ⟨h, hTe, hKe⟩ := h
    rw [hTe, hKe] at hP
    refine lv_if_ne (tgt := 37) hx hb dX1_complete_29 (by decide) (fun c_47 => ?_) (fun c_47 => ?_)
    · have h := h.1 c_47
      exact J37 _ _ _ _ _ _ _ h hle0 hcn hsn hzz hyy hP hS (lv_sub hl [1] rfl)
    · have h := h.2 c_47
      refine lv_iload_n hx hb dX1_complete_32 rfl (lv_at hl 0 rfl) ?_
      refine lv_iconst (v := (-1)) hx hb dX1_complete_33 (by decide) ?_
      refine lv_icmp_ne (tgt := 43) hx hb dX1_complete_34 (by decide) (fun c_46 => ?_) (fun c_46 => ?_)
      · have h := h.1 c_46
        refine lv_iconst (v := 0) hx hb dX1_complete_43 (by decide) ?_
        refine lv_istore_n (lv' := [(3, .int 0), (2, .int r_40), (0, .ref (b + 0)), (1, .int p1)]) hx hb dX1_complete_44 rfl hl (by decide) rfl (fun ls hl => ?_)
        exact L45 _ _ _ _ _ _ _ _ _ h hle0 hcn hsn hzz hyy hP hS (lv_sub hl [2, 3, 1, 0] rfl)
      · have h := h.2 c_46
        exact J37 _ _ _ _ _ _ _ h hle0 hcn hsn hzz hyy hP hS (lv_sub hl [1] rfl)
  · have h := h.2 c_48
    refine lv_iconst (v := (-1)) hx hb dX1_complete_16 (by decide) ?_
    refine W.widen (k := Z - kc K0) (n := Y - ks K0) (by omega) (by omega) ?_
    exact W.iret (v := (-1)) hx hb hr (fun t ht hW => ⟨⟨(-1), T_38, (kset K0 Z Y), rfl, h, hle0, (by show Z = _; omega), (by show Y = _; omega), by rw [ht]; exact hP, va_K.moved hW.alike hK⟩, hS.F ht⟩) hS.2.2 dX1_complete_17
theorem cwx_X1_order : yX1_order.cls = RX1 ∧ yX1_order.cls ≠ "java/lang/invoke/MethodHandle" ∧ yX1_order.cls ≠ "java/lang/invoke/VarHandle" ∧ (parseMethodDescriptor yX1_order.desc).map (fun d => d.parameters.length) = some 3 := by decide +kernel
def wx1_order_b65 (p1 : Int32) (p2 : Int32) (p3 : Int32) (Z Y : Nat) (post : Int32 → XT → XK → Prop) (R65 : Int32 → XT → XK → Prop) (x4 : Int32) (x5 : Int32) (K : XK) (T : XT) : Prop :=
      ((8 ≤ x5 →
        ((x4 = 0 →
          post 0 T (kset K Z Y)) ∧
         (¬ (x4 = 0) →
          post 1 T (kset K Z Y)))) ∧
       (¬ (8 ≤ x5) →
        ∃ v_2 : Nat, xr T 0 18 = some v_2 ∧
        ∃ v_3 : Nat, xr T 0 18 = some v_3 ∧
        ∃ j_4 : Nat, j_4 < kl K v_3 ∧ x5 = nI j_4 ∧ ∃ v_5 : Nat, xr T v_3 j_4 = some v_5 ∧
        wx1_spread v_5 K T (fun r_6 T_7 =>
        ∃ Z_12 Y_13 : Nat, kc K ≤ Z_12 ∧ Z_12 ≤ Z ∧ ks K ≤ Y_13 ∧ Y_13 ≤ Y ∧ wx1_sorted r_6 K T_7 Z_12 Y_13 (fun r_9 T_10 K_11 =>
        ∃ j_14 : Nat, j_14 < kl K_11 v_2 ∧ x5 = nI j_14 ∧ ∀ T_15 : XT, T_15 = xwr T_10 v_2 j_14 (some r_9) →
        ∀ x5_16 : Int32, x5_16 = x5 + 1 →
        R65 x5_16 T_15 K_11))))
def wx1_order_l65 (p1 : Int32) (p2 : Int32) (p3 : Int32) (Z Y : Nat) (post : Int32 → XT → XK → Prop) (x4 : Int32) (x5 : Int32) (K : XK) (T : XT) : Prop := wLoop (fun (R : ((Int32) × (XT) × (XK)) → Prop) (v : (Int32) × (XT) × (XK)) => wx1_order_b65 p1 p2 p3 Z Y post (fun x5 T K => R (x5, T, K)) x4 v.1 v.2.2 v.2.1) (x5, T, K)
def wx1_order_j51 (p1 : Int32) (p2 : Int32) (p3 : Int32) (Z Y : Nat) (post : Int32 → XT → XK → Prop) (x4 : Int32) (K : XK) (T : XT) : Prop :=
    ∃ Z_21 Y_22 : Nat, kc K ≤ Z_21 ∧ Z_21 ≤ Z ∧ ks K ≤ Y_22 ∧ Y_22 ≤ Y ∧ wx1_keeps  K T Z_21 Y_22 (fun T_19 K_20 =>
    ∃ Z_26 Y_27 : Nat, kc K_20 ≤ Z_26 ∧ Z_26 ≤ Z ∧ ks K_20 ≤ Y_27 ∧ Y_27 ≤ Y ∧ wx1_becomes p1 p2 p3 K_20 T_19 Z_26 Y_27 (fun T_24 K_25 =>
    wx1_order_l65 p1 p2 p3 Z Y post x4 0 K_25 T_24))
def wx1_order_j44 (p1 : Int32) (p2 : Int32) (p3 : Int32) (Z Y : Nat) (post : Int32 → XT → XK → Prop)  (K : XK) (T : XT) : Prop :=
    wx1_order_j51 p1 p2 p3 Z Y post 1 K T
def wx1_order (p1 : Int32) (p2 : Int32) (p3 : Int32) (K0 : XK) (T : XT) (Z Y : Nat) (post : Int32 → XT → XK → Prop) : Prop :=
  wx1_isOrder p1 p2 p3 K0 T (fun r_28 =>
  wx1_why_2 1 r_28 K0 T (fun r_31 =>
  wx1_isRefused r_31 K0 T (fun r_34 T_35 =>
  ((r_34 = 0 →
    ((¬ (xi T_35 0 1) = p1 →
      wx1_order_j44 p1 p2 p3 Z Y post  K0 T_35) ∧
     ((xi T_35 0 1) = p1 →
      ((¬ (xi T_35 0 2) = p2 →
        wx1_order_j44 p1 p2 p3 Z Y post  K0 T_35) ∧
       ((xi T_35 0 2) = p2 →
        (((xi T_35 0 3) = p3 →
          wx1_order_j51 p1 p2 p3 Z Y post 0 K0 T_35) ∧
         (¬ ((xi T_35 0 3) = p3) →
          wx1_order_j44 p1 p2 p3 Z Y post  K0 T_35))))))) ∧
   (¬ (r_34 = 0) →
    post (-1) T_35 (kset K0 Z Y))))))
set_option maxHeartbeats 4000000 in
theorem mx1_order (l : Launch) (G : XG) (b : Nat) (hole : Nat → Prop) (p1 : Int32) (p2 : Int32) (p3 : Int32) (K0 : XK) (T : XT) (Z Y : Nat) (hZ : kc K0 ≤ Z) (hY : ks K0 ≤ Y)  (post : Int32 → XT → XK → Prop) (h : wx1_order p1 p2 p3 K0 T Z Y post) : Met l yX1_order (ws_ yX1_order cX1_order 6 (some .int)) ({ frames := 5, cells := (Z - kc K0), slots := (Y - ks K0), locals := 3146 } : Room) (xPc G b hole [.ref (b + 0), .int p1, .int p2, .int p3] K0 T) (xQ G b hole K0 (Z - kc K0) (Y - ks K0) (ρ := Int32) eI (fun r T1 K1 => post r T1 K1)) (Z - kc K0) (Y - ks K0) (xA b hole) := by
  refine Met.ofW (cc := cX1_order) (maxL := 6) (ret := (some .int)) (by decide) rfl ?_
  intro p e s m args below meth c s₁ B hml hv
  obtain ⟨rfl, hP, hK, hV⟩ := hv
  have hx := B.exec
  have hb := B.bytes
  have hr := B.returns
  have hts := atoms_spec (ws := ws_ yX1_order cX1_order 6 (some .int)) B.pre
  have hts : ∀ w ∈ lw_all, w.before _ s = true := fun w h => hts w (List.mem_cons_of_mem _ h)
  have hown : s.vm.findClass RX1 = some m.cls := findClass_of_methodNamed B.named
  have hlocks := B.notSynchronized
  have hb0 : b ≤ s.heap.size := by rw [hP.2.2.2]; exact Nat.le_add_right _ _
  have hS : va_S (xA b hole) s.heap s.heap [] := va_S.rf
  have hl := lv_entry ([.ref (b + 0), .int p1, .int p2, .int p3]) (n := 6) (Nat.le_of_ble_eq_true rfl)
  rw [lg_entry_eq]
  generalize (lg_sl ([.ref (b + 0), .int p1, .int p2, .int p3]) ++ List.replicate (6 - (lg_sl ([.ref (b + 0), .int p1, .int p2, .int p3])).length) Slot.unset).toArray = ls at hl ⊢
  have hl : lv_has ls 6 [(0, .ref (b + 0)), (1, .int p1), (2, .int p2), (3, .int p3)] := hl
  have hle0 : kle K0 K0 := kle.rf
  have L65 : ∀ (x4 : Int32) (x5 : Int32) (T : XT) (K : XK) (cn sn : Nat) (H : Heap) (locs : List Loc) (ls : Array Slot), wx1_order_l65 p1 p2 p3 Z Y post x4 x5 K T → kle K0 K → kc K0 + cn = kc K → ks K0 + sn = ks K → kc K ≤ Z → ks K ≤ Y → xW G b hole K T H → va_S (xA b hole) s.heap H locs → lv_has ls 6 [(0, .ref (b + 0)), (4, .int x4), (5, .int x5)] → W p l e (headSpec (ws_ yX1_order cX1_order 6 (some .int)) ({ frames := 5, cells := (Z - kc K0), slots := (Y - ks K0), locals := 3146 } : Room)).room s m ([.ref (b + 0), .int p1, .int p2, .int p3] : List Value).toArray below meth c H locs cn sn (MQ below (xQ G b hole K0 (Z - kc K0) (Y - ks K0) (ρ := Int32) eI (fun r T1 K1 => post r T1 K1)) ([.ref (b + 0), .int p1, .int p2, .int p3] : List Value).toArray s (Z - kc K0) (Y - ks K0) (xA b hole)) (F0 m 65 ls []) := by
    intro x4 x5 T K cn sn H locs ls h hle0 hcn hsn hzz hyy hP hS hl
    obtain ⟨I65, n65, hI, hstep65⟩ := h
    induction n65 using Nat.strongRecOn generalizing x5 T K cn sn H locs ls with
    | ind n65 ih65 =>
      have h : wx1_order_b65 p1 p2 p3 Z Y post (fun x5 T K => ∃ mm, mm < n65 ∧ I65 mm (x5, T, K)) x4 x5 K T := hstep65 n65 _ hI
      clear hI
      unfold wx1_order_b65 at h
      refine lv_iload hx hb dX1_order_65 (lv_at hl 2 rfl) ?_
      refine lv_bipush (v := 8) hx hb dX1_order_67 (by decide) ?_
      refine lv_icmp_ge (tgt := 100) hx hb dX1_order_69 (by decide) (fun c_17 => ?_) (fun c_17 => ?_)
      · have h := h.1 c_17
        refine lv_iload hx hb dX1_order_100 (lv_at hl 1 rfl) ?_
        refine lv_if_eq (tgt := 109) hx hb dX1_order_102 (by decide) (fun c_1 => ?_) (fun c_1 => ?_)
        · have h := h.1 c_1
          refine lv_iconst (v := 0) hx hb dX1_order_109 (by decide) ?_
          refine W.widen (k := Z - kc K0) (n := Y - ks K0) (by omega) (by omega) ?_
          exact W.iret (v := 0) hx hb hr (fun t ht hW => ⟨⟨0, T, (kset K Z Y), rfl, h, hle0, (by show Z = _; omega), (by show Y = _; omega), by rw [ht]; exact hP, va_K.moved hW.alike hK⟩, hS.F ht⟩) hS.2.2 dX1_order_110
        · have h := h.2 c_1
          refine lv_iconst (v := 1) hx hb dX1_order_105 (by decide) ?_
          refine lv_goto (tgt := 110) hx hb dX1_order_106 (by decide) ?_
          refine W.widen (k := Z - kc K0) (n := Y - ks K0) (by omega) (by omega) ?_
          exact W.iret (v := 1) hx hb hr (fun t ht hW => ⟨⟨1, T, (kset K Z Y), rfl, h, hle0, (by show Z = _; omega), (by show Y = _; omega), by rw [ht]; exact hP, va_K.moved hW.alike hK⟩, hS.F ht⟩) hS.2.2 dX1_order_110
      · have h := h.2 c_17
        refine lv_aload_n hx hb dX1_order_72 rfl (lv_at hl 0 rfl) ?_
        obtain ⟨v_2, ev_2, h⟩ := h
        refine x_get (CC := RX1) (TT := TX1) (N := 26) (ci := 0) (v := rfv b (xr T 0 18)) hx hb hts in_X1 hown hK hP (xs_0 hP) (by decide) (by decide) rfl (xE_8 (xs_0 hP)) 18 (by decide) q405 rfl rfl dX1_order_73 ?_
        refine x_some ev_2 ?_
        have hk_v_2 : kd K v_2 = 3 := hP.ty (xs_0 hP) (by decide) ev_2
        refine lv_iload hx hb dX1_order_76 (lv_at hl 2 rfl) ?_
        refine lv_aload_n hx hb dX1_order_78 rfl (lv_at hl 0 rfl) ?_
        refine lv_aload_n hx hb dX1_order_79 rfl (lv_at hl 0 rfl) ?_
        refine lv_aload_n hx hb dX1_order_80 rfl (lv_at hl 0 rfl) ?_
        obtain ⟨v_3, ev_3, h⟩ := h
        refine x_get (CC := RX1) (TT := TX1) (N := 26) (ci := 0) (v := rfv b (xr T 0 18)) hx hb hts in_X1 hown hK hP (xs_0 hP) (by decide) (by decide) rfl (xE_8 (xs_0 hP)) 18 (by decide) q405 rfl rfl dX1_order_81 ?_
        refine x_some ev_3 ?_
        have hk_v_3 : kd K v_3 = 3 := hP.ty (xs_0 hP) (by decide) ev_3
        refine lv_iload hx hb dX1_order_84 (lv_at hl 2 rfl) ?_
        obtain ⟨j_4, hj_4, ej_4, v_5, ev_5, h⟩ := h
        refine x_aald3 hx hb hK hP hk_v_3 ej_4 hj_4 dX1_order_86 ?_
        refine x_some ev_5 ?_
        have hk_v_5 : kd K v_5 = 2 := hP.ty hk_v_3 (by decide) ev_5
        refine x_cV (k := 0) (As := [.ref (b + v_5)]) (rest := [.ref (b + 0), .int x5, .ref (b + v_2)]) ⟨hx, hb, hml, hown, hts⟩ (mx1_spread l G b hole v_5 K T hk_v_5 _ h) (cwV 1 hts (lw_V q831 q833 qs28 q118 q834) rfl rfl rfl cwx_X1_spread ⟨Nat.le_of_ble_eq_true rfl, Nat.le_of_ble_eq_true rfl⟩) (x_recv (CC := RX1) (ci := 0) hK hP (xs_0 hP) (by decide) (by decide) rfl (xE_8 (xs_0 hP))) hK hV hb0 hP hS rfl hl.1 rfl (Nat.le_of_ble_eq_true rfl) dX1_order_87 ⟨by first | exact Nat.zero_le _ | (show _ + _ ≤ Z - kc K0; omega), by first | exact Nat.zero_le _ | (show _ + _ ≤ Y - ks K0; omega)⟩ (fun r_6 T1 K1 H locs h hle1 hc1 hs1 hP hS => ?_)
        obtain ⟨h, hk_r_6, hKe⟩ := h
        rw [hKe] at hP
        generalize T1 = T_7 at h hP
        rw [hKe] at hk_r_6
        obtain ⟨Z_12, Y_13, hz1, hz2, hy1, hy2, h⟩ := h
        refine x_cV (k := 0) (As := [.ref (b + r_6)]) (rest := [.int x5, .ref (b + v_2)]) ⟨hx, hb, hml, hown, hts⟩ (mx1_sorted l G b hole r_6 K T_7 Z_12 Y_13 hz1 hy1 hk_r_6 _ h) (cwV 1 hts (lw_V q1067 q750 qs23 q118 q751) rfl rfl rfl cwx_X1_sorted ⟨Nat.le_of_ble_eq_true rfl, Nat.le_of_ble_eq_true rfl⟩) (x_recv (CC := RX1) (ci := 0) hK hP (xs_0 hP) (by decide) (by decide) rfl (xE_8 (xs_0 hP))) hK hV hb0 hP hS rfl hl.1 rfl (Nat.le_of_ble_eq_true rfl) dX1_order_90 ⟨by first | exact Nat.zero_le _ | (show _ + _ ≤ Z - kc K0; omega), by first | exact Nat.zero_le _ | (show _ + _ ≤ Y - ks K0; omega)⟩ (fun r_9 T1 K1 H locs h hle1 hc1 hs1 hP hS => ?_)
        obtain ⟨h, hk_r_9⟩ := h
        generalize T1 = T_10 at h hP
        generalize K1 = K_11 at h hP hle1 hc1 hs1 hk_r_9
        have hk_v_2 : kd K_11 v_2 = 3 := hle1.kd hk_v_2
        have hle0 := hle0.tr hle1
        have hcn : kc K0 + (cn + (Z_12 - kc K)) = kc K_11 := by omega
        have hsn : ks K0 + (sn + (Y_13 - ks K)) = ks K_11 := by omega
        have hzz : kc K_11 ≤ Z := by omega
        have hyy : ks K_11 ≤ Y := by omega
        obtain ⟨j_14, hj_14, ej_14, h⟩ := h
        obtain ⟨T_15, eT_15⟩ : ∃ z : XT, z = xwr T_10 v_2 j_14 (some r_9) := ⟨_, rfl⟩
        have h := h T_15 eT_15
        refine x_aast3 hx hb hK hP hS hk_v_2 hk_r_9 ej_14 hj_14 dX1_order_93 (fun H locs hP hS => ?_)
        rw [← eT_15] at hP
        obtain ⟨x5_16, ex5_16⟩ : ∃ y : Int32, y = x5 + 1 := ⟨_, rfl⟩
        have h := h x5_16 ex5_16
        refine lv_iinc (v := x5_16) (lv' := [(5, .int x5_16), (0, .ref (b + 0)), (4, .int x4)]) hx hb dX1_order_94 hl (k := 2) rfl (by rw [ex5_16]; rfl) (by decide) rfl (fun ls hl => ?_)
        refine lv_goto (tgt := 65) hx hb dX1_order_97 (by decide) ?_
        obtain ⟨mm, hmm, h⟩ := h
        exact ih65 mm hmm _ _ _ _ _ _ _ _ hle0 hcn hsn hzz hyy hP hS (lv_sub hl [1, 2, 0] rfl) h
  have J51 : ∀ (x4 : Int32) (T : XT) (K : XK) (cn sn : Nat) (H : Heap) (locs : List Loc) (ls : Array Slot), wx1_order_j51 p1 p2 p3 Z Y post x4 K T → kle K0 K → kc K0 + cn = kc K → ks K0 + sn = ks K → kc K ≤ Z → ks K ≤ Y → xW G b hole K T H → va_S (xA b hole) s.heap H locs → lv_has ls 6 [(0, .ref (b + 0)), (1, .int p1), (2, .int p2), (3, .int p3), (4, .int x4)] → W p l e (headSpec (ws_ yX1_order cX1_order 6 (some .int)) ({ frames := 5, cells := (Z - kc K0), slots := (Y - ks K0), locals := 3146 } : Room)).room s m ([.ref (b + 0), .int p1, .int p2, .int p3] : List Value).toArray below meth c H locs cn sn (MQ below (xQ G b hole K0 (Z - kc K0) (Y - ks K0) (ρ := Int32) eI (fun r T1 K1 => post r T1 K1)) ([.ref (b + 0), .int p1, .int p2, .int p3] : List Value).toArray s (Z - kc K0) (Y - ks K0) (xA b hole)) (F0 m 51 ls []) := by
    intro x4 T K cn sn H locs ls h hle0 hcn hsn hzz hyy hP hS hl
    unfold wx1_order_j51 at h
    refine lv_aload_n hx hb dX1_order_51 rfl (lv_at hl 0 rfl) ?_
    obtain ⟨Z_21, Y_22, hz1, hz2, hy1, hy2, h⟩ := h
    refine x_cV (k := 0) (As := []) (rest := []) ⟨hx, hb, hml, hown, hts⟩ (mx1_keeps l G b hole  K T Z_21 Y_22 hz1 hy1  _ h) (cwV 0 hts (lw_V q999 q1001 qs44 q118 q1002) rfl rfl rfl cwx_X1_keeps ⟨Nat.le_of_ble_eq_true rfl, Nat.le_of_ble_eq_true rfl⟩) (x_recv (CC := RX1) (ci := 0) hK hP (xs_0 hP) (by decide) (by decide) rfl (xE_8 (xs_0 hP))) hK hV hb0 hP hS rfl hl.1 rfl (Nat.le_of_ble_eq_true rfl) dX1_order_52 ⟨by first | exact Nat.zero_le _ | (show _ + _ ≤ Z - kc K0; omega), by first | exact Nat.zero_le _ | (show _ + _ ≤ Y - ks K0; omega)⟩ (fun r_18 T1 K1 H locs h hle1 hc1 hs1 hP hS => ?_)
    generalize T1 = T_19 at h hP
    generalize K1 = K_20 at h hP hle1 hc1 hs1
    have hle0 := hle0.tr hle1
    have hcn : kc K0 + (cn + (Z_21 - kc K)) = kc K_20 := by omega
    have hsn : ks K0 + (sn + (Y_22 - ks K)) = ks K_20 := by omega
    have hzz : kc K_20 ≤ Z := by omega
    have hyy : ks K_20 ≤ Y := by omega
    refine lv_aload_n hx hb dX1_order_55 rfl (lv_at hl 0 rfl) ?_
    refine lv_iload_n hx hb dX1_order_56 rfl (lv_at hl 1 rfl) ?_
    refine lv_iload_n hx hb dX1_order_57 rfl (lv_at hl 2 rfl) ?_
    refine lv_iload_n hx hb dX1_order_58 rfl (lv_at hl 3 rfl) ?_
    obtain ⟨Z_26, Y_27, hz1, hz2, hy1, hy2, h⟩ := h
    refine x_cV (k := 0) (As := [.int p1, .int p2, .int p3]) (rest := []) ⟨hx, hb, hml, hown, hts⟩ (mx1_becomes l G b hole p1 p2 p3 K_20 T_19 Z_26 Y_27 hz1 hy1  _ h) (cwV 3 hts (lw_V q711 q713 qs19 q118 q714) rfl rfl rfl cwx_X1_becomes ⟨Nat.le_of_ble_eq_true rfl, Nat.le_of_ble_eq_true rfl⟩) (x_recv (CC := RX1) (ci := 0) hK hP (xs_0 hP) (by decide) (by decide) rfl (xE_8 (xs_0 hP))) hK hV hb0 hP hS rfl hl.1 rfl (Nat.le_of_ble_eq_true rfl) dX1_order_59 ⟨by first | exact Nat.zero_le _ | (show _ + _ ≤ Z - kc K0; omega), by first | exact Nat.zero_le _ | (show _ + _ ≤ Y - ks K0; omega)⟩ (fun r_23 T1 K1 H locs h hle1 hc1 hs1 hP hS => ?_)
    generalize T1 = T_24 at h hP
    generalize K1 = K_25 at h hP hle1 hc1 hs1
    have hle0 := hle0.tr hle1
    have hcn : kc K0 + ((cn + (Z_21 - kc K)) + (Z_26 - kc K_20)) = kc K_25 := by omega
    have hsn : ks K0 + ((sn + (Y_22 - ks K)) + (Y_27 - ks K_20)) = ks K_25 := by omega
    have hzz : kc K_25 ≤ Z := by omega
    have hyy : ks K_25 ≤ Y := by omega
    refine lv_iconst (v := 0) hx hb dX1_order_62 (by decide) ?_
    refine lv_istore (lv' := [(5, .int 0), (0, .ref (b + 0)), (1, .int p1), (2, .int p2), (3, .int p3), (4, .int x4)]) hx hb dX1_order_63 hl (by decide) rfl (fun ls hl => ?_)
    exact L65 _ _ _ _ _ _ _ _ _ h hle0 hcn hsn hzz hyy hP hS (lv_sub hl [1, 5, 0] rfl)
  have J44 : ∀  (T : XT) (K : XK) (cn sn : Nat) (H : Heap) (locs : List Loc) (ls : Array Slot), wx1_order_j44 p1 p2 p3 Z Y post  K T → kle K0 K → kc K0 + cn = kc K → ks K0 + sn = ks K → kc K ≤ Z → ks K ≤ Y → xW G b hole K T H → va_S (xA b hole) s.heap H locs → lv_has ls 6 [(0, .ref (b + 0)), (1, .int p1), (2, .int p2), (3, .int p3)] → W p l e (headSpec (ws_ yX1_order cX1_order 6 (some .int)) ({ frames := 5, cells := (Z - kc K0), slots := (Y - ks K0), locals := 3146 } : Room)).room s m ([.ref (b + 0), .int p1, .int p2, .int p3] : List Value).toArray below meth c H locs cn sn (MQ below (xQ G b hole K0 (Z - kc K0) (Y - ks K0) (ρ := Int32) eI (fun r T1 K1 => post r T1 K1)) ([.ref (b + 0), .int p1, .int p2, .int p3] : List Value).toArray s (Z - kc K0) (Y - ks K0) (xA b hole)) (F0 m 44 ls []) := by
    intro  T K cn sn H locs ls h hle0 hcn hsn hzz hyy hP hS hl
    unfold wx1_order_j44 at h
    refine lv_iconst (v := 1) hx hb dX1_order_44 (by decide) ?_
    refine lv_goto (tgt := 49) hx hb dX1_order_45 (by decide) ?_
    refine lv_istore (lv' := [(4, .int 1), (0, .ref (b + 0)), (1, .int p1), (2, .int p2), (3, .int p3)]) hx hb dX1_order_49 hl (by decide) rfl (fun ls hl => ?_)
    exact J51 _ _ _ _ _ _ _ _ h hle0 hcn hsn hzz hyy hP hS (lv_sub hl [1, 2, 3, 4, 0] rfl)
  have hcn : kc K0 + 0 = kc K0 := rfl
  have hsn : ks K0 + 0 = ks K0 := rfl
  have hzz := hZ
  have hyy := hY
  unfold wx1_order at h
  refine lv_aload_n hx hb dX1_order_0 rfl (lv_at hl 0 rfl) ?_
  refine lv_aload_n hx hb dX1_order_1 rfl (lv_at hl 0 rfl) ?_
  refine lv_iconst (v := 1) hx hb dX1_order_2 (by decide) ?_
  refine lv_iload_n hx hb dX1_order_3 rfl (lv_at hl 1 rfl) ?_
  refine lv_iload_n hx hb dX1_order_4 rfl (lv_at hl 2 rfl) ?_
  refine lv_iload_n hx hb dX1_order_5 rfl (lv_at hl 3 rfl) ?_
  refine x_cS (As := [.int p1, .int p2, .int p3]) (rest := [.int 1, .ref (b + 0), .ref (b + 0)]) ⟨hx, hb, hml, hown, hts⟩ (mx1_isOrder l G b hole p1 p2 p3 K0 T  _ h) (va_cwS 3 hts (lw_S q878 q879 q118 q880) rfl rfl rfl cwx_X1_isOrder ⟨Nat.le_of_ble_eq_true rfl, Nat.le_of_ble_eq_true rfl⟩) hK hV hb0 hP hS rfl hl.1 rfl (Nat.le_of_ble_eq_true rfl) dX1_order_6 ⟨by first | exact Nat.zero_le _ | (show _ + _ ≤ Z - kc K0; omega), by first | exact Nat.zero_le _ | (show _ + _ ≤ Y - ks K0; omega)⟩ (fun r_28 T1 K1 H locs h hle1 hc1 hs1 hP hS => ?_)
  obtain ⟨h, hTe, hKe⟩ := h
  rw [hTe, hKe] at hP
  refine x_cV (k := 0) (As := [.int 1, .int r_28]) (rest := [.ref (b + 0)]) ⟨hx, hb, hml, hown, hts⟩ (mx1_why_2 l G b hole 1 r_28 K0 T  _ h) (cwV 2 hts (lw_V q773 q775 qs25 q118 q776) rfl rfl rfl cwx_X1_why_2 ⟨Nat.le_of_ble_eq_true rfl, Nat.le_of_ble_eq_true rfl⟩) (x_recv (CC := RX1) (ci := 0) hK hP (xs_0 hP) (by decide) (by decide) rfl (xE_8 (xs_0 hP))) hK hV hb0 hP hS rfl hl.1 rfl (Nat.le_of_ble_eq_true rfl) dX1_order_9 ⟨by first | exact Nat.zero_le _ | (show _ + _ ≤ Z - kc K0; omega), by first | exact Nat.zero_le _ | (show _ + _ ≤ Y - ks K0; omega)⟩ (fun r_31 T1 K1 H locs h hle1 hc1 hs1 hP hS => ?_)
  obtain ⟨h, hTe, hKe⟩ := h
  rw [hTe, hKe] at hP
  refine x_cV (k := 0) (As := [.int r_31]) (rest := []) ⟨hx, hb, hml, hown, hts⟩ (mx1_isRefused l G b hole r_31 K0 T  _ h) (cwV 1 hts (lw_V q777 q779 qs26 q118 q780) rfl rfl rfl cwx_X1_isRefused ⟨Nat.le_of_ble_eq_true rfl, Nat.le_of_ble_eq_true rfl⟩) (x_recv (CC := RX1) (ci := 0) hK hP (xs_0 hP) (by decide) (by decide) rfl (xE_8 (xs_0 hP))) hK hV hb0 hP hS rfl hl.1 rfl (Nat.le_of_ble_eq_true rfl) dX1_order_12 ⟨by first | exact Nat.zero_le _ | (show _ + _ ≤ Z - kc K0; omega), by first | exact Nat.zero_le _ | (show _ + _ ≤ Y - ks K0; omega)⟩ (fun r_34 T1 K1 H locs h hle1 hc1 hs1 hP hS => ?_)
  obtain ⟨h, hKe⟩ := h
  rw [hKe] at hP
  generalize T1 = T_35 at h hP
  refine lv_if_eq (tgt := 20) hx hb dX1_order_15 (by decide) (fun c_40 => ?_) (fun c_40 => ?_)
  · have h := h.1 c_40
    refine lv_aload_n hx hb dX1_order_20 rfl (lv_at hl 0 rfl) ?_
    refine x_get (CC := RX1) (TT := TX1) (N := 26) (ci := 0) (v := .int (xi T_35 0 1)) hx hb hts in_X1 hown hK hP (xs_0 hP) (by decide) (by decide) rfl (xE_8 (xs_0 hP)) 1 (by decide) q385 rfl rfl dX1_order_21 ?_
    refine lv_iload_n hx hb dX1_order_24 rfl (lv_at hl 1 rfl) ?_
    refine lv_icmp_ne (tgt := 44) hx hb dX1_order_25 (by decide) (fun c_39 => ?_) (fun c_39 => ?_)
    · have h := h.1 c_39
      exact J44 _ _ _ _ _ _ _ h hle0 hcn hsn hzz hyy hP hS (lv_sub hl [0, 1, 2, 3] rfl)
    · have h := h.2 c_39
      refine lv_aload_n hx hb dX1_order_28 rfl (lv_at hl 0 rfl) ?_
      refine x_get (CC := RX1) (TT := TX1) (N := 26) (ci := 0) (v := .int (xi T_35 0 2)) hx hb hts in_X1 hown hK hP (xs_0 hP) (by decide) (by decide) rfl (xE_8 (xs_0 hP)) 2 (by decide) q386 rfl rfl dX1_order_29 ?_
      refine lv_iload_n hx hb dX1_order_32 rfl (lv_at hl 2 rfl) ?_
      refine lv_icmp_ne (tgt := 44) hx hb dX1_order_33 (by decide) (fun c_38 => ?_) (fun c_38 => ?_)
      · have h := h.1 c_38
        exact J44 _ _ _ _ _ _ _ h hle0 hcn hsn hzz hyy hP hS (lv_sub hl [0, 1, 2, 3] rfl)
      · have h := h.2 c_38
        refine lv_aload_n hx hb dX1_order_36 rfl (lv_at hl 0 rfl) ?_
        refine x_get (CC := RX1) (TT := TX1) (N := 26) (ci := 0) (v := .int (xi T_35 0 3)) hx hb hts in_X1 hown hK hP (xs_0 hP) (by decide) (by decide) rfl (xE_8 (xs_0 hP)) 3 (by decide) q387 rfl rfl dX1_order_37 ?_
        refine lv_iload_n hx hb dX1_order_40 rfl (lv_at hl 3 rfl) ?_
        refine lv_icmp_eq (tgt := 48) hx hb dX1_order_41 (by decide) (fun c_37 => ?_) (fun c_37 => ?_)
        · have h := h.1 c_37
          refine lv_iconst (v := 0) hx hb dX1_order_48 (by decide) ?_
          refine lv_istore (lv' := [(4, .int 0), (0, .ref (b + 0)), (1, .int p1), (2, .int p2), (3, .int p3)]) hx hb dX1_order_49 hl (by decide) rfl (fun ls hl => ?_)
          exact J51 _ _ _ _ _ _ _ _ h hle0 hcn hsn hzz hyy hP hS (lv_sub hl [1, 2, 3, 4, 0] rfl)
        · have h := h.2 c_37
          exact J44 _ _ _ _ _ _ _ h hle0 hcn hsn hzz hyy hP hS (lv_sub hl [0, 1, 2, 3] rfl)
  · have h := h.2 c_40
    refine lv_iconst (v := (-1)) hx hb dX1_order_18 (by decide) ?_
    refine W.widen (k := Z - kc K0) (n := Y - ks K0) (by omega) (by omega) ?_
    exact W.iret (v := (-1)) hx hb hr (fun t ht hW => ⟨⟨(-1), T_35, (kset K0 Z Y), rfl, h, hle0, (by show Z = _; omega), (by show Y = _; omega), by rw [ht]; exact hP, va_K.moved hW.alike hK⟩, hS.F ht⟩) hS.2.2 dX1_order_19
theorem cwx_X1_undo : yX1_undo.cls = RX1 ∧ yX1_undo.cls ≠ "java/lang/invoke/MethodHandle" ∧ yX1_undo.cls ≠ "java/lang/invoke/VarHandle" ∧ (parseMethodDescriptor yX1_undo.desc).map (fun d => d.parameters.length) = some 0 := by decide +kernel
def wx1_undo_j21  (Z Y : Nat) (post : Int32 → XT → XK → Prop)  (K : XK) (T : XT) : Prop :=
    ∀ T_1 : XT, T_1 = xwi T 0 22 ((xi T 0 22) - 1) →
    ∃ j_2 : Nat, j_2 < 8 ∧ (xi T_1 0 22) = nI j_2 ∧ ∃ v_3 : Nat, xr T_1 88 j_2 = some v_3 ∧
    ∀ T_4 : XT, T_4 = xwr T_1 0 18 (some v_3) →
    ∃ j_5 : Nat, j_5 < 8 ∧ (xi T_4 0 22) = nI j_5 ∧
    ∃ j_6 : Nat, j_6 < 8 ∧ (xi T_4 0 22) = nI j_6 ∧
    ∃ j_7 : Nat, j_7 < 8 ∧ (xi T_4 0 22) = nI j_7 ∧
    ∃ Z_11 Y_12 : Nat, kc K ≤ Z_11 ∧ Z_11 ≤ Z ∧ ks K ≤ Y_12 ∧ Y_12 ≤ Y ∧ wx1_becomes ((xi T_4 89 j_5) / 16) (jrem ((xi T_4 89 j_6) / 4) 4) (jrem (xi T_4 89 j_7) 4) K T_4 Z_11 Y_12 (fun T_9 K_10 =>
    post 1 T_9 (kset K_10 Z Y))
def wx1_undo  (K0 : XK) (T : XT) (Z Y : Nat) (post : Int32 → XT → XK → Prop) : Prop :=
  (((xi T 0 22) ≤ 0 →
    wx1_isRefused 1 K0 T (fun r_13 T_14 =>
    ((r_13 = 0 →
      wx1_undo_j21  Z Y post  K0 T_14) ∧
     (¬ (r_13 = 0) →
      post 0 T_14 (kset K0 Z Y))))) ∧
   (¬ ((xi T 0 22) ≤ 0) →
    wx1_isRefused 0 K0 T (fun r_17 T_18 =>
    ((r_17 = 0 →
      wx1_undo_j21  Z Y post  K0 T_18) ∧
     (¬ (r_17 = 0) →
      post 0 T_18 (kset K0 Z Y))))))
set_option maxHeartbeats 4000000 in
theorem mx1_undo (l : Launch) (G : XG) (b : Nat) (hole : Nat → Prop)  (K0 : XK) (T : XT) (Z Y : Nat) (hZ : kc K0 ≤ Z) (hY : ks K0 ≤ Y)  (post : Int32 → XT → XK → Prop) (h : wx1_undo  K0 T Z Y post) : Met l yX1_undo (ws_ yX1_undo cX1_undo 1 (some .boolean)) ({ frames := 3, cells := (Z - kc K0), slots := (Y - ks K0), locals := 3146 } : Room) (xPc G b hole [.ref (b + 0)] K0 T) (xQ G b hole K0 (Z - kc K0) (Y - ks K0) (ρ := Int32) eI (fun r T1 K1 => post r T1 K1)) (Z - kc K0) (Y - ks K0) (xA b hole) := by
  refine Met.ofW (cc := cX1_undo) (maxL := 1) (ret := (some .boolean)) (by decide) rfl ?_
  intro p e s m args below meth c s₁ B hml hv
  obtain ⟨rfl, hP, hK, hV⟩ := hv
  have hx := B.exec
  have hb := B.bytes
  have hr := B.returns
  have hts := atoms_spec (ws := ws_ yX1_undo cX1_undo 1 (some .boolean)) B.pre
  have hts : ∀ w ∈ lw_all, w.before _ s = true := fun w h => hts w (List.mem_cons_of_mem _ h)
  have hown : s.vm.findClass RX1 = some m.cls := findClass_of_methodNamed B.named
  have hlocks := B.notSynchronized
  have hb0 : b ≤ s.heap.size := by rw [hP.2.2.2]; exact Nat.le_add_right _ _
  have hS : va_S (xA b hole) s.heap s.heap [] := va_S.rf
  have hl := lv_entry ([.ref (b + 0)]) (n := 1) (Nat.le_of_ble_eq_true rfl)
  rw [lg_entry_eq]
  generalize (lg_sl ([.ref (b + 0)]) ++ List.replicate (1 - (lg_sl ([.ref (b + 0)])).length) Slot.unset).toArray = ls at hl ⊢
  have hl : lv_has ls 1 [(0, .ref (b + 0))] := hl
  have hle0 : kle K0 K0 := kle.rf
  have J21 : ∀  (T : XT) (K : XK) (cn sn : Nat) (H : Heap) (locs : List Loc) (ls : Array Slot), wx1_undo_j21  Z Y post  K T → kle K0 K → kc K0 + cn = kc K → ks K0 + sn = ks K → kc K ≤ Z → ks K ≤ Y → xW G b hole K T H → va_S (xA b hole) s.heap H locs → lv_has ls 1 [(0, .ref (b + 0))] → W p l e (headSpec (ws_ yX1_undo cX1_undo 1 (some .boolean)) ({ frames := 3, cells := (Z - kc K0), slots := (Y - ks K0), locals := 3146 } : Room)).room s m ([.ref (b + 0)] : List Value).toArray below meth c H locs cn sn (MQ below (xQ G b hole K0 (Z - kc K0) (Y - ks K0) (ρ := Int32) eI (fun r T1 K1 => post r T1 K1)) ([.ref (b + 0)] : List Value).toArray s (Z - kc K0) (Y - ks K0) (xA b hole)) (F0 m 21 ls []) := by
    intro  T K cn sn H locs ls h hle0 hcn hsn hzz hyy hP hS hl
    unfold wx1_undo_j21 at h
    refine lv_aload_n hx hb dX1_undo_21 rfl (lv_at hl 0 rfl) ?_
    refine lv_dup hx hb dX1_undo_22 rfl ?_
    refine x_get (CC := RX1) (TT := TX1) (N := 26) (ci := 0) (v := .int (xi T 0 22)) hx hb hts in_X1 hown hK hP (xs_0 hP) (by decide) (by decide) rfl (xE_8 (xs_0 hP)) 22 (by decide) q409 rfl rfl dX1_undo_23 ?_
    refine lv_iconst (v := 1) hx hb dX1_undo_26 (by decide) ?_
    refine lv_isub hx hb dX1_undo_27 ?_
    obtain ⟨T_1, eT_1⟩ : ∃ z : XT, z = xwi T 0 22 ((xi T 0 22) - 1) := ⟨_, rfl⟩
    have h := h T_1 eT_1
    refine x_put (CC := RX1) (TT := TX1) (N := 26) (ci := 0) (T1 := T_1) (v := .int ((xi T 0 22) - 1)) (ty := .int) (fsf := fun T => fs8 (gem G) b T 0) hx hb hts in_X1 tyX1 tyX1_ok nmX1 hown hK hP hS (xs_0 hP) (by decide) (by decide) rfl (fun _ => xE_8 (xs_0 hP)) rfl 22 (by decide) q409 rfl (Or.inl rfl) rfl rfl rfl (by rw [eT_1]; exact fw8_22 _ b T 0 ((xi T 0 22) - 1)) (by rw [eT_1]; exact fun q hq => xwi_i hq) (by rw [eT_1]; exact fun _ _ => rfl) (by rw [eT_1]; exact xwi_ty hP (by rw [(xs_0 hP)]; decide)) dX1_undo_28 (fun H locs hP hS => ?_)
    refine lv_aload_n hx hb dX1_undo_31 rfl (lv_at hl 0 rfl) ?_
    refine lv_aload_n hx hb dX1_undo_32 rfl (lv_at hl 0 rfl) ?_
    refine x_get (CC := RX1) (TT := TX1) (N := 26) (ci := 0) (v := .ref (b + 88)) hx hb hts in_X1 hown hK hP (xs_0 hP) (by decide) (by decide) rfl (xE_8 (xs_0 hP)) 19 (by decide) q406 rfl rfl dX1_undo_33 ?_
    refine lv_aload_n hx hb dX1_undo_36 rfl (lv_at hl 0 rfl) ?_
    refine x_get (CC := RX1) (TT := TX1) (N := 26) (ci := 0) (v := .int (xi T_1 0 22)) hx hb hts in_X1 hown hK hP (xs_0 hP) (by decide) (by decide) rfl (xE_8 (xs_0 hP)) 22 (by decide) q409 rfl rfl dX1_undo_37 ?_
    obtain ⟨j_2, hj_2, ej_2, v_3, ev_3, h⟩ := h
    refine x_aald14 hx hb hK hP (xs_88 hP) ej_2 (by rw [xl_88 hP]; exact hj_2) dX1_undo_40 ?_
    refine x_some ev_3 ?_
    have hk_v_3 : kd K v_3 = 3 := hP.ty (xs_88 hP) (by decide) ev_3
    obtain ⟨T_4, eT_4⟩ : ∃ z : XT, z = xwr T_1 0 18 (some v_3) := ⟨_, rfl⟩
    have h := h T_4 eT_4
    refine x_put (CC := RX1) (TT := TX1) (N := 26) (ci := 0) (T1 := T_4) (v := .ref (b + v_3)) (ty := _) (fsf := fun T => fs8 (gem G) b T 0) hx hb hts in_X1 tyX1 tyX1_ok nmX1 hown hK hP hS (xs_0 hP) (by decide) (by decide) rfl (fun _ => xE_8 (xs_0 hP)) rfl 18 (by decide) q405 rfl (Or.inl rfl) rfl rfl rfl (by rw [eT_4]; exact fw8_18 _ b T_1 0 (some v_3)) (by rw [eT_4]; exact fun _ _ => rfl) (by rw [eT_4]; exact fun q hq => xwr_r hq) (by rw [eT_4]; exact xwr_ty hP (by rw [(xs_0 hP)]; decide) (fun p e9 => by cases e9; rw [hk_v_3, (xs_0 hP)]; exact ⟨rfl, by decide⟩)) dX1_undo_41 (fun H locs hP hS => ?_)
    refine lv_aload_n hx hb dX1_undo_44 rfl (lv_at hl 0 rfl) ?_
    refine lv_aload_n hx hb dX1_undo_45 rfl (lv_at hl 0 rfl) ?_
    refine x_get (CC := RX1) (TT := TX1) (N := 26) (ci := 0) (v := .ref (b + 89)) hx hb hts in_X1 hown hK hP (xs_0 hP) (by decide) (by decide) rfl (xE_8 (xs_0 hP)) 20 (by decide) q407 rfl rfl dX1_undo_46 ?_
    refine lv_aload_n hx hb dX1_undo_49 rfl (lv_at hl 0 rfl) ?_
    refine x_get (CC := RX1) (TT := TX1) (N := 26) (ci := 0) (v := .int (xi T_4 0 22)) hx hb hts in_X1 hown hK hP (xs_0 hP) (by decide) (by decide) rfl (xE_8 (xs_0 hP)) 22 (by decide) q409 rfl rfl dX1_undo_50 ?_
    obtain ⟨j_5, hj_5, ej_5, h⟩ := h
    refine x_iald hx hb hK hP (xs_89 hP) ej_5 (by rw [xl_89 hP]; exact hj_5) dX1_undo_53 ?_
    refine lv_bipush (v := 16) hx hb dX1_undo_54 (by decide) ?_
    refine lv_idiv hx hb dX1_undo_56 (by decide) ?_
    refine lv_aload_n hx hb dX1_undo_57 rfl (lv_at hl 0 rfl) ?_
    refine x_get (CC := RX1) (TT := TX1) (N := 26) (ci := 0) (v := .ref (b + 89)) hx hb hts in_X1 hown hK hP (xs_0 hP) (by decide) (by decide) rfl (xE_8 (xs_0 hP)) 20 (by decide) q407 rfl rfl dX1_undo_58 ?_
    refine lv_aload_n hx hb dX1_undo_61 rfl (lv_at hl 0 rfl) ?_
    refine x_get (CC := RX1) (TT := TX1) (N := 26) (ci := 0) (v := .int (xi T_4 0 22)) hx hb hts in_X1 hown hK hP (xs_0 hP) (by decide) (by decide) rfl (xE_8 (xs_0 hP)) 22 (by decide) q409 rfl rfl dX1_undo_62 ?_
    obtain ⟨j_6, hj_6, ej_6, h⟩ := h
    refine x_iald hx hb hK hP (xs_89 hP) ej_6 (by rw [xl_89 hP]; exact hj_6) dX1_undo_65 ?_
    refine lv_iconst (v := 4) hx hb dX1_undo_66 (by decide) ?_
    refine lv_idiv hx hb dX1_undo_67 (by decide) ?_
    refine lv_iconst (v := 4) hx hb dX1_undo_68 (by decide) ?_
    refine m_irem hx hb dX1_undo_69 (by decide) ?_
    refine lv_aload_n hx hb dX1_undo_70 rfl (lv_at hl 0 rfl) ?_
    refine x_get (CC := RX1) (TT := TX1) (N := 26) (ci := 0) (v := .ref (b + 89)) hx hb hts in_X1 hown hK hP (xs_0 hP) (by decide) (by decide) rfl (xE_8 (xs_0 hP)) 20 (by decide) q407 rfl rfl dX1_undo_71 ?_
    refine lv_aload_n hx hb dX1_undo_74 rfl (lv_at hl 0 rfl) ?_
    refine x_get (CC := RX1) (TT := TX1) (N := 26) (ci := 0) (v := .int (xi T_4 0 22)) hx hb hts in_X1 hown hK hP (xs_0 hP) (by decide) (by decide) rfl (xE_8 (xs_0 hP)) 22 (by decide) q409 rfl rfl dX1_undo_75 ?_
    obtain ⟨j_7, hj_7, ej_7, h⟩ := h
    refine x_iald hx hb hK hP (xs_89 hP) ej_7 (by rw [xl_89 hP]; exact hj_7) dX1_undo_78 ?_
    refine lv_iconst (v := 4) hx hb dX1_undo_79 (by decide) ?_
    refine m_irem hx hb dX1_undo_80 (by decide) ?_
    obtain ⟨Z_11, Y_12, hz1, hz2, hy1, hy2, h⟩ := h
    refine x_cV (k := 0) (As := [.int ((xi T_4 89 j_5) / 16), .int (jrem ((xi T_4 89 j_6) / 4) 4), .int (jrem (xi T_4 89 j_7) 4)]) (rest := []) ⟨hx, hb, hml, hown, hts⟩ (mx1_becomes l G b hole ((xi T_4 89 j_5) / 16) (jrem ((xi T_4 89 j_6) / 4) 4) (jrem (xi T_4 89 j_7) 4) K T_4 Z_11 Y_12 hz1 hy1  _ h) (cwV 3 hts (lw_V q711 q713 qs19 q118 q714) rfl rfl rfl cwx_X1_becomes ⟨Nat.le_of_ble_eq_true rfl, Nat.le_of_ble_eq_true rfl⟩) (x_recv (CC := RX1) (ci := 0) hK hP (xs_0 hP) (by decide) (by decide) rfl (xE_8 (xs_0 hP))) hK hV hb0 hP hS rfl hl.1 rfl (Nat.le_of_ble_eq_true rfl) dX1_undo_81 ⟨by first | exact Nat.zero_le _ | (show _ + _ ≤ Z - kc K0; omega), by first | exact Nat.zero_le _ | (show _ + _ ≤ Y - ks K0; omega)⟩ (fun r_8 T1 K1 H locs h hle1 hc1 hs1 hP hS => ?_)
    generalize T1 = T_9 at h hP
    generalize K1 = K_10 at h hP hle1 hc1 hs1
    have hle0 := hle0.tr hle1
    have hcn : kc K0 + (cn + (Z_11 - kc K)) = kc K_10 := by omega
    have hsn : ks K0 + (sn + (Y_12 - ks K)) = ks K_10 := by omega
    have hzz : kc K_10 ≤ Z := by omega
    have hyy : ks K_10 ≤ Y := by omega
    refine lv_iconst (v := 1) hx hb dX1_undo_84 (by decide) ?_
    refine W.widen (k := Z - kc K0) (n := Y - ks K0) (by omega) (by omega) ?_
    exact W.zret (v := 1) hx hb hr rfl (fun t ht hW => ⟨⟨1, T_9, (kset K_10 Z Y), rfl, h, hle0, (by show Z = _; omega), (by show Y = _; omega), by rw [ht]; exact hP, va_K.moved hW.alike hK⟩, hS.F ht⟩) hS.2.2 dX1_undo_85
  have hcn : kc K0 + 0 = kc K0 := rfl
  have hsn : ks K0 + 0 = ks K0 := rfl
  have hzz := hZ
  have hyy := hY
  unfold wx1_undo at h
  refine lv_aload_n hx hb dX1_undo_0 rfl (lv_at hl 0 rfl) ?_
  refine lv_aload_n hx hb dX1_undo_1 rfl (lv_at hl 0 rfl) ?_
  refine x_get (CC := RX1) (TT := TX1) (N := 26) (ci := 0) (v := .int (xi T 0 22)) hx hb hts in_X1 hown hK hP (xs_0 hP) (by decide) (by decide) rfl (xE_8 (xs_0 hP)) 22 (by decide) q409 rfl rfl dX1_undo_2 ?_
  refine lv_if_le (tgt := 12) hx hb dX1_undo_5 (by decide) (fun c_21 => ?_) (fun c_21 => ?_)
  · have h := h.1 c_21
    refine lv_iconst (v := 1) hx hb dX1_undo_12 (by decide) ?_
    refine x_cV (k := 0) (As := [.int 1]) (rest := []) ⟨hx, hb, hml, hown, hts⟩ (mx1_isRefused l G b hole 1 K0 T  _ h) (cwV 1 hts (lw_V q777 q779 qs26 q118 q780) rfl rfl rfl cwx_X1_isRefused ⟨Nat.le_of_ble_eq_true rfl, Nat.le_of_ble_eq_true rfl⟩) (x_recv (CC := RX1) (ci := 0) hK hP (xs_0 hP) (by decide) (by decide) rfl (xE_8 (xs_0 hP))) hK hV hb0 hP hS rfl hl.1 rfl (Nat.le_of_ble_eq_true rfl) dX1_undo_13 ⟨by first | exact Nat.zero_le _ | (show _ + _ ≤ Z - kc K0; omega), by first | exact Nat.zero_le _ | (show _ + _ ≤ Y - ks K0; omega)⟩ (fun r_13 T1 K1 H locs h hle1 hc1 hs1 hP hS => ?_)
    obtain ⟨h, hKe⟩ := h
    rw [hKe] at hP
    generalize T1 = T_14 at h hP
    refine lv_if_eq (tgt := 21) hx hb dX1_undo_16 (by decide) (fun c_16 => ?_) (fun c_16 => ?_)
    · have h := h.1 c_16
      exact J21 _ _ _ _ _ _ _ h hle0 hcn hsn hzz hyy hP hS (lv_sub hl [0] rfl)
    · have h := h.2 c_16
      refine lv_iconst (v := 0) hx hb dX1_undo_19 (by decide) ?_
      refine W.widen (k := Z - kc K0) (n := Y - ks K0) (by omega) (by omega) ?_
      exact W.zret (v := 0) hx hb hr rfl (fun t ht hW => ⟨⟨0, T_14, (kset K0 Z Y), rfl, h, hle0, (by show Z = _; omega), (by show Y = _; omega), by rw [ht]; exact hP, va_K.moved hW.alike hK⟩, hS.F ht⟩) hS.2.2 dX1_undo_20
  · have h := h.2 c_21
    refine lv_iconst (v := 0) hx hb dX1_undo_8 (by decide) ?_
    refine lv_goto (tgt := 13) hx hb dX1_undo_9 (by decide) ?_
    refine x_cV (k := 0) (As := [.int 0]) (rest := []) ⟨hx, hb, hml, hown, hts⟩ (mx1_isRefused l G b hole 0 K0 T  _ h) (cwV 1 hts (lw_V q777 q779 qs26 q118 q780) rfl rfl rfl cwx_X1_isRefused ⟨Nat.le_of_ble_eq_true rfl, Nat.le_of_ble_eq_true rfl⟩) (x_recv (CC := RX1) (ci := 0) hK hP (xs_0 hP) (by decide) (by decide) rfl (xE_8 (xs_0 hP))) hK hV hb0 hP hS rfl hl.1 rfl (Nat.le_of_ble_eq_true rfl) dX1_undo_13 ⟨by first | exact Nat.zero_le _ | (show _ + _ ≤ Z - kc K0; omega), by first | exact Nat.zero_le _ | (show _ + _ ≤ Y - ks K0; omega)⟩ (fun r_17 T1 K1 H locs h hle1 hc1 hs1 hP hS => ?_)
    obtain ⟨h, hKe⟩ := h
    rw [hKe] at hP
    generalize T1 = T_18 at h hP
    refine lv_if_eq (tgt := 21) hx hb dX1_undo_16 (by decide) (fun c_20 => ?_) (fun c_20 => ?_)
    · have h := h.1 c_20
      exact J21 _ _ _ _ _ _ _ h hle0 hcn hsn hzz hyy hP hS (lv_sub hl [0] rfl)
    · have h := h.2 c_20
      refine lv_iconst (v := 0) hx hb dX1_undo_19 (by decide) ?_
      refine W.widen (k := Z - kc K0) (n := Y - ks K0) (by omega) (by omega) ?_
      exact W.zret (v := 0) hx hb hr rfl (fun t ht hW => ⟨⟨0, T_18, (kset K0 Z Y), rfl, h, hle0, (by show Z = _; omega), (by show Y = _; omega), by rw [ht]; exact hP, va_K.moved hW.alike hK⟩, hS.F ht⟩) hS.2.2 dX1_undo_20
theorem cwx_X1_size : yX1_size.cls = RX1 ∧ yX1_size.cls ≠ "java/lang/invoke/MethodHandle" ∧ yX1_size.cls ≠ "java/lang/invoke/VarHandle" ∧ (parseMethodDescriptor yX1_size.desc).map (fun d => d.parameters.length) = some 1 := by decide +kernel
def wx1_size_b14 (p1 : Int32) (post : Int32 → Prop) (R14 : Int32 → Int32 → Prop) (x3 : Nat) (x4 : Int32) (x2 : Int32) (x5 : Int32) (K : XK) (T : XT) : Prop :=
      ((x4 ≤ x5 →
        ((¬ p1 = 0 →
          ((¬ p1 = 1 →
            ((¬ p1 = 2 →
              post (-1)) ∧
             (p1 = 2 →
              post x2))) ∧
           (p1 = 1 →
            post (xi T 0 22)))) ∧
         (p1 = 0 →
          post (xi T 0 16)))) ∧
       (¬ (x4 ≤ x5) →
        ∃ j_4 : Nat, j_4 < kl K x3 ∧ x5 = nI j_4 ∧ ∃ v_5 : Nat, xr T x3 j_4 = some v_5 ∧
        ∀ x2_6 : Int32, x2_6 = (x2 + (xi T v_5 2)) →
        ∀ x5_7 : Int32, x5_7 = x5 + 1 →
        R14 x2_6 x5_7))
def wx1_size_l14 (p1 : Int32) (post : Int32 → Prop) (x3 : Nat) (x4 : Int32) (x2 : Int32) (x5 : Int32) (K : XK) (T : XT) : Prop := wLoop (fun (R : ((Int32) × (Int32)) → Prop) (v : (Int32) × (Int32)) => wx1_size_b14 p1 post (fun x2 x5 => R (x2, x5)) x3 x4 v.1 v.2 K T) (x2, x5)
def wx1_size (p1 : Int32) (K : XK) (T : XT) (post : Int32 → Prop) : Prop :=
  ∃ v_9 : Nat, xr T 0 18 = some v_9 ∧
  ∀ x4_10 : Int32, x4_10 = (nI (kl K v_9)) →
  wx1_size_l14 p1 post v_9 x4_10 0 0 K T
set_option maxHeartbeats 4000000 in
theorem mx1_size (l : Launch) (G : XG) (b : Nat) (hole : Nat → Prop) (p1 : Int32) (K : XK) (T : XT)  (post : Int32 → Prop) (h : wx1_size p1 K T post) : Met l yX1_size (ws_ yX1_size cX1_size 7 (some .int)) ({ frames := 0, cells := 0, slots := 0, locals := 0 } : Room) (xPc G b hole [.ref (b + 0), .int p1] K T) (xQ G b hole K 0 0 (ρ := Int32) eI (fun r T1 K1 => post r ∧ T1 = T ∧ K1 = K)) 0 0 (xA b hole) := by
  refine Met.ofW (cc := cX1_size) (maxL := 7) (ret := (some .int)) (by decide) rfl ?_
  intro p e s m args below meth c s₁ B hml hv
  obtain ⟨rfl, hP, hK, hV⟩ := hv
  have hx := B.exec
  have hb := B.bytes
  have hr := B.returns
  have hts := atoms_spec (ws := ws_ yX1_size cX1_size 7 (some .int)) B.pre
  have hts : ∀ w ∈ lw_all, w.before _ s = true := fun w h => hts w (List.mem_cons_of_mem _ h)
  have hown : s.vm.findClass RX1 = some m.cls := findClass_of_methodNamed B.named
  have hlocks := B.notSynchronized
  have hb0 : b ≤ s.heap.size := by rw [hP.2.2.2]; exact Nat.le_add_right _ _
  have hS : va_S (xA b hole) s.heap s.heap [] := va_S.rf
  have hl := lv_entry ([.ref (b + 0), .int p1]) (n := 7) (Nat.le_of_ble_eq_true rfl)
  rw [lg_entry_eq]
  generalize (lg_sl ([.ref (b + 0), .int p1]) ++ List.replicate (7 - (lg_sl ([.ref (b + 0), .int p1])).length) Slot.unset).toArray = ls at hl ⊢
  have hl : lv_has ls 7 [(0, .ref (b + 0)), (1, .int p1)] := hl
  have L14 : ∀ (x3 : Nat) (x4 : Int32) (x2 : Int32) (x5 : Int32) (H : Heap) (locs : List Loc) (ls : Array Slot), wx1_size_l14 p1 post x3 x4 x2 x5 K T → (kd K x3 = 3) → xW G b hole K T H → va_S (xA b hole) s.heap H locs → lv_has ls 7 [(0, .ref (b + 0)), (1, .int p1), (2, .int x2), (3, .ref (b + x3)), (4, .int x4), (5, .int x5)] → W p l e (headSpec (ws_ yX1_size cX1_size 7 (some .int)) ({ frames := 0, cells := 0, slots := 0, locals := 0 } : Room)).room s m ([.ref (b + 0), .int p1] : List Value).toArray below meth c H locs 0 0 (MQ below (xQ G b hole K 0 0 (ρ := Int32) eI (fun r T1 K1 => post r ∧ T1 = T ∧ K1 = K)) ([.ref (b + 0), .int p1] : List Value).toArray s 0 0 (xA b hole)) (F0 m 14 ls []) := by
    intro x3 x4 x2 x5 H locs ls h hk_x3 hP hS hl
    obtain ⟨I14, n14, hI, hstep14⟩ := h
    induction n14 using Nat.strongRecOn generalizing x2 x5 H locs ls with
    | ind n14 ih14 =>
      have h : wx1_size_b14 p1 post (fun x2 x5 => ∃ mm, mm < n14 ∧ I14 mm (x2, x5)) x3 x4 x2 x5 K T := hstep14 n14 _ hI
      clear hI
      unfold wx1_size_b14 at h
      refine lv_iload hx hb dX1_size_14 (lv_at hl 5 rfl) ?_
      refine lv_iload hx hb dX1_size_16 (lv_at hl 4 rfl) ?_
      refine lv_icmp_ge (tgt := 41) hx hb dX1_size_18 (by decide) (fun c_8 => ?_) (fun c_8 => ?_)
      · have h := h.1 c_8
        refine lv_iload_n hx hb dX1_size_41 rfl (lv_at hl 1 rfl) ?_
        refine lv_if_ne (tgt := 52) hx hb dX1_size_42 (by decide) (fun c_3 => ?_) (fun c_3 => ?_)
        · have h := h.1 c_3
          refine lv_iload_n hx hb dX1_size_52 rfl (lv_at hl 1 rfl) ?_
          refine lv_iconst (v := 1) hx hb dX1_size_53 (by decide) ?_
          refine lv_icmp_ne (tgt := 64) hx hb dX1_size_54 (by decide) (fun c_2 => ?_) (fun c_2 => ?_)
          · have h := h.1 c_2
            refine lv_iload_n hx hb dX1_size_64 rfl (lv_at hl 1 rfl) ?_
            refine lv_iconst (v := 2) hx hb dX1_size_65 (by decide) ?_
            refine lv_icmp_ne (tgt := 73) hx hb dX1_size_66 (by decide) (fun c_1 => ?_) (fun c_1 => ?_)
            · have h := h.1 c_1
              refine lv_iconst (v := (-1)) hx hb dX1_size_73 (by decide) ?_
              exact W.iret (v := (-1)) hx hb hr (fun t ht hW => ⟨⟨(-1), T, K, rfl, ⟨h, rfl, rfl⟩, kle.rf, rfl, rfl, by rw [ht]; exact hP, va_K.moved hW.alike hK⟩, hS.F ht⟩) hS.2.2 dX1_size_74
            · have h := h.2 c_1
              refine lv_iload_n hx hb dX1_size_69 rfl (lv_at hl 2 rfl) ?_
              refine lv_goto (tgt := 74) hx hb dX1_size_70 (by decide) ?_
              exact W.iret (v := x2) hx hb hr (fun t ht hW => ⟨⟨x2, T, K, rfl, ⟨h, rfl, rfl⟩, kle.rf, rfl, rfl, by rw [ht]; exact hP, va_K.moved hW.alike hK⟩, hS.F ht⟩) hS.2.2 dX1_size_74
          · have h := h.2 c_2
            refine lv_aload_n hx hb dX1_size_57 rfl (lv_at hl 0 rfl) ?_
            refine x_get (CC := RX1) (TT := TX1) (N := 26) (ci := 0) (v := .int (xi T 0 22)) hx hb hts in_X1 hown hK hP (xs_0 hP) (by decide) (by decide) rfl (xE_8 (xs_0 hP)) 22 (by decide) q409 rfl rfl dX1_size_58 ?_
            refine lv_goto (tgt := 74) hx hb dX1_size_61 (by decide) ?_
            exact W.iret (v := (xi T 0 22)) hx hb hr (fun t ht hW => ⟨⟨(xi T 0 22), T, K, rfl, ⟨h, rfl, rfl⟩, kle.rf, rfl, rfl, by rw [ht]; exact hP, va_K.moved hW.alike hK⟩, hS.F ht⟩) hS.2.2 dX1_size_74
        · have h := h.2 c_3
          refine lv_aload_n hx hb dX1_size_45 rfl (lv_at hl 0 rfl) ?_
          refine x_get (CC := RX1) (TT := TX1) (N := 26) (ci := 0) (v := .int (xi T 0 16)) hx hb hts in_X1 hown hK hP (xs_0 hP) (by decide) (by decide) rfl (xE_8 (xs_0 hP)) 16 (by decide) q402 rfl rfl dX1_size_46 ?_
          refine lv_goto (tgt := 74) hx hb dX1_size_49 (by decide) ?_
          exact W.iret (v := (xi T 0 16)) hx hb hr (fun t ht hW => ⟨⟨(xi T 0 16), T, K, rfl, ⟨h, rfl, rfl⟩, kle.rf, rfl, rfl, by rw [ht]; exact hP, va_K.moved hW.alike hK⟩, hS.F ht⟩) hS.2.2 dX1_size_74
      · have h := h.2 c_8
        refine lv_aload_n hx hb dX1_size_21 rfl (lv_at hl 3 rfl) ?_
        refine lv_iload hx hb dX1_size_22 (lv_at hl 5 rfl) ?_
        obtain ⟨j_4, hj_4, ej_4, v_5, ev_5, h⟩ := h
        refine x_aald3 hx hb hK hP hk_x3 ej_4 hj_4 dX1_size_24 ?_
        refine x_some ev_5 ?_
        have hk_v_5 : kd K v_5 = 2 := hP.ty hk_x3 (by decide) ev_5
        refine lv_astore (lv' := [(6, .ref (b + v_5)), (0, .ref (b + 0)), (1, .int p1), (2, .int x2), (3, .ref (b + x3)), (4, .int x4), (5, .int x5)]) hx hb dX1_size_25 hl (by decide) rfl (fun ls hl => ?_)
        refine lv_iload_n hx hb dX1_size_27 rfl (lv_at hl 3 rfl) ?_
        refine lv_aload hx hb dX1_size_28 (lv_at hl 0 rfl) ?_
        refine x_get (CC := RX6) (TT := TX6) (N := 3) (ci := 5) (v := .int (xi T v_5 2)) hx hb hts in_X6 hown hK hP hk_v_5 (by decide) (by decide) rfl (xE_2 hk_v_5) 2 (by decide) q372 rfl rfl dX1_size_30 ?_
        refine lv_iadd hx hb dX1_size_33 ?_
        refine lv_topi (fun x2_6 ex2_6 => ?_)
        have h := h x2_6 ex2_6
        refine lv_istore_n (lv' := [(2, .int x2_6), (6, .ref (b + v_5)), (0, .ref (b + 0)), (1, .int p1), (3, .ref (b + x3)), (4, .int x4), (5, .int x5)]) hx hb dX1_size_34 rfl hl (by decide) rfl (fun ls hl => ?_)
        obtain ⟨x5_7, ex5_7⟩ : ∃ y : Int32, y = x5 + 1 := ⟨_, rfl⟩
        have h := h x5_7 ex5_7
        refine lv_iinc (v := x5_7) (lv' := [(5, .int x5_7), (2, .int x2_6), (6, .ref (b + v_5)), (0, .ref (b + 0)), (1, .int p1), (3, .ref (b + x3)), (4, .int x4)]) hx hb dX1_size_35 hl (k := 6) rfl (by rw [ex5_7]; rfl) (by decide) rfl (fun ls hl => ?_)
        refine lv_goto (tgt := 14) hx hb dX1_size_38 (by decide) ?_
        obtain ⟨mm, hmm, h⟩ := h
        exact ih14 mm hmm _ _ _ _ _  hP hS (lv_sub hl [3, 4, 1, 5, 6, 0] rfl) h
  unfold wx1_size at h
  refine lv_iconst (v := 0) hx hb dX1_size_0 (by decide) ?_
  refine lv_istore_n (lv' := [(2, .int 0), (0, .ref (b + 0)), (1, .int p1)]) hx hb dX1_size_1 rfl hl (by decide) rfl (fun ls hl => ?_)
  refine lv_aload_n hx hb dX1_size_2 rfl (lv_at hl 1 rfl) ?_
  obtain ⟨v_9, ev_9, h⟩ := h
  refine x_get (CC := RX1) (TT := TX1) (N := 26) (ci := 0) (v := rfv b (xr T 0 18)) hx hb hts in_X1 hown hK hP (xs_0 hP) (by decide) (by decide) rfl (xE_8 (xs_0 hP)) 18 (by decide) q405 rfl rfl dX1_size_3 ?_
  refine x_some ev_9 ?_
  have hk_v_9 : kd K v_9 = 3 := hP.ty (xs_0 hP) (by decide) ev_9
  refine lv_astore_n (lv' := [(3, .ref (b + v_9)), (2, .int 0), (0, .ref (b + 0)), (1, .int p1)]) hx hb dX1_size_6 rfl hl (by decide) rfl (fun ls hl => ?_)
  refine lv_aload_n hx hb dX1_size_7 rfl (lv_at hl 0 rfl) ?_
  refine x_alen3 hx hb hK hP hk_v_9 dX1_size_8 ?_
  refine lv_topi (fun x4_10 ex4_10 => ?_)
  have h := h x4_10 ex4_10
  refine lv_istore (lv' := [(4, .int x4_10), (3, .ref (b + v_9)), (2, .int 0), (0, .ref (b + 0)), (1, .int p1)]) hx hb dX1_size_9 hl (by decide) rfl (fun ls hl => ?_)
  refine lv_iconst (v := 0) hx hb dX1_size_11 (by decide) ?_
  refine lv_istore (lv' := [(5, .int 0), (4, .int x4_10), (3, .ref (b + v_9)), (2, .int 0), (0, .ref (b + 0)), (1, .int p1)]) hx hb dX1_size_12 hl (by decide) rfl (fun ls hl => ?_)
  exact L14 _ _ _ _ _ _ _ h hk_v_9 hP hS (lv_sub hl [4, 5, 3, 2, 1, 0] rfl)
theorem cwx_X1_trouble : yX1_trouble.cls = RX1 ∧ yX1_trouble.cls ≠ "java/lang/invoke/MethodHandle" ∧ yX1_trouble.cls ≠ "java/lang/invoke/VarHandle" ∧ (parseMethodDescriptor yX1_trouble.desc).map (fun d => d.parameters.length) = some 0 := by decide +kernel
def wx1_trouble  (K : XK) (T : XT) (post : Int32 → Prop) : Prop :=
  post (xi T 0 23)
set_option maxHeartbeats 4000000 in
theorem mx1_trouble (l : Launch) (G : XG) (b : Nat) (hole : Nat → Prop)  (K : XK) (T : XT)  (post : Int32 → Prop) (h : wx1_trouble  K T post) : Met l yX1_trouble (ws_ yX1_trouble cX1_trouble 1 (some .int)) ({ frames := 0, cells := 0, slots := 0, locals := 0 } : Room) (xPc G b hole [.ref (b + 0)] K T) (xQ G b hole K 0 0 (ρ := Int32) eI (fun r T1 K1 => post r ∧ T1 = T ∧ K1 = K)) 0 0 (xA b hole) := by
  refine Met.ofW (cc := cX1_trouble) (maxL := 1) (ret := (some .int)) (by decide) rfl ?_
  intro p e s m args below meth c s₁ B hml hv
  obtain ⟨rfl, hP, hK, hV⟩ := hv
  have hx := B.exec
  have hb := B.bytes
  have hr := B.returns
  have hts := atoms_spec (ws := ws_ yX1_trouble cX1_trouble 1 (some .int)) B.pre
  have hts : ∀ w ∈ lw_all, w.before _ s = true := fun w h => hts w (List.mem_cons_of_mem _ h)
  have hown : s.vm.findClass RX1 = some m.cls := findClass_of_methodNamed B.named
  have hlocks := B.notSynchronized
  have hb0 : b ≤ s.heap.size := by rw [hP.2.2.2]; exact Nat.le_add_right _ _
  have hS : va_S (xA b hole) s.heap s.heap [] := va_S.rf
  have hl := lv_entry ([.ref (b + 0)]) (n := 1) (Nat.le_of_ble_eq_true rfl)
  rw [lg_entry_eq]
  generalize (lg_sl ([.ref (b + 0)]) ++ List.replicate (1 - (lg_sl ([.ref (b + 0)])).length) Slot.unset).toArray = ls at hl ⊢
  have hl : lv_has ls 1 [(0, .ref (b + 0))] := hl
  unfold wx1_trouble at h
  refine lv_aload_n hx hb dX1_trouble_0 rfl (lv_at hl 0 rfl) ?_
  refine x_get (CC := RX1) (TT := TX1) (N := 26) (ci := 0) (v := .int (xi T 0 23)) hx hb hts in_X1 hown hK hP (xs_0 hP) (by decide) (by decide) rfl (xE_8 (xs_0 hP)) 23 (by decide) q410 rfl rfl dX1_trouble_1 ?_
  exact W.iret (v := (xi T 0 23)) hx hb hr (fun t ht hW => ⟨⟨(xi T 0 23), T, K, rfl, ⟨h, rfl, rfl⟩, kle.rf, rfl, rfl, by rw [ht]; exact hP, va_K.moved hW.alike hK⟩, hS.F ht⟩) hS.2.2 dX1_trouble_4
theorem cwx_X4_see : yX4_see.cls = RX4 ∧ yX4_see.cls ≠ "java/lang/invoke/MethodHandle" ∧ yX4_see.cls ≠ "java/lang/invoke/VarHandle" ∧ (parseMethodDescriptor yX4_see.desc).map (fun d => d.parameters.length) = some 1 := by decide +kernel
def wx4_see (p1 : Int32) (K : XK) (T : XT) (post : Int32 → Prop) : Prop :=
  (((xi T 80 6) ≤ p1 →
    post (-1)) ∧
   (¬ ((xi T 80 6) ≤ p1) →
    ∃ j_1 : Nat, j_1 < 700 ∧ p1 = nI j_1 ∧
    post ((xi T 79 j_1) &&& 255)))
set_option maxHeartbeats 4000000 in
theorem mx4_see (l : Launch) (G : XG) (b : Nat) (hole : Nat → Prop) (p1 : Int32) (K : XK) (T : XT)  (post : Int32 → Prop) (h : wx4_see p1 K T post) : Met l yX4_see (ws_ yX4_see cX4_see 2 (some .int)) ({ frames := 0, cells := 0, slots := 0, locals := 0 } : Room) (xPc G b hole [.ref (b + 80), .int p1] K T) (xQ G b hole K 0 0 (ρ := Int32) eI (fun r T1 K1 => post r ∧ T1 = T ∧ K1 = K)) 0 0 (xA b hole) := by
  refine Met.ofW (cc := cX4_see) (maxL := 2) (ret := (some .int)) (by decide) rfl ?_
  intro p e s m args below meth c s₁ B hml hv
  obtain ⟨rfl, hP, hK, hV⟩ := hv
  have hx := B.exec
  have hb := B.bytes
  have hr := B.returns
  have hts := atoms_spec (ws := ws_ yX4_see cX4_see 2 (some .int)) B.pre
  have hts : ∀ w ∈ lw_all, w.before _ s = true := fun w h => hts w (List.mem_cons_of_mem _ h)
  have hown : s.vm.findClass RX4 = some m.cls := findClass_of_methodNamed B.named
  have hlocks := B.notSynchronized
  have hb0 : b ≤ s.heap.size := by rw [hP.2.2.2]; exact Nat.le_add_right _ _
  have hS : va_S (xA b hole) s.heap s.heap [] := va_S.rf
  have hl := lv_entry ([.ref (b + 80), .int p1]) (n := 2) (Nat.le_of_ble_eq_true rfl)
  rw [lg_entry_eq]
  generalize (lg_sl ([.ref (b + 80), .int p1]) ++ List.replicate (2 - (lg_sl ([.ref (b + 80), .int p1])).length) Slot.unset).toArray = ls at hl ⊢
  have hl : lv_has ls 2 [(0, .ref (b + 80)), (1, .int p1)] := hl
  unfold wx4_see at h
  refine lv_iload_n hx hb dX4_see_0 rfl (lv_at hl 1 rfl) ?_
  refine lv_aload_n hx hb dX4_see_1 rfl (lv_at hl 0 rfl) ?_
  refine x_get (CC := RX4) (TT := TX4) (N := 17) (ci := 3) (v := .int (xi T 80 6)) hx hb hts in_X4 hown hK hP (xs_80 hP) (by decide) (by decide) rfl (xE_11 (xs_80 hP)) 6 (by decide) q302 rfl rfl dX4_see_2 ?_
  refine lv_icmp_ge (tgt := 24) hx hb dX4_see_5 (by decide) (fun c_2 => ?_) (fun c_2 => ?_)
  · have h := h.1 c_2
    refine lv_iconst (v := (-1)) hx hb dX4_see_24 (by decide) ?_
    exact W.iret (v := (-1)) hx hb hr (fun t ht hW => ⟨⟨(-1), T, K, rfl, ⟨h, rfl, rfl⟩, kle.rf, rfl, rfl, by rw [ht]; exact hP, va_K.moved hW.alike hK⟩, hS.F ht⟩) hS.2.2 dX4_see_25
  · have h := h.2 c_2
    refine lv_aload_n hx hb dX4_see_8 rfl (lv_at hl 0 rfl) ?_
    refine x_get (CC := RX4) (TT := TX4) (N := 17) (ci := 3) (v := .ref (b + 0)) hx hb hts in_X4 hown hK hP (xs_80 hP) (by decide) (by decide) rfl (xE_11 (xs_80 hP)) 16 (by decide) q315 rfl rfl dX4_see_9 ?_
    refine x_getN (CC := RX1) (TT := TX1) (N := 26) (ci := 0) (v := .ref (b + 79)) hx hb hts in_X1 hown hK hV.1 hP (xs_0 hP) (by decide) (by decide) rfl (xE_8 (xs_0 hP)) 15 (by decide) q400 rfl rfl dX4_see_12 ?_
    refine lv_iload_n hx hb dX4_see_15 rfl (lv_at hl 1 rfl) ?_
    obtain ⟨j_1, hj_1, ej_1, h⟩ := h
    refine x_bald hx hb hK hP (xs_79 hP) ej_1 (by rw [xl_79 hP]; exact hj_1) dX4_see_16 ?_
    refine lv_sipush (v := 255) hx hb dX4_see_17 (by decide) ?_
    refine lv_iand hx hb dX4_see_20 ?_
    refine lv_goto (tgt := 25) hx hb dX4_see_21 (by decide) ?_
    exact W.iret (v := ((xi T 79 j_1) &&& 255)) hx hb hr (fun t ht hW => ⟨⟨((xi T 79 j_1) &&& 255), T, K, rfl, ⟨h, rfl, rfl⟩, kle.rf, rfl, rfl, by rw [ht]; exact hP, va_K.moved hW.alike hK⟩, hS.F ht⟩) hS.2.2 dX4_see_25
theorem cwx_X4_isSmall : yX4_isSmall.cls = RX4 ∧ yX4_isSmall.cls ≠ "java/lang/invoke/MethodHandle" ∧ yX4_isSmall.cls ≠ "java/lang/invoke/VarHandle" ∧ (parseMethodDescriptor yX4_isSmall.desc).map (fun d => d.parameters.length) = some 1 := by decide +kernel
def wx4_isSmall (p1 : Int32) (K : XK) (T : XT) (post : Int32 → Prop) : Prop :=
  wx1_in p1 97 122 K T (fun r_1 =>
  r_1 &&& 1 = r_1 ∧ post r_1)
set_option maxHeartbeats 4000000 in
theorem mx4_isSmall (l : Launch) (G : XG) (b : Nat) (hole : Nat → Prop) (p1 : Int32) (K : XK) (T : XT)  (post : Int32 → Prop) (h : wx4_isSmall p1 K T post) : Met l yX4_isSmall (ws_ yX4_isSmall cX4_isSmall 2 (some .boolean)) ({ frames := 1, cells := 0, slots := 0, locals := 22 } : Room) (xPc G b hole [.ref (b + 80), .int p1] K T) (xQ G b hole K 0 0 (ρ := Int32) eI (fun r T1 K1 => post r ∧ T1 = T ∧ K1 = K)) 0 0 (xA b hole) := by
  refine Met.ofW (cc := cX4_isSmall) (maxL := 2) (ret := (some .boolean)) (by decide) rfl ?_
  intro p e s m args below meth c s₁ B hml hv
  obtain ⟨rfl, hP, hK, hV⟩ := hv
  have hx := B.exec
  have hb := B.bytes
  have hr := B.returns
  have hts := atoms_spec (ws := ws_ yX4_isSmall cX4_isSmall 2 (some .boolean)) B.pre
  have hts : ∀ w ∈ lw_all, w.before _ s = true := fun w h => hts w (List.mem_cons_of_mem _ h)
  have hown : s.vm.findClass RX4 = some m.cls := findClass_of_methodNamed B.named
  have hlocks := B.notSynchronized
  have hb0 : b ≤ s.heap.size := by rw [hP.2.2.2]; exact Nat.le_add_right _ _
  have hS : va_S (xA b hole) s.heap s.heap [] := va_S.rf
  have hl := lv_entry ([.ref (b + 80), .int p1]) (n := 2) (Nat.le_of_ble_eq_true rfl)
  rw [lg_entry_eq]
  generalize (lg_sl ([.ref (b + 80), .int p1]) ++ List.replicate (2 - (lg_sl ([.ref (b + 80), .int p1])).length) Slot.unset).toArray = ls at hl ⊢
  have hl : lv_has ls 2 [(0, .ref (b + 80)), (1, .int p1)] := hl
  unfold wx4_isSmall at h
  refine lv_iload_n hx hb dX4_isSmall_0 rfl (lv_at hl 1 rfl) ?_
  refine lv_bipush (v := 97) hx hb dX4_isSmall_1 (by decide) ?_
  refine lv_bipush (v := 122) hx hb dX4_isSmall_3 (by decide) ?_
  refine x_cSN (host := "TermDesk") (As := [.int p1, .int 97, .int 122]) (rest := []) ⟨hx, hb, hml, hown, hts⟩ (mx1_in l G b hole p1 97 122 K T  _ h) ⟨va_cnB 3 hts (lw_meth q485) rfl rfl rfl (hV.1.2.1 _ _ _ _ q506) (hts _ q118) cwx_X1_in ⟨Nat.le_of_ble_eq_true rfl, Nat.le_of_ble_eq_true rfl⟩, hts _ q484, trivial⟩ hK hV hb0 hP hS rfl hl.1 rfl (Nat.le_of_ble_eq_true rfl) dX4_isSmall_5 ⟨by first | exact Nat.zero_le _ | (show _ + _ ≤ Z - kc K0; omega), by first | exact Nat.zero_le _ | (show _ + _ ≤ Y - ks K0; omega)⟩ (fun r_1 T1 K1 H locs h hle1 hc1 hs1 hP hS => ?_)
  obtain ⟨h, hTe, hKe⟩ := h
  rw [hTe, hKe] at hP
  obtain ⟨hz9, h⟩ := h
  exact W.zret (v := r_1) hx hb hr (congrArg Value.int hz9) (fun t ht hW => ⟨⟨r_1, T, K, rfl, ⟨h, rfl, rfl⟩, kle.rf, rfl, rfl, by rw [ht]; exact hP, va_K.moved hW.alike hK⟩, hS.F ht⟩) hS.2.2 dX4_isSmall_8
theorem cwx_X4_isDigit : yX4_isDigit.cls = RX4 ∧ yX4_isDigit.cls ≠ "java/lang/invoke/MethodHandle" ∧ yX4_isDigit.cls ≠ "java/lang/invoke/VarHandle" ∧ (parseMethodDescriptor yX4_isDigit.desc).map (fun d => d.parameters.length) = some 1 := by decide +kernel
def wx4_isDigit (p1 : Int32) (K : XK) (T : XT) (post : Int32 → Prop) : Prop :=
  wx1_in p1 48 57 K T (fun r_1 =>
  r_1 &&& 1 = r_1 ∧ post r_1)
set_option maxHeartbeats 4000000 in
theorem mx4_isDigit (l : Launch) (G : XG) (b : Nat) (hole : Nat → Prop) (p1 : Int32) (K : XK) (T : XT)  (post : Int32 → Prop) (h : wx4_isDigit p1 K T post) : Met l yX4_isDigit (ws_ yX4_isDigit cX4_isDigit 2 (some .boolean)) ({ frames := 1, cells := 0, slots := 0, locals := 22 } : Room) (xPc G b hole [.ref (b + 80), .int p1] K T) (xQ G b hole K 0 0 (ρ := Int32) eI (fun r T1 K1 => post r ∧ T1 = T ∧ K1 = K)) 0 0 (xA b hole) := by
  refine Met.ofW (cc := cX4_isDigit) (maxL := 2) (ret := (some .boolean)) (by decide) rfl ?_
  intro p e s m args below meth c s₁ B hml hv
  obtain ⟨rfl, hP, hK, hV⟩ := hv
  have hx := B.exec
  have hb := B.bytes
  have hr := B.returns
  have hts := atoms_spec (ws := ws_ yX4_isDigit cX4_isDigit 2 (some .boolean)) B.pre
  have hts : ∀ w ∈ lw_all, w.before _ s = true := fun w h => hts w (List.mem_cons_of_mem _ h)
  have hown : s.vm.findClass RX4 = some m.cls := findClass_of_methodNamed B.named
  have hlocks := B.notSynchronized
  have hb0 : b ≤ s.heap.size := by rw [hP.2.2.2]; exact Nat.le_add_right _ _
  have hS : va_S (xA b hole) s.heap s.heap [] := va_S.rf
  have hl := lv_entry ([.ref (b + 80), .int p1]) (n := 2) (Nat.le_of_ble_eq_true rfl)
  rw [lg_entry_eq]
  generalize (lg_sl ([.ref (b + 80), .int p1]) ++ List.replicate (2 - (lg_sl ([.ref (b + 80), .int p1])).length) Slot.unset).toArray = ls at hl ⊢
  have hl : lv_has ls 2 [(0, .ref (b + 80)), (1, .int p1)] := hl
  unfold wx4_isDigit at h
  refine lv_iload_n hx hb dX4_isDigit_0 rfl (lv_at hl 1 rfl) ?_
  refine lv_bipush (v := 48) hx hb dX4_isDigit_1 (by decide) ?_
  refine lv_bipush (v := 57) hx hb dX4_isDigit_3 (by decide) ?_
  refine x_cSN (host := "TermDesk") (As := [.int p1, .int 48, .int 57]) (rest := []) ⟨hx, hb, hml, hown, hts⟩ (mx1_in l G b hole p1 48 57 K T  _ h) ⟨va_cnB 3 hts (lw_meth q485) rfl rfl rfl (hV.1.2.1 _ _ _ _ q506) (hts _ q118) cwx_X1_in ⟨Nat.le_of_ble_eq_true rfl, Nat.le_of_ble_eq_true rfl⟩, hts _ q484, trivial⟩ hK hV hb0 hP hS rfl hl.1 rfl (Nat.le_of_ble_eq_true rfl) dX4_isDigit_5 ⟨by first | exact Nat.zero_le _ | (show _ + _ ≤ Z - kc K0; omega), by first | exact Nat.zero_le _ | (show _ + _ ≤ Y - ks K0; omega)⟩ (fun r_1 T1 K1 H locs h hle1 hc1 hs1 hP hS => ?_)
  obtain ⟨h, hTe, hKe⟩ := h
  rw [hTe, hKe] at hP
  obtain ⟨hz9, h⟩ := h
  exact W.zret (v := r_1) hx hb hr (congrArg Value.int hz9) (fun t ht hW => ⟨⟨r_1, T, K, rfl, ⟨h, rfl, rfl⟩, kle.rf, rfl, rfl, by rw [ht]; exact hP, va_K.moved hW.alike hK⟩, hS.F ht⟩) hS.2.2 dX4_isDigit_8
