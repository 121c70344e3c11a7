set_option maxRecDepth 100000
/-- lays([I[I)V -/
def w4_lays (x0 : Nat) (x1 : Nat) (F : mF) (A : mA) (Q : mA → Prop) : Prop :=
  lq2 (fun (x2_2 : Int) (A_2 : mA) (k_2 : Int → mA → Prop) =>
    cLt x2_2 354
      (
      ib x2_2 (mlen x1) ∧
      ib x2_2 (mlen x0) ∧ ∀ A2 : mA, A2 = uA A_2 x0 x2_2 (A_2 x1 x2_2) →
      k_2 (x2_2 + 1) A2)
      (
      Q A_2)) 0 A
theorem hd_X4_lays : yX4_lays.cls ≠ "java/lang/invoke/MethodHandle" ∧ yX4_lays.cls ≠ "java/lang/invoke/VarHandle" ∧ (parseMethodDescriptor yX4_lays.desc).map (fun d => d.parameters.length) = some 2 := by decide +kernel
set_option maxHeartbeats 4000000 in
theorem t4_lays (M : MT) (hM : OkM M) (z : Nat) {x0 : Nat} {x1 : Nat} {F : mF} {A : mA} {Q : mA → Prop} (hx0 : mIs x0 = true) (hx1 : mIs x1 = true) (hw : w4_lays x0 x1 F A Q) : CtM M z yX4_lays cX4_lays 3 none (k2_rm 0 0) [aR (some (adM M x0)), aR (some (adM M x1))] F A (PMvA M z F Q) := by
  refine Ct.intro (by decide) (Nat.le_of_ble_eq_true rfl) (fun E hE hR hT => ?_)
  have hT : TM E M := hT
  have hE : OkE E RX4 cX4_lays 3 none := hE
  show G E (wsM M F A) (some z) 0 0 0 [some (aR (some (adM M x0))), some (aR (some (adM M x1))), none] []
  unfold w4_lays at hw
  refine g_iconst hE dX4_lays_0 ?_
  refine g_istn2 hE dX4_lays_1 (by decide) rfl ?_
  refine lq2_walk (fun (x2_2 : Int) (A_2 : mA) => G E (wsM M F A_2) (some z) 0 0 2 [some (aR (some (adM M x0))), some (aR (some (adM M x1))), some (aI x2_2)] []) (fun k_2 hk_2 x2_2 A_2 hw => ?_) _ _ hw
  refine g_ildn2 hE dX4_lays_2 ?_
  refine g_sipush hE dX4_lays_3 (by decide) ?_
  obtain ⟨h4, h5, hT6, hN7⟩ := hw
  refine g_icmp_ge hE (tgt := 21) dX4_lays_6 (by decide) h4 h5 (fun q => ?_) (fun q => ?_)
  · have hw := hT6 q
    refine g_aldn0 hE dX4_lays_9 ?_
    refine g_ildn2 hE dX4_lays_10 ?_
    refine g_aldn1 hE dX4_lays_11 ?_
    refine g_ildn2 hE dX4_lays_12 ?_
    obtain ⟨h1, hw⟩ := hw
    refine gm_iald hE hM hT x1 hx1 h1 dX4_lays_13 ?_
    obtain ⟨h3, hw⟩ := hw
    refine gm_iast hE hM hT x0 hx0 h3 dX4_lays_14 ?_
    have hw := hw _ rfl
    generalize uA A_2 x0 x2_2 (A_2 x1 x2_2) = A2 at hw ⊢
    refine g_iinc2 hE dX4_lays_15 (by decide) rfl ?_
    refine g_goto hE (tgt := 2) dX4_lays_18 (by decide) ?_
    exact hk_2 _ _ hw
  · have hw := hN7 q
    exact g_vret hE hR dX4_lays_21 (Nat.le_refl 0) (Nat.le_refl 0) ⟨_, rfl, rfl, rfl, hw⟩

/-- begins()V -/
def w4_begins  (F : mF) (A : mA) (Q : mA → Prop) : Prop :=
  w4_lays 1 0 F A (fun (A1 : mA) =>
  Q A1)
theorem hd_X4_begins : yX4_begins.cls = RX4 ∧ yX4_begins.cls ≠ "java/lang/invoke/MethodHandle" ∧ yX4_begins.cls ≠ "java/lang/invoke/VarHandle" ∧ (parseMethodDescriptor yX4_begins.desc).map (fun d => d.parameters.length) = some 0 := by decide +kernel
set_option maxHeartbeats 4000000 in
theorem t4_begins (M : MT) (hM : OkM M) (z : Nat)  {F : mF} {A : mA} {Q : mA → Prop} (hw : w4_begins F A Q) : CtM M z yX4_begins cX4_begins 1 none (k2_rm 1 22) [aR (some (oM M))] F A (PMvA M z F Q) := by
  refine Ct.intro (by decide) (Nat.le_of_ble_eq_true rfl) (fun E hE hR hT => ?_)
  have hT : TM E M := hT
  have hE : OkE E RX4 cX4_begins 1 none := hE
  show G E (wsM M F A) (some z) 0 0 0 [some (aR (some (oM M)))] []
  unfold w4_begins at hw
  refine g_aldn0 hE dX4_begins_0 ?_
  refine gm_geta hE hM hT 1 (by decide) rfl q2141 dX4_begins_1 ?_
  refine g_aldn0 hE dX4_begins_4 ?_
  refine gm_geta hE hM hT 0 (by decide) rfl q2140 dX4_begins_5 ?_
  refine gm_cSvA hE hR hM hT (As := [aR (some (adM M 1)), aR (some (adM M 0))]) (t4_lays M hM z rfl rfl hw) (lw_S q2251 q2252 q108 q2253) hd_X4_lays ⟨by decide, by decide⟩ rfl (Nat.le_of_ble_eq_true rfl) dX4_begins_8 rfl (fun A1 hw => ?_)
  exact g_vret hE hR dX4_begins_11 (Nat.le_refl 0) (Nat.le_refl 0) ⟨_, rfl, rfl, rfl, hw⟩

/-- isIn(III)Z -/
def w4_isIn (x0 : Int) (x1 : Int) (x2 : Int) (Q : Int → Prop) : Prop :=
  jn1 (fun (y0_15 : Int) => 
      bl y0_15 ∧ Q y0_15)
    (fun (j_15 : Int → Prop) =>
    jn0 (
        j_15 0)
      (fun (j_14 : Prop) =>
      cLt x0 x1
        (
        j_14)
        (
        cLt x2 x0
          (
          j_14)
          (
          j_15 1))))
theorem hd_X4_isIn : yX4_isIn.cls ≠ "java/lang/invoke/MethodHandle" ∧ yX4_isIn.cls ≠ "java/lang/invoke/VarHandle" ∧ (parseMethodDescriptor yX4_isIn.desc).map (fun d => d.parameters.length) = some 3 := by decide +kernel
set_option maxHeartbeats 4000000 in
theorem t4_isIn (M : MT) (hM : OkM M) (z : Nat) {x0 : Int} {x1 : Int} {x2 : Int} {F : mF} {A : mA} {Q : Int → Prop} (hw : w4_isIn x0 x1 x2 Q) : CtM M z yX4_isIn cX4_isIn 3 (some .boolean) (k2_rm 0 0) [aI x0, aI x1, aI x2] F A (PMi M z F A Q) := by
  refine Ct.intro (by decide) (Nat.le_of_ble_eq_true rfl) (fun E hE hR hT => ?_)
  have hT : TM E M := hT
  have hE : OkE E RX4 cX4_isIn 3 (some .boolean) := hE
  show G E (wsM M F A) (some z) 0 0 0 [some (aI x0), some (aI x1), some (aI x2)] []
  unfold w4_isIn at hw
  refine g_ildn0 hE dX4_isIn_0 ?_
  refine g_ildn1 hE dX4_isIn_1 ?_
  refine jn1_walk (fun (y0_15 : Int) => G E (wsM M F A) (some z) 0 0 15 [some (aI x0), some (aI x1), some (aI x2)] [aI y0_15]) hw (fun y0_15 hw => ?_) (fun j_15 hj_15 hw => ?_)
  · skip
    obtain ⟨h1, hw⟩ := hw
    exact g_iret hE hR dX4_isIn_15 (Nat.le_refl 0) (Nat.le_refl 0) (narrow_bl h1) ⟨_, rfl, rfl, rfl, hw⟩
  · skip
    refine jn0_walk (G E (wsM M F A) (some z) 0 0 14 [some (aI x0), some (aI x1), some (aI x2)] []) hw (fun  hw => ?_) (fun j_14 hj_14 hw => ?_)
    · skip
      refine g_iconst hE dX4_isIn_14 ?_
      exact hj_15 _ hw
    · skip
      obtain ⟨h6, h7, hT8, hN9⟩ := hw
      refine g_icmp_lt hE (tgt := 14) dX4_isIn_2 (by decide) h6 h7 (fun q => ?_) (fun q => ?_)
      · have hw := hT8 q
        exact hj_14  hw
      · have hw := hN9 q
        refine g_ildn0 hE dX4_isIn_5 ?_
        refine g_ildn2 hE dX4_isIn_6 ?_
        obtain ⟨h2, h3, hT4, hN5⟩ := hw
        refine g_icmp_gt hE (tgt := 14) dX4_isIn_7 (by decide) h3 h2 (fun q => ?_) (fun q => ?_)
        · have hw := hT4 q
          exact hj_14  hw
        · have hw := hN5 q
          refine g_iconst hE dX4_isIn_10 ?_
          refine g_goto hE (tgt := 15) dX4_isIn_11 (by decide) ?_
          exact hj_15 _ hw

theorem s4_isIn {x0 x1 x2 : Int} (h0 : inR x0) (h1 : inR x1) (h2 : inR x2) : w4_isIn x0 x1 x2 (fun r => r = bI (x1 ≤ x0 ∧ x0 ≤ x2)) := by
  unfold w4_isIn jn1 cLt bI
  refine ⟨h0, h1, fun q => ?_, fun q => ⟨h2, h0, fun q2 => ?_, fun q2 => ?_⟩⟩
  · exact ⟨Or.inl rfl, by rw [if_neg (by omega)]⟩
  · exact ⟨Or.inl rfl, by rw [if_neg (by omega)]⟩
  · exact ⟨Or.inr rfl, by rw [if_pos (by omega)]⟩
/-- isCell(I)Z -/
def w4_isCell (x0 : Int) (Q : Int → Prop) : Prop :=
  inR x0 ∧
  Q (bI (0 ≤ x0 ∧ x0 ≤ 191))
theorem hd_X4_isCell : yX4_isCell.cls ≠ "java/lang/invoke/MethodHandle" ∧ yX4_isCell.cls ≠ "java/lang/invoke/VarHandle" ∧ (parseMethodDescriptor yX4_isCell.desc).map (fun d => d.parameters.length) = some 1 := by decide +kernel
set_option maxHeartbeats 4000000 in
theorem t4_isCell (M : MT) (hM : OkM M) (z : Nat) {x0 : Int} {F : mF} {A : mA} {Q : Int → Prop} (hw : w4_isCell x0 Q) : CtM M z yX4_isCell cX4_isCell 1 (some .boolean) (k2_rm 1 22) [aI x0] F A (PMi M z F A Q) := by
  refine Ct.intro (by decide) (Nat.le_of_ble_eq_true rfl) (fun E hE hR hT => ?_)
  have hT : TM E M := hT
  have hE : OkE E RX4 cX4_isCell 1 (some .boolean) := hE
  show G E (wsM M F A) (some z) 0 0 0 [some (aI x0)] []
  unfold w4_isCell at hw
  refine g_ildn0 hE dX4_isCell_0 ?_
  refine g_iconst hE dX4_isCell_1 ?_
  refine g_sipush hE dX4_isCell_2 (by decide) ?_
  obtain ⟨h1, hw⟩ := hw
  refine gm_cSi hE hR hM hT (As := [aI x0, aI 0, aI 191]) (t4_isIn M hM z (s4_isIn h1 (by decide) (by decide))) (lw_S q2257 q2258 q108 q2259) hd_X4_isIn ⟨by decide, by decide⟩ rfl (Nat.le_of_ble_eq_true rfl) dX4_isCell_5 rfl (fun r2 hr2 => ?_)
  subst hr2
  exact g_iret hE hR dX4_isCell_8 (Nat.le_refl 0) (Nat.le_refl 0) narrow_bI ⟨_, rfl, rfl, rfl, hw⟩

theorem s4_isCell {x0 : Int} (h0 : inR x0) : w4_isCell x0 (fun r => r = bI (0 ≤ x0 ∧ x0 ≤ 191)) := by
  unfold w4_isCell
  exact ⟨h0, rfl⟩
/-- at(II)I -/
def w4_at (x0 : Int) (x1 : Int) (Q : Int → Prop) : Prop :=
  Q ((204 + (15 * x0)) + x1)
theorem hd_X4_at : yX4_at.cls ≠ "java/lang/invoke/MethodHandle" ∧ yX4_at.cls ≠ "java/lang/invoke/VarHandle" ∧ (parseMethodDescriptor yX4_at.desc).map (fun d => d.parameters.length) = some 2 := by decide +kernel
set_option maxHeartbeats 4000000 in
theorem t4_at (M : MT) (hM : OkM M) (z : Nat) {x0 : Int} {x1 : Int} {F : mF} {A : mA} {Q : Int → Prop} (hw : w4_at x0 x1 Q) : CtM M z yX4_at cX4_at 2 (some .int) (k2_rm 0 0) [aI x0, aI x1] F A (PMi M z F A Q) := by
  refine Ct.intro (by decide) (Nat.le_of_ble_eq_true rfl) (fun E hE hR hT => ?_)
  have hT : TM E M := hT
  have hE : OkE E RX4 cX4_at 2 (some .int) := hE
  show G E (wsM M F A) (some z) 0 0 0 [some (aI x0), some (aI x1)] []
  unfold w4_at at hw
  refine g_sipush hE dX4_at_0 (by decide) ?_
  refine g_bipush hE dX4_at_3 (by decide) ?_
  refine g_ildn0 hE dX4_at_5 ?_
  refine g_imul hE dX4_at_6 ?_
  refine g_iadd hE dX4_at_7 ?_
  refine g_ildn1 hE dX4_at_8 ?_
  refine g_iadd hE dX4_at_9 ?_
  exact g_iret hE hR dX4_at_10 (Nat.le_refl 0) (Nat.le_refl 0) rfl ⟨_, rfl, rfl, rfl, hw⟩

theorem s4_at {x0 x1 : Int} : w4_at x0 x1 (fun r => r = 204 + 15 * x0 + x1) := rfl
/-- of(III)I -/
def w4_of (x0 : Int) (x1 : Int) (x2 : Int) (Q : Int → Prop) : Prop :=
  Q ((((204 + (15 * x0)) + 3) + (4 * x1)) + x2)
theorem hd_X4_of : yX4_of.cls ≠ "java/lang/invoke/MethodHandle" ∧ yX4_of.cls ≠ "java/lang/invoke/VarHandle" ∧ (parseMethodDescriptor yX4_of.desc).map (fun d => d.parameters.length) = some 3 := by decide +kernel
set_option maxHeartbeats 4000000 in
theorem t4_of (M : MT) (hM : OkM M) (z : Nat) {x0 : Int} {x1 : Int} {x2 : Int} {F : mF} {A : mA} {Q : Int → Prop} (hw : w4_of x0 x1 x2 Q) : CtM M z yX4_of cX4_of 3 (some .int) (k2_rm 0 0) [aI x0, aI x1, aI x2] F A (PMi M z F A Q) := by
  refine Ct.intro (by decide) (Nat.le_of_ble_eq_true rfl) (fun E hE hR hT => ?_)
  have hT : TM E M := hT
  have hE : OkE E RX4 cX4_of 3 (some .int) := hE
  show G E (wsM M F A) (some z) 0 0 0 [some (aI x0), some (aI x1), some (aI x2)] []
  unfold w4_of at hw
  refine g_sipush hE dX4_of_0 (by decide) ?_
  refine g_bipush hE dX4_of_3 (by decide) ?_
  refine g_ildn0 hE dX4_of_5 ?_
  refine g_imul hE dX4_of_6 ?_
  refine g_iadd hE dX4_of_7 ?_
  refine g_iconst hE dX4_of_8 ?_
  refine g_iadd hE dX4_of_9 ?_
  refine g_iconst hE dX4_of_10 ?_
  refine g_ildn1 hE dX4_of_11 ?_
  refine g_imul hE dX4_of_12 ?_
  refine g_iadd hE dX4_of_13 ?_
  refine g_ildn2 hE dX4_of_14 ?_
  refine g_iadd hE dX4_of_15 ?_
  exact g_iret hE hR dX4_of_16 (Nat.le_refl 0) (Nat.le_refl 0) rfl ⟨_, rfl, rfl, rfl, hw⟩

theorem s4_of {x0 x1 x2 : Int} : w4_of x0 x1 x2 (fun r => r = 204 + 15 * x0 + 3 + 4 * x1 + x2) := rfl
/-- told(II)I -/
def w4_told (x1 : Int) (x2 : Int) (F : mF) (A : mA) (Q : Int → Prop) : Prop :=
  ib x1 30 ∧
  ib x1 30 ∧
  ib (204 + 15 * (A 4 x1) + 3 + 4 * (A 5 x1) + x2) 354 ∧
  Q (A 0 (204 + 15 * (A 4 x1) + 3 + 4 * (A 5 x1) + x2))
theorem hd_X4_told : yX4_told.cls = RX4 ∧ yX4_told.cls ≠ "java/lang/invoke/MethodHandle" ∧ yX4_told.cls ≠ "java/lang/invoke/VarHandle" ∧ (parseMethodDescriptor yX4_told.desc).map (fun d => d.parameters.length) = some 2 := by decide +kernel
set_option maxHeartbeats 4000000 in
theorem t4_told (M : MT) (hM : OkM M) (z : Nat) {x1 : Int} {x2 : Int} {F : mF} {A : mA} {Q : Int → Prop} (hw : w4_told x1 x2 F A Q) : CtM M z yX4_told cX4_told 3 (some .int) (k2_rm 1 22) [aR (some (oM M)), aI x1, aI x2] F A (PMi M z F A Q) := by
  refine Ct.intro (by decide) (Nat.le_of_ble_eq_true rfl) (fun E hE hR hT => ?_)
  have hT : TM E M := hT
  have hE : OkE E RX4 cX4_told 3 (some .int) := hE
  show G E (wsM M F A) (some z) 0 0 0 [some (aR (some (oM M))), some (aI x1), some (aI x2)] []
  unfold w4_told at hw
  refine g_aldn0 hE dX4_told_0 ?_
  refine gm_geta hE hM hT 0 (by decide) rfl q2140 dX4_told_1 ?_
  refine g_aldn0 hE dX4_told_4 ?_
  refine gm_geta hE hM hT 4 (by decide) rfl q2144 dX4_told_5 ?_
  refine g_ildn1 hE dX4_told_8 ?_
  obtain ⟨h1, hw⟩ := hw
  refine gm_iald hE hM hT 4 rfl h1 dX4_told_9 ?_
  refine g_aldn0 hE dX4_told_10 ?_
  refine gm_geta hE hM hT 5 (by decide) rfl q2145 dX4_told_11 ?_
  refine g_ildn1 hE dX4_told_14 ?_
  obtain ⟨h2, hw⟩ := hw
  refine gm_iald hE hM hT 5 rfl h2 dX4_told_15 ?_
  refine g_ildn2 hE dX4_told_16 ?_
  refine gm_cSi hE hR hM hT (As := [aI (A 4 x1), aI (A 5 x1), aI x2]) (t4_of M hM z (s4_of )) (lw_S q2271 q2272 q108 q2273) hd_X4_of ⟨by decide, by decide⟩ rfl (Nat.le_of_ble_eq_true rfl) dX4_told_17 rfl (fun r3 hr3 => ?_)
  subst hr3
  obtain ⟨h4, hw⟩ := hw
  refine gm_iald hE hM hT 0 rfl h4 dX4_told_20 ?_
  exact g_iret hE hR dX4_told_21 (Nat.le_refl 0) (Nat.le_refl 0) rfl ⟨_, rfl, rfl, rfl, hw⟩

/-- lists()V -/
def w4_lists  (F : mF) (A : mA) (Q : mF → mA → Prop) : Prop :=
  ∀ F1 : mF, F1 = uF F 14 0 →
  lq3 (fun (x1_7 : Int) (F_7 : mF) (A_7 : mA) (k_7 : Int → mF → mA → Prop) =>
    cLt x1_7 (A_7 0 11)
      (
      lq3 (fun (x2_20 : Int) (F_20 : mF) (A_20 : mA) (k_20 : Int → mF → mA → Prop) =>
        ib (204 + 15 * x1_7 + 2) 354 ∧
        cLt x2_20 (A_20 0 (204 + 15 * x1_7 + 2))
          (
          ib (204 + 15 * x1_7 + 3 + 4 * x2_20 + 3) 354 ∧
          jn2 (fun (F_141 : mF) (A_141 : mA) => 
              k_20 (x2_20 + 1) F_141 A_141)
            (fun (j_141 : mF → mA → Prop) =>
            cEq (A_20 0 (204 + 15 * x1_7 + 3 + 4 * x2_20 + 3)) 1
              (
              lq2 (fun (x3_57 : Int) (A_57 : mA) (k_57 : Int → mA → Prop) =>
                jn0 (
                    ib x3_57 30 ∧ ∀ A6 : mA, A6 = uA A_57 4 x3_57 x1_7 →
                    ib x3_57 30 ∧ ∀ A8 : mA, A8 = uA A6 5 x3_57 x2_20 →
                    ∀ F10 : mF, F10 = uF F_20 14 ((F_20 14) + 1) →
                    j_141 F10 A8)
                  (fun (j_117 : Prop) =>
                  cLt 0 x3_57
                    (
                    w4_told (x3_57 - 1) 0 F_20 A_57 (fun (r11 : Int) =>
                    ib (204 + 15 * x1_7 + 3 + 4 * x2_20 + 0) 354 ∧
                    cLt (A_57 0 (204 + 15 * x1_7 + 3 + 4 * x2_20 + 0)) r11
                      (
                      ib (x3_57 - 1) 30 ∧
                      ib x3_57 30 ∧ ∀ A15 : mA, A15 = uA A_57 4 x3_57 (A_57 4 (x3_57 - 1)) →
                      ib (x3_57 - 1) 30 ∧
                      ib x3_57 30 ∧ ∀ A18 : mA, A18 = uA A15 5 x3_57 (A15 5 (x3_57 - 1)) →
                      k_57 (x3_57 + (-1)) A18)
                      (
                      j_117)))
                    (
                    j_117))) (F_20 14) A_20)
              (
              j_141 F_20 A_20)))
          (
          k_7 (x1_7 + 1) F_20 A_20)) 0 F_7 A_7)
      (
      Q F_7 A_7)) 0 F1 A
theorem hd_X4_lists : yX4_lists.cls = RX4 ∧ yX4_lists.cls ≠ "java/lang/invoke/MethodHandle" ∧ yX4_lists.cls ≠ "java/lang/invoke/VarHandle" ∧ (parseMethodDescriptor yX4_lists.desc).map (fun d => d.parameters.length) = some 0 := by decide +kernel
set_option maxHeartbeats 4000000 in
theorem t4_lists (M : MT) (hM : OkM M) (z : Nat)  {F : mF} {A : mA} {Q : mF → mA → Prop} (hw : w4_lists F A Q) : CtM M z yX4_lists cX4_lists 4 none (k2_rm 2 44) [aR (some (oM M))] F A (PMvFA M z Q) := by
  refine Ct.intro (by decide) (Nat.le_of_ble_eq_true rfl) (fun E hE hR hT => ?_)
  have hT : TM E M := hT
  have hE : OkE E RX4 cX4_lists 4 none := hE
  show G E (wsM M F A) (some z) 0 0 0 [some (aR (some (oM M))), none, none, none] []
  unfold w4_lists at hw
  refine g_aldn0 hE dX4_lists_0 ?_
  refine g_iconst hE dX4_lists_1 ?_
  refine gm_put hE hM hT 14 (by decide) rfl q2154 rfl (ty := .int) (by decide +kernel) rfl rfl dX4_lists_2 ?_
  have hw := hw _ rfl
  generalize uF F 14 0 = F1 at hw ⊢
  refine g_iconst hE dX4_lists_5 ?_
  refine g_istn1 hE dX4_lists_6 (by decide) rfl ?_
  refine lq3_walk (fun (x1_7 : Int) (F_7 : mF) (A_7 : mA) => G E (wsM M F_7 A_7) (some z) 0 0 7 [some (aR (some (oM M))), some (aI x1_7), none, none] []) (fun k_7 hk_7 x1_7 F_7 A_7 hw => ?_) _ _ _ hw
  refine g_ildn1 hE dX4_lists_7 ?_
  refine g_aldn0 hE dX4_lists_8 ?_
  refine gm_geta hE hM hT 0 (by decide) rfl q2140 dX4_lists_9 ?_
  refine g_bipush hE dX4_lists_12 (by decide) ?_
  refine gm_iald hE hM hT 0 rfl (by decide) dX4_lists_14 ?_
  obtain ⟨h36, h37, hT38, hN39⟩ := hw
  refine g_icmp_ge hE (tgt := 153) dX4_lists_15 (by decide) h36 h37 (fun q => ?_) (fun q => ?_)
  · have hw := hT38 q
    refine g_iconst hE dX4_lists_18 ?_
    refine g_istn2 hE dX4_lists_19 (by decide) rfl ?_
    refine lq3_walk (fun (x2_20 : Int) (F_20 : mF) (A_20 : mA) => G E (wsM M F_20 A_20) (some z) 0 0 20 [some (aR (some (oM M))), some (aI x1_7), some (aI x2_20), none] []) (fun k_20 hk_20 x2_20 F_20 A_20 hw => ?_) _ _ _ hw
    refine g_ildn2 hE dX4_lists_20 ?_
    refine g_aldn0 hE dX4_lists_21 ?_
    refine gm_geta hE hM hT 0 (by decide) rfl q2140 dX4_lists_22 ?_
    refine g_ildn1 hE dX4_lists_25 ?_
    refine g_iconst hE dX4_lists_26 ?_
    refine gm_cSi hE hR hM hT (As := [aI x1_7, aI 2]) (t4_at M hM z (s4_at )) (lw_S q2268 q2269 q108 q2270) hd_X4_at ⟨by decide, by decide⟩ rfl (Nat.le_of_ble_eq_true rfl) dX4_lists_27 rfl (fun r2 hr2 => ?_)
    subst hr2
    obtain ⟨h3, hw⟩ := hw
    refine gm_iald hE hM hT 0 rfl h3 dX4_lists_30 ?_
    obtain ⟨h32, h33, hT34, hN35⟩ := hw
    refine g_icmp_ge hE (tgt := 147) dX4_lists_31 (by decide) h32 h33 (fun q => ?_) (fun q => ?_)
    · have hw := hT34 q
      refine g_aldn0 hE dX4_lists_34 ?_
      refine gm_geta hE hM hT 0 (by decide) rfl q2140 dX4_lists_35 ?_
      refine g_ildn1 hE dX4_lists_38 ?_
      refine g_ildn2 hE dX4_lists_39 ?_
      refine g_iconst hE dX4_lists_40 ?_
      refine gm_cSi hE hR hM hT (As := [aI x1_7, aI x2_20, aI 3]) (t4_of M hM z (s4_of )) (lw_S q2271 q2272 q108 q2273) hd_X4_of ⟨by decide, by decide⟩ rfl (Nat.le_of_ble_eq_true rfl) dX4_lists_41 rfl (fun r4 hr4 => ?_)
      subst hr4
      obtain ⟨h5, hw⟩ := hw
      refine gm_iald hE hM hT 0 rfl h5 dX4_lists_44 ?_
      refine g_iconst hE dX4_lists_45 ?_
      refine jn2_walk (fun (F_141 : mF) (A_141 : mA) => G E (wsM M F_141 A_141) (some z) 0 0 141 [some (aR (some (oM M))), some (aI x1_7), some (aI x2_20), none] []) hw (fun F_141 A_141 hw => ?_) (fun j_141 hj_141 hw => ?_)
      · skip
        refine g_iinc2 hE dX4_lists_141 (by decide) rfl ?_
        refine g_goto hE (tgt := 20) dX4_lists_144 (by decide) ?_
        exact hk_20 _ _ _ hw
      · skip
        obtain ⟨h28, h29, hT30, hN31⟩ := hw
        refine g_icmp_eq hE (tgt := 52) dX4_lists_46 (by decide) h28 h29 (fun q => ?_) (fun q => ?_)
        · have hw := hT30 q
          refine g_aldn0 hE dX4_lists_52 ?_
          refine gm_geti hE hM hT 14 (by decide) rfl q2154 dX4_lists_53 ?_
          refine g_istn3 hE dX4_lists_56 (by decide) rfl ?_
          refine lq2_walk (fun (x3_57 : Int) (A_57 : mA) => G E (wsM M F_20 A_57) (some z) 0 0 57 [some (aR (some (oM M))), some (aI x1_7), some (aI x2_20), some (aI x3_57)] []) (fun k_57 hk_57 x3_57 A_57 hw => ?_) _ _ hw
          refine g_ildn3 hE dX4_lists_57 ?_
          refine jn0_walk (G E (wsM M F_20 A_57) (some z) 0 0 117 [some (aR (some (oM M))), some (aI x1_7), some (aI x2_20), some (aI x3_57)] []) hw (fun  hw => ?_) (fun j_117 hj_117 hw => ?_)
          · skip
            refine g_aldn0 hE dX4_lists_117 ?_
            refine gm_geta hE hM hT 4 (by decide) rfl q2144 dX4_lists_118 ?_
            refine g_ildn3 hE dX4_lists_121 ?_
            refine g_ildn1 hE dX4_lists_122 ?_
            obtain ⟨h7, hw⟩ := hw
            refine gm_iast hE hM hT 4 rfl h7 dX4_lists_123 ?_
            have hw := hw _ rfl
            generalize uA A_57 4 x3_57 x1_7 = A6 at hw ⊢
            refine g_aldn0 hE dX4_lists_124 ?_
            refine gm_geta hE hM hT 5 (by decide) rfl q2145 dX4_lists_125 ?_
            refine g_ildn3 hE dX4_lists_128 ?_
            refine g_ildn2 hE dX4_lists_129 ?_
            obtain ⟨h9, hw⟩ := hw
            refine gm_iast hE hM hT 5 rfl h9 dX4_lists_130 ?_
            have hw := hw _ rfl
            generalize uA A6 5 x3_57 x2_20 = A8 at hw ⊢
            refine g_aldn0 hE dX4_lists_131 ?_
            refine g_dup hE dX4_lists_132 rfl ?_
            refine gm_geti hE hM hT 14 (by decide) rfl q2154 dX4_lists_133 ?_
            refine g_iconst hE dX4_lists_136 ?_
            refine g_iadd hE dX4_lists_137 ?_
            refine gm_put hE hM hT 14 (by decide) rfl q2154 rfl (ty := .int) (by decide +kernel) rfl rfl dX4_lists_138 ?_
            have hw := hw _ rfl
            generalize uF F_20 14 ((F_20 14) + 1) = F10 at hw ⊢
            refine g_kl3 ?_
            exact hj_141 _ _ hw
          · skip
            obtain ⟨h24, h25, hT26, hN27⟩ := hw
            refine g_if_le hE (tgt := 117) dX4_lists_58 (by decide) h25 (fun q => ?_) (fun q => ?_)
            · have hw := hT26 q
              refine g_aldn0 hE dX4_lists_61 ?_
              refine g_ildn3 hE dX4_lists_62 ?_
              refine g_iconst hE dX4_lists_63 ?_
              refine g_isub hE dX4_lists_64 ?_
              refine g_iconst hE dX4_lists_65 ?_
              refine gm_cVi hE hR hM hT (As := [aI (x3_57 - 1), aI 0]) (t4_told M hM z hw) (lw_V q2274 q2276 qs49 q108 q2277) hd_X4_told ⟨by decide, by decide⟩ rfl (Nat.le_of_ble_eq_true rfl) dX4_lists_66 rfl (fun r11 hw => ?_)
              refine g_aldn0 hE dX4_lists_69 ?_
              refine gm_geta hE hM hT 0 (by decide) rfl q2140 dX4_lists_70 ?_
              refine g_ildn1 hE dX4_lists_73 ?_
              refine g_ildn2 hE dX4_lists_74 ?_
              refine g_iconst hE dX4_lists_75 ?_
              refine gm_cSi hE hR hM hT (As := [aI x1_7, aI x2_20, aI 0]) (t4_of M hM z (s4_of )) (lw_S q2271 q2272 q108 q2273) hd_X4_of ⟨by decide, by decide⟩ rfl (Nat.le_of_ble_eq_true rfl) dX4_lists_76 rfl (fun r12 hr12 => ?_)
              subst hr12
              obtain ⟨h13, hw⟩ := hw
              refine gm_iald hE hM hT 0 rfl h13 dX4_lists_79 ?_
              obtain ⟨h20, h21, hT22, hN23⟩ := hw
              refine g_icmp_le hE (tgt := 117) dX4_lists_80 (by decide) h21 h20 (fun q => ?_) (fun q => ?_)
              · have hw := hT22 q
                refine g_aldn0 hE dX4_lists_83 ?_
                refine gm_geta hE hM hT 4 (by decide) rfl q2144 dX4_lists_84 ?_
                refine g_ildn3 hE dX4_lists_87 ?_
                refine g_aldn0 hE dX4_lists_88 ?_
                refine gm_geta hE hM hT 4 (by decide) rfl q2144 dX4_lists_89 ?_
                refine g_ildn3 hE dX4_lists_92 ?_
                refine g_iconst hE dX4_lists_93 ?_
                refine g_isub hE dX4_lists_94 ?_
                obtain ⟨h14, hw⟩ := hw
                refine gm_iald hE hM hT 4 rfl h14 dX4_lists_95 ?_
                obtain ⟨h16, hw⟩ := hw
                refine gm_iast hE hM hT 4 rfl h16 dX4_lists_96 ?_
                have hw := hw _ rfl
                generalize uA A_57 4 x3_57 (A_57 4 (x3_57 - 1)) = A15 at hw ⊢
                refine g_aldn0 hE dX4_lists_97 ?_
                refine gm_geta hE hM hT 5 (by decide) rfl q2145 dX4_lists_98 ?_
                refine g_ildn3 hE dX4_lists_101 ?_
                refine g_aldn0 hE dX4_lists_102 ?_
                refine gm_geta hE hM hT 5 (by decide) rfl q2145 dX4_lists_103 ?_
                refine g_ildn3 hE dX4_lists_106 ?_
                refine g_iconst hE dX4_lists_107 ?_
                refine g_isub hE dX4_lists_108 ?_
                obtain ⟨h17, hw⟩ := hw
                refine gm_iald hE hM hT 5 rfl h17 dX4_lists_109 ?_
                obtain ⟨h19, hw⟩ := hw
                refine gm_iast hE hM hT 5 rfl h19 dX4_lists_110 ?_
                have hw := hw _ rfl
                generalize uA A15 5 x3_57 (A15 5 (x3_57 - 1)) = A18 at hw ⊢
                refine g_iinc3 hE dX4_lists_111 (by decide) rfl ?_
                refine g_goto hE (tgt := 57) dX4_lists_114 (by decide) ?_
                exact hk_57 _ _ hw
              · have hw := hN23 q
                exact hj_117  hw
            · have hw := hN27 q
              exact hj_117  hw
        · have hw := hN31 q
          refine g_goto hE (tgt := 141) dX4_lists_49 (by decide) ?_
          exact hj_141 _ _ hw
    · have hw := hN35 q
      refine g_iinc1 hE dX4_lists_147 (by decide) rfl ?_
      refine g_goto hE (tgt := 7) dX4_lists_150 (by decide) ?_
      refine g_kl2 ?_
      exact hk_7 _ _ _ hw
  · have hw := hN39 q
    exact g_vret hE hR dX4_lists_153 (Nat.le_refl 0) (Nat.le_refl 0) ⟨_, _, rfl, rfl, rfl, hw⟩

/-- refuses(II)I -/
def w4_refuses (x1 : Int) (x2 : Int) (F : mF) (A : mA) (Q : Int → mF → Prop) : Prop :=
  ∀ F1 : mF, F1 = uF F 18 x1 →
  ∀ F2 : mF, F2 = uF F1 19 x2 →
  Q ((-4)) F2
theorem hd_X4_refuses : yX4_refuses.cls = RX4 ∧ yX4_refuses.cls ≠ "java/lang/invoke/MethodHandle" ∧ yX4_refuses.cls ≠ "java/lang/invoke/VarHandle" ∧ (parseMethodDescriptor yX4_refuses.desc).map (fun d => d.parameters.length) = some 2 := by decide +kernel
set_option maxHeartbeats 4000000 in
theorem t4_refuses (M : MT) (hM : OkM M) (z : Nat) {x1 : Int} {x2 : Int} {F : mF} {A : mA} {Q : Int → mF → Prop} (hw : w4_refuses x1 x2 F A Q) : CtM M z yX4_refuses cX4_refuses 3 (some .int) (k2_rm 0 0) [aR (some (oM M)), aI x1, aI x2] F A (PMiF M z A Q) := by
  refine Ct.intro (by decide) (Nat.le_of_ble_eq_true rfl) (fun E hE hR hT => ?_)
  have hT : TM E M := hT
  have hE : OkE E RX4 cX4_refuses 3 (some .int) := hE
  show G E (wsM M F A) (some z) 0 0 0 [some (aR (some (oM M))), some (aI x1), some (aI x2)] []
  unfold w4_refuses at hw
  refine g_aldn0 hE dX4_refuses_0 ?_
  refine g_ildn1 hE dX4_refuses_1 ?_
  refine gm_put hE hM hT 18 (by decide) rfl q2158 rfl (ty := .int) (by decide +kernel) rfl rfl dX4_refuses_2 ?_
  have hw := hw _ rfl
  generalize uF F 18 x1 = F1 at hw ⊢
  refine g_aldn0 hE dX4_refuses_5 ?_
  refine g_ildn2 hE dX4_refuses_6 ?_
  refine gm_put hE hM hT 19 (by decide) rfl q2159 rfl (ty := .int) (by decide +kernel) rfl rfl dX4_refuses_7 ?_
  have hw := hw _ rfl
  generalize uF F1 19 x2 = F2 at hw ⊢
  refine g_bipush hE dX4_refuses_10 (by decide) ?_
  exact g_iret hE hR dX4_refuses_12 (Nat.le_refl 0) (Nat.le_refl 0) rfl ⟨_, _, rfl, rfl, rfl, hw⟩

/-- landN()I -/
def w4_landN  (F : mF) (A : mA) (Q : Int → Prop) : Prop :=
  lq2 (fun (x1_4 : Int) (x2_4 : Int) (k_4 : Int → Int → Prop) =>
    cLt x2_4 192
      (
      ib (12 + x2_4) 354 ∧
      k_4 (x1_4 + (A 0 (12 + x2_4))) (x2_4 + 1))
      (
      Q x1_4)) 0 0
theorem hd_X4_landN : yX4_landN.cls = RX4 ∧ yX4_landN.cls ≠ "java/lang/invoke/MethodHandle" ∧ yX4_landN.cls ≠ "java/lang/invoke/VarHandle" ∧ (parseMethodDescriptor yX4_landN.desc).map (fun d => d.parameters.length) = some 0 := by decide +kernel
set_option maxHeartbeats 4000000 in
theorem t4_landN (M : MT) (hM : OkM M) (z : Nat)  {F : mF} {A : mA} {Q : Int → Prop} (hw : w4_landN F A Q) : CtM M z yX4_landN cX4_landN 3 (some .int) (k2_rm 0 0) [aR (some (oM M))] F A (PMi M z F A Q) := by
  refine Ct.intro (by decide) (Nat.le_of_ble_eq_true rfl) (fun E hE hR hT => ?_)
  have hT : TM E M := hT
  have hE : OkE E RX4 cX4_landN 3 (some .int) := hE
  show G E (wsM M F A) (some z) 0 0 0 [some (aR (some (oM M))), none, none] []
  unfold w4_landN at hw
  refine g_iconst hE dX4_landN_0 ?_
  refine g_istn1 hE dX4_landN_1 (by decide) rfl ?_
  refine g_iconst hE dX4_landN_2 ?_
  refine g_istn2 hE dX4_landN_3 (by decide) rfl ?_
  refine lq2_walk (fun (x1_4 : Int) (x2_4 : Int) => G E (wsM M F A) (some z) 0 0 4 [some (aR (some (oM M))), some (aI x1_4), some (aI x2_4)] []) (fun k_4 hk_4 x1_4 x2_4 hw => ?_) _ _ hw
  refine g_ildn2 hE dX4_landN_4 ?_
  refine g_sipush hE dX4_landN_5 (by decide) ?_
  obtain ⟨h2, h3, hT4, hN5⟩ := hw
  refine g_icmp_ge hE (tgt := 29) dX4_landN_8 (by decide) h2 h3 (fun q => ?_) (fun q => ?_)
  · have hw := hT4 q
    refine g_ildn1 hE dX4_landN_11 ?_
    refine g_aldn0 hE dX4_landN_12 ?_
    refine gm_geta hE hM hT 0 (by decide) rfl q2140 dX4_landN_13 ?_
    refine g_bipush hE dX4_landN_16 (by decide) ?_
    refine g_ildn2 hE dX4_landN_18 ?_
    refine g_iadd hE dX4_landN_19 ?_
    obtain ⟨h1, hw⟩ := hw
    refine gm_iald hE hM hT 0 rfl h1 dX4_landN_20 ?_
    refine g_iadd hE dX4_landN_21 ?_
    refine g_istn1 hE dX4_landN_22 (by decide) rfl ?_
    refine g_iinc2 hE dX4_landN_23 (by decide) rfl ?_
    refine g_goto hE (tgt := 4) dX4_landN_26 (by decide) ?_
    exact hk_4 _ _ hw
  · have hw := hN5 q
    refine g_ildn1 hE dX4_landN_29 ?_
    exact g_iret hE hR dX4_landN_30 (Nat.le_refl 0) (Nat.le_refl 0) rfl ⟨_, rfl, rfl, rfl, hw⟩

/-- lands(IZ)I -/
def w4_lands (x1 : Int) (x2 : Int) (F : mF) (A : mA) (Q : Int → mF → mA → Prop) : Prop :=
  w4_lists  F A (fun (F1 : mF) (A2 : mA) =>
  lq1 (fun (x3_6 : Int) (k_6 : Int → Prop) =>
    jn0 (
        jn1 (fun (y2_59 : Int) => 
            ib (12 + x1) 354 ∧ ∀ A3 : mA, A3 = uA A2 0 (12 + x1) y2_59 →
            w4_landN  F1 A3 (fun (r5 : Int) =>
            Q r5 F1 A3))
          (fun (j_59 : Int → Prop) =>
          cEq x2 0
            (
            j_59 0)
            (
            j_59 1)))
      (fun (j_42 : Prop) =>
      cLt x3_6 (F1 14)
        (
        cEq x2 0
          (
          j_42)
          (
          w4_told x3_6 1 F1 A2 (fun (r10 : Int) =>
          cEq r10 x1
            (
            w4_refuses 6 x3_6 F1 A2 (fun (r11 : Int) (F12 : mF) =>
            Q r11 F12 A2))
            (
            k_6 (x3_6 + 1)))))
        (
        j_42))) 0)
theorem hd_X4_lands : yX4_lands.cls = RX4 ∧ yX4_lands.cls ≠ "java/lang/invoke/MethodHandle" ∧ yX4_lands.cls ≠ "java/lang/invoke/VarHandle" ∧ (parseMethodDescriptor yX4_lands.desc).map (fun d => d.parameters.length) = some 2 := by decide +kernel
set_option maxHeartbeats 4000000 in
theorem t4_lands (M : MT) (hM : OkM M) (z : Nat) {x1 : Int} {x2 : Int} {F : mF} {A : mA} {Q : Int → mF → mA → Prop} (hw : w4_lands x1 x2 F A Q) : CtM M z yX4_lands cX4_lands 4 (some .int) (k2_rm 3 67) [aR (some (oM M)), aI x1, aI x2] F A (PMiFA M z Q) := by
  refine Ct.intro (by decide) (Nat.le_of_ble_eq_true rfl) (fun E hE hR hT => ?_)
  have hT : TM E M := hT
  have hE : OkE E RX4 cX4_lands 4 (some .int) := hE
  show G E (wsM M F A) (some z) 0 0 0 [some (aR (some (oM M))), some (aI x1), some (aI x2), none] []
  unfold w4_lands at hw
  refine g_aldn0 hE dX4_lands_0 ?_
  refine gm_cVvFA hE hR hM hT (As := []) (t4_lists M hM z hw) (lw_V q2264 q2266 qs48 q108 q2267) hd_X4_lists ⟨by decide, by decide⟩ rfl (Nat.le_of_ble_eq_true rfl) dX4_lands_1 rfl (fun F1 A2 hw => ?_)
  refine g_iconst hE dX4_lands_4 ?_
  refine g_istn3 hE dX4_lands_5 (by decide) rfl ?_
  refine lq1_walk (fun (x3_6 : Int) => G E (wsM M F1 A2) (some z) 0 0 6 [some (aR (some (oM M))), some (aI x1), some (aI x2), some (aI x3_6)] []) (fun k_6 hk_6 x3_6 hw => ?_) _ hw
  refine g_ildn3 hE dX4_lands_6 ?_
  refine g_aldn0 hE dX4_lands_7 ?_
  refine gm_geti hE hM hT 14 (by decide) rfl q2154 dX4_lands_8 ?_
  refine jn0_walk (G E (wsM M F1 A2) (some z) 0 0 42 [some (aR (some (oM M))), some (aI x1), some (aI x2), some (aI x3_6)] []) hw (fun  hw => ?_) (fun j_42 hj_42 hw => ?_)
  · skip
    refine g_aldn0 hE dX4_lands_42 ?_
    refine gm_geta hE hM hT 0 (by decide) rfl q2140 dX4_lands_43 ?_
    refine g_bipush hE dX4_lands_46 (by decide) ?_
    refine g_ildn1 hE dX4_lands_48 ?_
    refine g_iadd hE dX4_lands_49 ?_
    refine g_ildn2 hE dX4_lands_50 ?_
    refine jn1_walk (fun (y2_59 : Int) => G E (wsM M F1 A2) (some z) 0 0 59 [some (aR (some (oM M))), some (aI x1), some (aI x2), some (aI x3_6)] [aI y2_59, aI (12 + x1), aR (some (adM M 0))]) hw (fun y2_59 hw => ?_) (fun j_59 hj_59 hw => ?_)
    · skip
      obtain ⟨h4, hw⟩ := hw
      refine gm_iast hE hM hT 0 rfl h4 dX4_lands_59 ?_
      have hw := hw _ rfl
      generalize uA A2 0 (12 + x1) y2_59 = A3 at hw ⊢
      refine g_aldn0 hE dX4_lands_60 ?_
      refine gm_cVi hE hR hM hT (As := []) (t4_landN M hM z hw) (lw_V q2282 q2284 qs51 q108 q2285) hd_X4_landN ⟨by decide, by decide⟩ rfl (Nat.le_of_ble_eq_true rfl) dX4_lands_61 rfl (fun r5 hw => ?_)
      exact g_iret hE hR dX4_lands_64 (Nat.le_refl 0) (Nat.le_refl 0) rfl ⟨_, _, _, rfl, rfl, rfl, hw⟩
    · skip
      obtain ⟨h6, h7, hT8, hN9⟩ := hw
      refine g_if_eq hE (tgt := 58) dX4_lands_51 (by decide) h6 (fun q => ?_) (fun q => ?_)
      · have hw := hT8 q
        refine g_iconst hE dX4_lands_58 ?_
        exact hj_59 _ hw
      · have hw := hN9 q
        refine g_iconst hE dX4_lands_54 ?_
        refine g_goto hE (tgt := 59) dX4_lands_55 (by decide) ?_
        exact hj_59 _ hw
  · skip
    obtain ⟨h21, h22, hT23, hN24⟩ := hw
    refine g_icmp_ge hE (tgt := 42) dX4_lands_11 (by decide) h21 h22 (fun q => ?_) (fun q => ?_)
    · have hw := hT23 q
      refine g_ildn2 hE dX4_lands_14 ?_
      obtain ⟨h17, h18, hT19, hN20⟩ := hw
      refine g_if_eq hE (tgt := 42) dX4_lands_15 (by decide) h17 (fun q => ?_) (fun q => ?_)
      · have hw := hT19 q
        exact hj_42  hw
      · have hw := hN20 q
        refine g_aldn0 hE dX4_lands_18 ?_
        refine g_ildn3 hE dX4_lands_19 ?_
        refine g_iconst hE dX4_lands_20 ?_
        refine gm_cVi hE hR hM hT (As := [aI x3_6, aI 1]) (t4_told M hM z hw) (lw_V q2274 q2276 qs49 q108 q2277) hd_X4_told ⟨by decide, by decide⟩ rfl (Nat.le_of_ble_eq_true rfl) dX4_lands_21 rfl (fun r10 hw => ?_)
        refine g_ildn1 hE dX4_lands_24 ?_
        obtain ⟨h13, h14, hT15, hN16⟩ := hw
        refine g_icmp_ne hE (tgt := 36) dX4_lands_25 (by decide) h13 h14 (fun q => ?_) (fun q => ?_)
        · have hw := hT15 q
          refine g_aldn0 hE dX4_lands_28 ?_
          refine g_bipush hE dX4_lands_29 (by decide) ?_
          refine g_ildn3 hE dX4_lands_31 ?_
          refine gm_cViF hE hR hM hT (As := [aI 6, aI x3_6]) (t4_refuses M hM z hw) (lw_V q2278 q2280 qs50 q108 q2281) hd_X4_refuses ⟨by decide, by decide⟩ rfl (Nat.le_of_ble_eq_true rfl) dX4_lands_32 rfl (fun r11 F12 hw => ?_)
          exact g_iret hE hR dX4_lands_35 (Nat.le_refl 0) (Nat.le_refl 0) rfl ⟨_, _, _, rfl, rfl, rfl, hw⟩
        · have hw := hN16 q
          refine g_iinc3 hE dX4_lands_36 (by decide) rfl ?_
          refine g_goto hE (tgt := 6) dX4_lands_39 (by decide) ?_
          exact hk_6 _ hw
    · have hw := hN24 q
      exact hj_42  hw

/-- ends(I)I -/
def w4_ends (x1 : Int) (F : mF) (A : mA) (Q : Int → mF → mA → Prop) : Prop :=
  cLt x1 0
    (
    w4_lays 0 1 F A (fun (A1 : mA) =>
    Q x1 F A1))
    (
    jn2 (fun (F_67 : mF) (A_67 : mA) => 
        lq2 (fun (x2_69 : Int) (A_69 : mA) (k_69 : Int → mA → Prop) =>
          cLt x2_69 354
            (
            ib x2_69 354 ∧
            ib (((F_67 17) * 354) + x2_69) 2832 ∧ ∀ A3 : mA, A3 = uA A_69 3 (((F_67 17) * 354) + x2_69) (A_69 1 x2_69) →
            k_69 (x2_69 + 1) A3)
            (
            ∀ F5 : mF, F5 = uF F_67 17 ((F_67 17) + 1) →
            Q x1 F5 A_69)) 0 A_67)
      (fun (j_67 : mF → mA → Prop) =>
      cEq (F 17) 8
        (
        lq2 (fun (x2_28 : Int) (A_28 : mA) (k_28 : Int → mA → Prop) =>
          cLt x2_28 2478
            (
            ib (x2_28 + 354) 2832 ∧
            ib x2_28 2832 ∧ ∀ A11 : mA, A11 = uA A_28 3 x2_28 (A_28 3 (x2_28 + 354)) →
            k_28 (x2_28 + 1) A11)
            (
            ∀ F13 : mF, F13 = uF F 17 ((F 17) - 1) →
            j_67 F13 A_28)) 0 A)
        (
        j_67 F A)))
theorem hd_X4_ends : yX4_ends.cls = RX4 ∧ yX4_ends.cls ≠ "java/lang/invoke/MethodHandle" ∧ yX4_ends.cls ≠ "java/lang/invoke/VarHandle" ∧ (parseMethodDescriptor yX4_ends.desc).map (fun d => d.parameters.length) = some 1 := by decide +kernel
set_option maxHeartbeats 4000000 in
theorem t4_ends (M : MT) (hM : OkM M) (z : Nat) {x1 : Int} {F : mF} {A : mA} {Q : Int → mF → mA → Prop} (hw : w4_ends x1 F A Q) : CtM M z yX4_ends cX4_ends 3 (some .int) (k2_rm 1 22) [aR (some (oM M)), aI x1] F A (PMiFA M z Q) := by
  refine Ct.intro (by decide) (Nat.le_of_ble_eq_true rfl) (fun E hE hR hT => ?_)
  have hT : TM E M := hT
  have hE : OkE E RX4 cX4_ends 3 (some .int) := hE
  show G E (wsM M F A) (some z) 0 0 0 [some (aR (some (oM M))), some (aI x1), none] []
  unfold w4_ends at hw
  refine g_ildn1 hE dX4_ends_0 ?_
  obtain ⟨h22, h23, hT24, hN25⟩ := hw
  refine g_if_ge hE (tgt := 17) dX4_ends_1 (by decide) h22 (fun q => ?_) (fun q => ?_)
  · have hw := hT24 q
    refine g_aldn0 hE dX4_ends_4 ?_
    refine gm_geta hE hM hT 0 (by decide) rfl q2140 dX4_ends_5 ?_
    refine g_aldn0 hE dX4_ends_8 ?_
    refine gm_geta hE hM hT 1 (by decide) rfl q2141 dX4_ends_9 ?_
    refine gm_cSvA hE hR hM hT (As := [aR (some (adM M 0)), aR (some (adM M 1))]) (t4_lays M hM z rfl rfl hw) (lw_S q2251 q2252 q108 q2253) hd_X4_lays ⟨by decide, by decide⟩ rfl (Nat.le_of_ble_eq_true rfl) dX4_ends_12 rfl (fun A1 hw => ?_)
    refine g_ildn1 hE dX4_ends_15 ?_
    exact g_iret hE hR dX4_ends_16 (Nat.le_refl 0) (Nat.le_refl 0) rfl ⟨_, _, _, rfl, rfl, rfl, hw⟩
  · have hw := hN25 q
    refine g_aldn0 hE dX4_ends_17 ?_
    refine gm_geti hE hM hT 17 (by decide) rfl q2157 dX4_ends_18 ?_
    refine g_bipush hE dX4_ends_21 (by decide) ?_
    refine jn2_walk (fun (F_67 : mF) (A_67 : mA) => G E (wsM M F_67 A_67) (some z) 0 0 67 [some (aR (some (oM M))), some (aI x1), none] []) hw (fun F_67 A_67 hw => ?_) (fun j_67 hj_67 hw => ?_)
    · skip
      refine g_iconst hE dX4_ends_67 ?_
      refine g_istn2 hE dX4_ends_68 (by decide) rfl ?_
      refine lq2_walk (fun (x2_69 : Int) (A_69 : mA) => G E (wsM M F_67 A_69) (some z) 0 0 69 [some (aR (some (oM M))), some (aI x1), some (aI x2_69)] []) (fun k_69 hk_69 x2_69 A_69 hw => ?_) _ _ hw
      refine g_ildn2 hE dX4_ends_69 ?_
      refine g_sipush hE dX4_ends_70 (by decide) ?_
      obtain ⟨h6, h7, hT8, hN9⟩ := hw
      refine g_icmp_ge hE (tgt := 103) dX4_ends_73 (by decide) h6 h7 (fun q => ?_) (fun q => ?_)
      · have hw := hT8 q
        refine g_aldn0 hE dX4_ends_76 ?_
        refine gm_geta hE hM hT 3 (by decide) rfl q2143 dX4_ends_77 ?_
        refine g_aldn0 hE dX4_ends_80 ?_
        refine gm_geti hE hM hT 17 (by decide) rfl q2157 dX4_ends_81 ?_
        refine g_sipush hE dX4_ends_84 (by decide) ?_
        refine g_imul hE dX4_ends_87 ?_
        refine g_ildn2 hE dX4_ends_88 ?_
        refine g_iadd hE dX4_ends_89 ?_
        refine g_aldn0 hE dX4_ends_90 ?_
        refine gm_geta hE hM hT 1 (by decide) rfl q2141 dX4_ends_91 ?_
        refine g_ildn2 hE dX4_ends_94 ?_
        obtain ⟨h2, hw⟩ := hw
        refine gm_iald hE hM hT 1 rfl h2 dX4_ends_95 ?_
        obtain ⟨h4, hw⟩ := hw
        refine gm_iast hE hM hT 3 rfl h4 dX4_ends_96 ?_
        have hw := hw _ rfl
        generalize uA A_69 3 (((F_67 17) * 354) + x2_69) (A_69 1 x2_69) = A3 at hw ⊢
        refine g_iinc2 hE dX4_ends_97 (by decide) rfl ?_
        refine g_goto hE (tgt := 69) dX4_ends_100 (by decide) ?_
        exact hk_69 _ _ hw
      · have hw := hN9 q
        refine g_aldn0 hE dX4_ends_103 ?_
        refine g_dup hE dX4_ends_104 rfl ?_
        refine gm_geti hE hM hT 17 (by decide) rfl q2157 dX4_ends_105 ?_
        refine g_iconst hE dX4_ends_108 ?_
        refine g_iadd hE dX4_ends_109 ?_
        refine gm_put hE hM hT 17 (by decide) rfl q2157 rfl (ty := .int) (by decide +kernel) rfl rfl dX4_ends_110 ?_
        have hw := hw _ rfl
        generalize uF F_67 17 ((F_67 17) + 1) = F5 at hw ⊢
        refine g_ildn1 hE dX4_ends_113 ?_
        exact g_iret hE hR dX4_ends_114 (Nat.le_refl 0) (Nat.le_refl 0) rfl ⟨_, _, _, rfl, rfl, rfl, hw⟩
    · skip
      obtain ⟨h18, h19, hT20, hN21⟩ := hw
      refine g_icmp_ne hE (tgt := 67) dX4_ends_23 (by decide) h18 h19 (fun q => ?_) (fun q => ?_)
      · have hw := hT20 q
        refine g_iconst hE dX4_ends_26 ?_
        refine g_istn2 hE dX4_ends_27 (by decide) rfl ?_
        refine lq2_walk (fun (x2_28 : Int) (A_28 : mA) => G E (wsM M F A_28) (some z) 0 0 28 [some (aR (some (oM M))), some (aI x1), some (aI x2_28)] []) (fun k_28 hk_28 x2_28 A_28 hw => ?_) _ _ hw
        refine g_ildn2 hE dX4_ends_28 ?_
        refine g_sipush hE dX4_ends_29 (by decide) ?_
        obtain ⟨h14, h15, hT16, hN17⟩ := hw
        refine g_icmp_ge hE (tgt := 57) dX4_ends_32 (by decide) h14 h15 (fun q => ?_) (fun q => ?_)
        · have hw := hT16 q
          refine g_aldn0 hE dX4_ends_35 ?_
          refine gm_geta hE hM hT 3 (by decide) rfl q2143 dX4_ends_36 ?_
          refine g_ildn2 hE dX4_ends_39 ?_
          refine g_aldn0 hE dX4_ends_40 ?_
          refine gm_geta hE hM hT 3 (by decide) rfl q2143 dX4_ends_41 ?_
          refine g_ildn2 hE dX4_ends_44 ?_
          refine g_sipush hE dX4_ends_45 (by decide) ?_
          refine g_iadd hE dX4_ends_48 ?_
          obtain ⟨h10, hw⟩ := hw
          refine gm_iald hE hM hT 3 rfl h10 dX4_ends_49 ?_
          obtain ⟨h12, hw⟩ := hw
          refine gm_iast hE hM hT 3 rfl h12 dX4_ends_50 ?_
          have hw := hw _ rfl
          generalize uA A_28 3 x2_28 (A_28 3 (x2_28 + 354)) = A11 at hw ⊢
          refine g_iinc2 hE dX4_ends_51 (by decide) rfl ?_
          refine g_goto hE (tgt := 28) dX4_ends_54 (by decide) ?_
          exact hk_28 _ _ hw
        · have hw := hN17 q
          refine g_aldn0 hE dX4_ends_57 ?_
          refine g_dup hE dX4_ends_58 rfl ?_
          refine gm_geti hE hM hT 17 (by decide) rfl q2157 dX4_ends_59 ?_
          refine g_iconst hE dX4_ends_62 ?_
          refine g_isub hE dX4_ends_63 ?_
          refine gm_put hE hM hT 17 (by decide) rfl q2157 rfl (ty := .int) (by decide +kernel) rfl rfl dX4_ends_64 ?_
          have hw := hw _ rfl
          generalize uF F 17 ((F 17) - 1) = F13 at hw ⊢
          refine g_kl2 ?_
          exact hj_67 _ _ hw
      · have hw := hN21 q
        exact hj_67 _ _ hw

/-- land(IZ)I -/
def w4_land (x1 : Int) (x2 : Int) (F : mF) (A : mA) (Q : Int → mF → mA → Prop) : Prop :=
  w4_begins  F A (fun (A1 : mA) =>
  inR x1 ∧
  jn3 (fun (y0_25 : Int) (F_25 : mF) (A_25 : mA) => 
      Q y0_25 F_25 A_25)
    (fun (j_25 : Int → mF → mA → Prop) =>
    cIf (0 ≤ x1 ∧ x1 ≤ 191)
      (
      w4_lands x1 x2 F A1 (fun (r4 : Int) (F5 : mF) (A6 : mA) =>
      w4_ends r4 F5 A6 (fun (r7 : Int) (F8 : mF) (A9 : mA) =>
      j_25 r7 F8 A9)))
      (
      j_25 ((-1)) F A1)))
theorem hd_X4_land : yX4_land.cls = RX4 ∧ yX4_land.cls ≠ "java/lang/invoke/MethodHandle" ∧ yX4_land.cls ≠ "java/lang/invoke/VarHandle" ∧ (parseMethodDescriptor yX4_land.desc).map (fun d => d.parameters.length) = some 2 := by decide +kernel
set_option maxHeartbeats 4000000 in
theorem t4_land (M : MT) (hM : OkM M) (z : Nat) {x1 : Int} {x2 : Int} {F : mF} {A : mA} {Q : Int → mF → mA → Prop} (hw : w4_land x1 x2 F A Q) : CtM M z yX4_land cX4_land 3 (some .int) (k2_rm 4 90) [aR (some (oM M)), aI x1, aI x2] F A (PMiFA M z Q) := by
  refine Ct.intro (by decide) (Nat.le_of_ble_eq_true rfl) (fun E hE hR hT => ?_)
  have hT : TM E M := hT
  have hE : OkE E RX4 cX4_land 3 (some .int) := hE
  show G E (wsM M F A) (some z) 0 0 0 [some (aR (some (oM M))), some (aI x1), some (aI x2)] []
  unfold w4_land at hw
  refine g_aldn0 hE dX4_land_0 ?_
  refine gm_cVvA hE hR hM hT (As := []) (t4_begins M hM z hw) (lw_V q2247 q2249 qs46 q108 q2250) hd_X4_begins ⟨by decide, by decide⟩ rfl (Nat.le_of_ble_eq_true rfl) dX4_land_1 rfl (fun A1 hw => ?_)
  refine g_ildn1 hE dX4_land_4 ?_
  obtain ⟨h2, hw⟩ := hw
  refine gm_cSi hE hR hM hT (As := [aI x1]) (t4_isCell M hM z (s4_isCell h2)) (lw_S q2254 q2255 q108 q2256) hd_X4_isCell ⟨by decide, by decide⟩ rfl (Nat.le_of_ble_eq_true rfl) dX4_land_5 rfl (fun r3 hr3 => ?_)
  subst hr3
  refine jn3_walk (fun (y0_25 : Int) (F_25 : mF) (A_25 : mA) => G E (wsM M F_25 A_25) (some z) 0 0 25 [some (aR (some (oM M))), some (aI x1), some (aI x2)] [aI y0_25]) hw (fun y0_25 F_25 A_25 hw => ?_) (fun j_25 hj_25 hw => ?_)
  · skip
    exact g_iret hE hR dX4_land_25 (Nat.le_refl 0) (Nat.le_refl 0) rfl ⟨_, _, _, rfl, rfl, rfl, hw⟩
  · skip
    refine g_if_eq hE (tgt := 24) dX4_land_8 (by decide) bI_in (fun q => ?_) (fun q => ?_)
    · have hw := hw.2 (bI_eq0.mp q)
      refine g_iconst hE dX4_land_24 ?_
      exact hj_25 _ _ _ hw
    · have hw := hw.1 (bI_ne0.mp q)
      refine g_aldn0 hE dX4_land_11 ?_
      refine g_aldn0 hE dX4_land_12 ?_
      refine g_ildn1 hE dX4_land_13 ?_
      refine g_ildn2 hE dX4_land_14 ?_
      refine gm_cViFA hE hR hM hT (As := [aI x1, aI x2]) (t4_lands M hM z hw) (lw_V q2260 q2262 qs47 q108 q2263) hd_X4_lands ⟨by decide, by decide⟩ rfl (Nat.le_of_ble_eq_true rfl) dX4_land_15 rfl (fun r4 F5 A6 hw => ?_)
      refine gm_cViFA hE hR hM hT (As := [aI r4]) (t4_ends M hM z hw) (lw_V q2286 q2288 qs52 q108 q2289) hd_X4_ends ⟨by decide, by decide⟩ rfl (Nat.le_of_ble_eq_true rfl) dX4_land_18 rfl (fun r7 F8 A9 hw => ?_)
      refine g_goto hE (tgt := 25) dX4_land_21 (by decide) ?_
      exact hj_25 _ _ _ hw

/-- set(II)I -/
def w4_set (x1 : Int) (x2 : Int) (F : mF) (A : mA) (Q : Int → mF → mA → Prop) : Prop :=
  w4_begins  F A (fun (A1 : mA) =>
  inR x1 ∧
  jn0 (
      Q ((-2)) F A1)
    (fun (j_40 : Prop) =>
    cIf (0 ≤ x1 ∧ x1 ≤ 3)
      (
      jn1 (fun (y1_23 : Int) => 
          jn1 (fun (y2_34 : Int) => 
              inR x2 ∧ inR y1_23 ∧ inR y2_34 ∧
              cIf (y1_23 ≤ x2 ∧ x2 ≤ y2_34)
                (
                ib (0 + x1) 354 ∧
                ib (0 + x1) 354 ∧ ∀ A9 : mA, A9 = uA A1 0 (0 + x1) x2 →
                w4_ends (A1 0 (0 + x1)) F A9 (fun (r11 : Int) (F12 : mF) (A13 : mA) =>
                Q r11 F12 A13))
                (
                j_40))
            (fun (j_34 : Int → Prop) =>
            cEq x1 0
              (
              j_34 9)
              (
              j_34 99)))
        (fun (j_23 : Int → Prop) =>
        cEq x1 0
          (
          j_23 1)
          (
          j_23 0)))
      (
      j_40)))
theorem hd_X4_set : yX4_set.cls = RX4 ∧ yX4_set.cls ≠ "java/lang/invoke/MethodHandle" ∧ yX4_set.cls ≠ "java/lang/invoke/VarHandle" ∧ (parseMethodDescriptor yX4_set.desc).map (fun d => d.parameters.length) = some 2 := by decide +kernel
set_option maxHeartbeats 4000000 in
theorem t4_set (M : MT) (hM : OkM M) (z : Nat) {x1 : Int} {x2 : Int} {F : mF} {A : mA} {Q : Int → mF → mA → Prop} (hw : w4_set x1 x2 F A Q) : CtM M z yX4_set cX4_set 4 (some .int) (k2_rm 2 44) [aR (some (oM M)), aI x1, aI x2] F A (PMiFA M z Q) := by
  refine Ct.intro (by decide) (Nat.le_of_ble_eq_true rfl) (fun E hE hR hT => ?_)
  have hT : TM E M := hT
  have hE : OkE E RX4 cX4_set 4 (some .int) := hE
  show G E (wsM M F A) (some z) 0 0 0 [some (aR (some (oM M))), some (aI x1), some (aI x2), none] []
  unfold w4_set at hw
  refine g_aldn0 hE dX4_set_0 ?_
  refine gm_cVvA hE hR hM hT (As := []) (t4_begins M hM z hw) (lw_V q2247 q2249 qs46 q108 q2250) hd_X4_begins ⟨by decide, by decide⟩ rfl (Nat.le_of_ble_eq_true rfl) dX4_set_1 rfl (fun A1 hw => ?_)
  refine g_ildn1 hE dX4_set_4 ?_
  refine g_iconst hE dX4_set_5 ?_
  refine g_iconst hE dX4_set_6 ?_
  obtain ⟨h2, hw⟩ := hw
  refine gm_cSi hE hR hM hT (As := [aI x1, aI 0, aI 3]) (t4_isIn M hM z (s4_isIn h2 (by decide) (by decide))) (lw_S q2257 q2258 q108 q2259) hd_X4_isIn ⟨by decide, by decide⟩ rfl (Nat.le_of_ble_eq_true rfl) dX4_set_7 rfl (fun r3 hr3 => ?_)
  subst hr3
  refine jn0_walk (G E (wsM M F A1) (some z) 0 0 40 [some (aR (some (oM M))), some (aI x1), some (aI x2), none] []) hw (fun  hw => ?_) (fun j_40 hj_40 hw => ?_)
  · skip
    refine g_bipush hE dX4_set_40 (by decide) ?_
    exact g_iret hE hR dX4_set_42 (Nat.le_refl 0) (Nat.le_refl 0) rfl ⟨_, _, _, rfl, rfl, rfl, hw⟩
  · skip
    refine g_if_eq hE (tgt := 40) dX4_set_10 (by decide) bI_in (fun q => ?_) (fun q => ?_)
    · have hw := hw.2 (bI_eq0.mp q)
      exact hj_40  hw
    · have hw := hw.1 (bI_ne0.mp q)
      refine g_ildn2 hE dX4_set_13 ?_
      refine g_ildn1 hE dX4_set_14 ?_
      refine jn1_walk (fun (y1_23 : Int) => G E (wsM M F A1) (some z) 0 0 23 [some (aR (some (oM M))), some (aI x1), some (aI x2), none] [aI y1_23, aI x2]) hw (fun y1_23 hw => ?_) (fun j_23 hj_23 hw => ?_)
      · skip
        refine g_ildn1 hE dX4_set_23 ?_
        refine jn1_walk (fun (y2_34 : Int) => G E (wsM M F A1) (some z) 0 0 34 [some (aR (some (oM M))), some (aI x1), some (aI x2), none] [aI y2_34, aI y1_23, aI x2]) hw (fun y2_34 hw => ?_) (fun j_34 hj_34 hw => ?_)
        · skip
          obtain ⟨h4, hw⟩ := hw
          obtain ⟨h5, hw⟩ := hw
          obtain ⟨h6, hw⟩ := hw
          refine gm_cSi hE hR hM hT (As := [aI x2, aI y1_23, aI y2_34]) (t4_isIn M hM z (s4_isIn h4 h5 h6)) (lw_S q2257 q2258 q108 q2259) hd_X4_isIn ⟨by decide, by decide⟩ rfl (Nat.le_of_ble_eq_true rfl) dX4_set_34 rfl (fun r7 hr7 => ?_)
          subst hr7
          refine g_if_ne hE (tgt := 43) dX4_set_37 (by decide) bI_in (fun q => ?_) (fun q => ?_)
          · have hw := hw.2 (bI_eq0.mp q)
            exact hj_40  hw
          · have hw := hw.1 (bI_ne0.mp q)
            refine g_aldn0 hE dX4_set_43 ?_
            refine gm_geta hE hM hT 0 (by decide) rfl q2140 dX4_set_44 ?_
            refine g_iconst hE dX4_set_47 ?_
            refine g_ildn1 hE dX4_set_48 ?_
            refine g_iadd hE dX4_set_49 ?_
            obtain ⟨h8, hw⟩ := hw
            refine gm_iald hE hM hT 0 rfl h8 dX4_set_50 ?_
            refine g_istn3 hE dX4_set_51 (by decide) rfl ?_
            refine g_aldn0 hE dX4_set_52 ?_
            refine gm_geta hE hM hT 0 (by decide) rfl q2140 dX4_set_53 ?_
            refine g_iconst hE dX4_set_56 ?_
            refine g_ildn1 hE dX4_set_57 ?_
            refine g_iadd hE dX4_set_58 ?_
            refine g_ildn2 hE dX4_set_59 ?_
            obtain ⟨h10, hw⟩ := hw
            refine gm_iast hE hM hT 0 rfl h10 dX4_set_60 ?_
            have hw := hw _ rfl
            generalize uA A1 0 (0 + x1) x2 = A9 at hw ⊢
            refine g_aldn0 hE dX4_set_61 ?_
            refine g_ildn3 hE dX4_set_62 ?_
            refine gm_cViFA hE hR hM hT (As := [aI (A1 0 (0 + x1))]) (t4_ends M hM z hw) (lw_V q2286 q2288 qs52 q108 q2289) hd_X4_ends ⟨by decide, by decide⟩ rfl (Nat.le_of_ble_eq_true rfl) dX4_set_63 rfl (fun r11 F12 A13 hw => ?_)
            exact g_iret hE hR dX4_set_66 (Nat.le_refl 0) (Nat.le_refl 0) rfl ⟨_, _, _, rfl, rfl, rfl, hw⟩
        · skip
          obtain ⟨h14, h15, hT16, hN17⟩ := hw
          refine g_if_ne hE (tgt := 32) dX4_set_24 (by decide) h14 (fun q => ?_) (fun q => ?_)
          · have hw := hT16 q
            refine g_bipush hE dX4_set_27 (by decide) ?_
            refine g_goto hE (tgt := 34) dX4_set_29 (by decide) ?_
            exact hj_34 _ hw
          · have hw := hN17 q
            refine g_bipush hE dX4_set_32 (by decide) ?_
            exact hj_34 _ hw
      · skip
        obtain ⟨h18, h19, hT20, hN21⟩ := hw
        refine g_if_ne hE (tgt := 22) dX4_set_15 (by decide) h18 (fun q => ?_) (fun q => ?_)
        · have hw := hT20 q
          refine g_iconst hE dX4_set_18 ?_
          refine g_goto hE (tgt := 23) dX4_set_19 (by decide) ?_
          exact hj_23 _ hw
        · have hw := hN21 q
          refine g_iconst hE dX4_set_22 ?_
          exact hj_23 _ hw

/-- goes(I)V -/
def w4_goes (x1 : Int) (F : mF) (A : mA) (Q : mA → Prop) : Prop :=
  lq2 (fun (x2_2 : Int) (A_2 : mA) (k_2 : Int → mA → Prop) =>
    cLt x2_2 192
      (
      ib x2_2 192 ∧ ∀ A1 : mA, A1 = uA A_2 11 x2_2 9999 →
      k_2 (x2_2 + 1) A1)
      (
      ib (12 + x1) 354 ∧
      cEq (A_2 0 (12 + x1)) 1
        (
        Q A_2)
        (
        ib x1 192 ∧ ∀ A4 : mA, A4 = uA A_2 11 x1 0 →
        ∀ A6 : mA, A6 = uA A4 12 0 x1 →
        lq3 (fun (x2_56 : Int) (x3_56 : Int) (A_56 : mA) (k_56 : Int → Int → mA → Prop) =>
          cLt x3_56 x2_56
            (
            ib x3_56 192 ∧
            lq3 (fun (x2_72 : Int) (x5_72 : Int) (A_72 : mA) (k_72 : Int → Int → mA → Prop) =>
              cLt x5_72 4
                (
                jn1 (fun (y0_122 : Int) => 
                    inR y0_122 ∧
                    jn1 (fun (y0_182 : Int) => 
                        jn2 (fun (x2_219 : Int) (A_219 : mA) => 
                            k_72 x2_219 (x5_72 + 1) A_219)
                          (fun (j_219 : Int → mA → Prop) =>
                          cEq y0_182 0
                            (
                            j_219 x2_72 A_72)
                            (
                            ib (A_56 12 x3_56) 192 ∧
                            ib y0_122 192 ∧ ∀ A11 : mA, A11 = uA A_72 11 y0_122 ((A_72 11 (A_56 12 x3_56)) + 1) →
                            ib x2_72 192 ∧ ∀ A13 : mA, A13 = uA A11 12 x2_72 y0_122 →
                            j_219 (x2_72 + 1) A13)))
                      (fun (j_182 : Int → Prop) =>
                      jn0 (
                          j_182 0)
                        (fun (j_181 : Prop) =>
                        cIf (0 ≤ y0_122 ∧ y0_122 ≤ 191)
                          (
                          jn0 (
                              ib (12 + y0_122) 354 ∧
                              cEq (A_72 0 (12 + y0_122)) 0
                                (
                                ib y0_122 192 ∧
                                cEq (A_72 11 y0_122) 9999
                                  (
                                  j_182 1)
                                  (
                                  j_181))
                                (
                                j_181))
                            (fun (j_151 : Prop) =>
                            cLt x5_72 2
                              (
                              j_151)
                              (
                              (0 ≤ y0_122 ∧ y0_122 < 2147483648) ∧
                              (0 ≤ (A_56 12 x3_56) ∧ (A_56 12 x3_56) < 2147483648) ∧
                              cEq (y0_122 / 16) ((A_56 12 x3_56) / 16)
                                (
                                j_151)
                                (
                                j_181))))
                          (
                          j_181))))
                  (fun (j_122 : Int → Prop) =>
                  cEq x5_72 0
                    (
                    j_122 ((A_56 12 x3_56) - 16))
                    (
                    cEq x5_72 1
                      (
                      j_122 ((A_56 12 x3_56) + 16))
                      (
                      cEq x5_72 2
                        (
                        j_122 ((A_56 12 x3_56) - 1))
                        (
                        j_122 ((A_56 12 x3_56) + 1))))))
                (
                k_56 x2_72 (x3_56 + 1) A_72)) x2_56 0 A_56)
            (
            Q A_56)) 1 0 A6))) 0 A
theorem hd_X4_goes : yX4_goes.cls = RX4 ∧ yX4_goes.cls ≠ "java/lang/invoke/MethodHandle" ∧ yX4_goes.cls ≠ "java/lang/invoke/VarHandle" ∧ (parseMethodDescriptor yX4_goes.desc).map (fun d => d.parameters.length) = some 1 := by decide +kernel
set_option maxHeartbeats 4000000 in
theorem t4_goes (M : MT) (hM : OkM M) (z : Nat) {x1 : Int} {F : mF} {A : mA} {Q : mA → Prop} (hw : w4_goes x1 F A Q) : CtM M z yX4_goes cX4_goes 8 none (k2_rm 2 42) [aR (some (oM M)), aI x1] F A (PMvA M z F Q) := by
  refine Ct.intro (by decide) (Nat.le_of_ble_eq_true rfl) (fun E hE hR hT => ?_)
  have hT : TM E M := hT
  have hE : OkE E RX4 cX4_goes 8 none := hE
  show G E (wsM M F A) (some z) 0 0 0 [some (aR (some (oM M))), some (aI x1), none, none, none, none, none, none] []
  unfold w4_goes at hw
  refine g_iconst hE dX4_goes_0 ?_
  refine g_istn2 hE dX4_goes_1 (by decide) rfl ?_
  refine lq2_walk (fun (x2_2 : Int) (A_2 : mA) => G E (wsM M F A_2) (some z) 0 0 2 [some (aR (some (oM M))), some (aI x1), some (aI x2_2), none, none, none, none, none] []) (fun k_2 hk_2 x2_2 A_2 hw => ?_) _ _ hw
  refine g_ildn2 hE dX4_goes_2 ?_
  refine g_sipush hE dX4_goes_3 (by decide) ?_
  obtain ⟨h63, h64, hT65, hN66⟩ := hw
  refine g_icmp_ge hE (tgt := 24) dX4_goes_6 (by decide) h63 h64 (fun q => ?_) (fun q => ?_)
  · have hw := hT65 q
    refine g_aldn0 hE dX4_goes_9 ?_
    refine gm_geta hE hM hT 11 (by decide) rfl q2151 dX4_goes_10 ?_
    refine g_ildn2 hE dX4_goes_13 ?_
    refine g_sipush hE dX4_goes_14 (by decide) ?_
    obtain ⟨h2, hw⟩ := hw
    refine gm_iast hE hM hT 11 rfl h2 dX4_goes_17 ?_
    have hw := hw _ rfl
    generalize uA A_2 11 x2_2 9999 = A1 at hw ⊢
    refine g_iinc2 hE dX4_goes_18 (by decide) rfl ?_
    refine g_goto hE (tgt := 2) dX4_goes_21 (by decide) ?_
    exact hk_2 _ _ hw
  · have hw := hN66 q
    refine g_aldn0 hE dX4_goes_24 ?_
    refine gm_geta hE hM hT 0 (by decide) rfl q2140 dX4_goes_25 ?_
    refine g_bipush hE dX4_goes_28 (by decide) ?_
    refine g_ildn1 hE dX4_goes_30 ?_
    refine g_iadd hE dX4_goes_31 ?_
    obtain ⟨h3, hw⟩ := hw
    refine gm_iald hE hM hT 0 rfl h3 dX4_goes_32 ?_
    refine g_iconst hE dX4_goes_33 ?_
    obtain ⟨h59, h60, hT61, hN62⟩ := hw
    refine g_icmp_ne hE (tgt := 38) dX4_goes_34 (by decide) h59 h60 (fun q => ?_) (fun q => ?_)
    · have hw := hT61 q
      exact g_vret hE hR dX4_goes_37 (Nat.le_refl 0) (Nat.le_refl 0) ⟨_, rfl, rfl, rfl, hw⟩
    · have hw := hN62 q
      refine g_aldn0 hE dX4_goes_38 ?_
      refine gm_geta hE hM hT 11 (by decide) rfl q2151 dX4_goes_39 ?_
      refine g_ildn1 hE dX4_goes_42 ?_
      refine g_iconst hE dX4_goes_43 ?_
      obtain ⟨h5, hw⟩ := hw
      refine gm_iast hE hM hT 11 rfl h5 dX4_goes_44 ?_
      have hw := hw _ rfl
      generalize uA A_2 11 x1 0 = A4 at hw ⊢
      refine g_aldn0 hE dX4_goes_45 ?_
      refine gm_geta hE hM hT 12 (by decide) rfl q2152 dX4_goes_46 ?_
      refine g_iconst hE dX4_goes_49 ?_
      refine g_ildn1 hE dX4_goes_50 ?_
      refine gm_iast hE hM hT 12 rfl (by decide) dX4_goes_51 ?_
      have hw := hw _ rfl
      generalize uA A4 12 0 x1 = A6 at hw ⊢
      refine g_iconst hE dX4_goes_52 ?_
      refine g_istn2 hE dX4_goes_53 (by decide) rfl ?_
      refine g_iconst hE dX4_goes_54 ?_
      refine g_istn3 hE dX4_goes_55 (by decide) rfl ?_
      refine lq3_walk (fun (x2_56 : Int) (x3_56 : Int) (A_56 : mA) => G E (wsM M F A_56) (some z) 0 0 56 [some (aR (some (oM M))), some (aI x1), some (aI x2_56), some (aI x3_56), none, none, none, none] []) (fun k_56 hk_56 x2_56 x3_56 A_56 hw => ?_) _ _ _ hw
      refine g_ildn3 hE dX4_goes_56 ?_
      refine g_ildn2 hE dX4_goes_57 ?_
      obtain ⟨h55, h56, hT57, hN58⟩ := hw
      refine g_icmp_ge hE (tgt := 231) dX4_goes_58 (by decide) h55 h56 (fun q => ?_) (fun q => ?_)
      · have hw := hT57 q
        refine g_aldn0 hE dX4_goes_61 ?_
        refine gm_geta hE hM hT 12 (by decide) rfl q2152 dX4_goes_62 ?_
        refine g_ildn3 hE dX4_goes_65 ?_
        obtain ⟨h7, hw⟩ := hw
        refine gm_iald hE hM hT 12 rfl h7 dX4_goes_66 ?_
        refine g_ist4 hE dX4_goes_67 (by decide) rfl ?_
        refine g_iconst hE dX4_goes_69 ?_
        refine g_ist5 hE dX4_goes_70 (by decide) rfl ?_
        refine lq3_walk (fun (x2_72 : Int) (x5_72 : Int) (A_72 : mA) => G E (wsM M F A_72) (some z) 0 0 72 [some (aR (some (oM M))), some (aI x1), some (aI x2_72), some (aI x3_56), some (aI (A_56 12 x3_56)), some (aI x5_72), none, none] []) (fun k_72 hk_72 x2_72 x5_72 A_72 hw => ?_) _ _ _ hw
        refine g_ild5 hE dX4_goes_72 ?_
        refine g_iconst hE dX4_goes_74 ?_
        obtain ⟨h51, h52, hT53, hN54⟩ := hw
        refine g_icmp_ge hE (tgt := 225) dX4_goes_75 (by decide) h51 h52 (fun q => ?_) (fun q => ?_)
        · have hw := hT53 q
          refine g_ild5 hE dX4_goes_78 ?_
          refine jn1_walk (fun (y0_122 : Int) => G E (wsM M F A_72) (some z) 0 0 122 [some (aR (some (oM M))), some (aI x1), some (aI x2_72), some (aI x3_56), some (aI (A_56 12 x3_56)), some (aI x5_72), none, none] [aI y0_122]) hw (fun y0_122 hw => ?_) (fun j_122 hj_122 hw => ?_)
          · skip
            refine g_ist6 hE dX4_goes_122 (by decide) rfl ?_
            refine g_ild6 hE dX4_goes_124 ?_
            obtain ⟨h8, hw⟩ := hw
            refine gm_cSi hE hR hM hT (As := [aI y0_122]) (t4_isCell M hM z (s4_isCell h8)) (lw_S q2254 q2255 q108 q2256) hd_X4_isCell ⟨by decide, by decide⟩ rfl (Nat.le_of_ble_eq_true rfl) dX4_goes_126 rfl (fun r9 hr9 => ?_)
            subst hr9
            refine jn1_walk (fun (y0_182 : Int) => G E (wsM M F A_72) (some z) 0 0 182 [some (aR (some (oM M))), some (aI x1), some (aI x2_72), some (aI x3_56), some (aI (A_56 12 x3_56)), some (aI x5_72), some (aI y0_122), none] [aI y0_182]) hw (fun y0_182 hw => ?_) (fun j_182 hj_182 hw => ?_)
            · skip
              refine g_ist7 hE dX4_goes_182 (by decide) rfl ?_
              refine g_ild7 hE dX4_goes_184 ?_
              refine jn2_walk (fun (x2_219 : Int) (A_219 : mA) => G E (wsM M F A_219) (some z) 0 0 219 [some (aR (some (oM M))), some (aI x1), some (aI x2_219), some (aI x3_56), some (aI (A_56 12 x3_56)), some (aI x5_72), some (aI y0_122), some (aI y0_182)] []) hw (fun x2_219 A_219 hw => ?_) (fun j_219 hj_219 hw => ?_)
              · skip
                refine g_iinc5 hE dX4_goes_219 (by decide) rfl ?_
                refine g_goto hE (tgt := 72) dX4_goes_222 (by decide) ?_
                refine g_kl6 ?_
                refine g_kl7 ?_
                exact hk_72 _ _ _ hw
              · skip
                obtain ⟨h15, h16, hT17, hN18⟩ := hw
                refine g_if_ne hE (tgt := 192) dX4_goes_186 (by decide) h15 (fun q => ?_) (fun q => ?_)
                · have hw := hT17 q
                  refine g_goto hE (tgt := 219) dX4_goes_189 (by decide) ?_
                  exact hj_219 _ _ hw
                · have hw := hN18 q
                  refine g_aldn0 hE dX4_goes_192 ?_
                  refine gm_geta hE hM hT 11 (by decide) rfl q2151 dX4_goes_193 ?_
                  refine g_ild6 hE dX4_goes_196 ?_
                  refine g_aldn0 hE dX4_goes_198 ?_
                  refine gm_geta hE hM hT 11 (by decide) rfl q2151 dX4_goes_199 ?_
                  refine g_ild4 hE dX4_goes_202 ?_
                  obtain ⟨h10, hw⟩ := hw
                  refine gm_iald hE hM hT 11 rfl h10 dX4_goes_204 ?_
                  refine g_iconst hE dX4_goes_205 ?_
                  refine g_iadd hE dX4_goes_206 ?_
                  obtain ⟨h12, hw⟩ := hw
                  refine gm_iast hE hM hT 11 rfl h12 dX4_goes_207 ?_
                  have hw := hw _ rfl
                  generalize uA A_72 11 y0_122 ((A_72 11 (A_56 12 x3_56)) + 1) = A11 at hw ⊢
                  refine g_aldn0 hE dX4_goes_208 ?_
                  refine gm_geta hE hM hT 12 (by decide) rfl q2152 dX4_goes_209 ?_
                  refine g_ildn2 hE dX4_goes_212 ?_
                  refine g_ild6 hE dX4_goes_213 ?_
                  obtain ⟨h14, hw⟩ := hw
                  refine gm_iast hE hM hT 12 rfl h14 dX4_goes_215 ?_
                  have hw := hw _ rfl
                  generalize uA A11 12 x2_72 y0_122 = A13 at hw ⊢
                  refine g_iinc2 hE dX4_goes_216 (by decide) rfl ?_
                  exact hj_219 _ _ hw
            · skip
              refine jn0_walk (G E (wsM M F A_72) (some z) 0 0 181 [some (aR (some (oM M))), some (aI x1), some (aI x2_72), some (aI x3_56), some (aI (A_56 12 x3_56)), some (aI x5_72), some (aI y0_122), none] []) hw (fun  hw => ?_) (fun j_181 hj_181 hw => ?_)
              · skip
                refine g_iconst hE dX4_goes_181 ?_
                exact hj_182 _ hw
              · skip
                refine g_if_eq hE (tgt := 181) dX4_goes_129 (by decide) bI_in (fun q => ?_) (fun q => ?_)
                · have hw := hw.2 (bI_eq0.mp q)
                  exact hj_181  hw
                · have hw := hw.1 (bI_ne0.mp q)
                  refine g_ild5 hE dX4_goes_132 ?_
                  refine g_iconst hE dX4_goes_134 ?_
                  refine jn0_walk (G E (wsM M F A_72) (some z) 0 0 151 [some (aR (some (oM M))), some (aI x1), some (aI x2_72), some (aI x3_56), some (aI (A_56 12 x3_56)), some (aI x5_72), some (aI y0_122), none] []) hw (fun  hw => ?_) (fun j_151 hj_151 hw => ?_)
                  · skip
                    refine g_aldn0 hE dX4_goes_151 ?_
                    refine gm_geta hE hM hT 0 (by decide) rfl q2140 dX4_goes_152 ?_
                    refine g_bipush hE dX4_goes_155 (by decide) ?_
                    refine g_ild6 hE dX4_goes_157 ?_
                    refine g_iadd hE dX4_goes_159 ?_
                    obtain ⟨h19, hw⟩ := hw
                    refine gm_iald hE hM hT 0 rfl h19 dX4_goes_160 ?_
                    obtain ⟨h25, h26, hT27, hN28⟩ := hw
                    refine g_if_ne hE (tgt := 181) dX4_goes_161 (by decide) h25 (fun q => ?_) (fun q => ?_)
                    · have hw := hT27 q
                      refine g_aldn0 hE dX4_goes_164 ?_
                      refine gm_geta hE hM hT 11 (by decide) rfl q2151 dX4_goes_165 ?_
                      refine g_ild6 hE dX4_goes_168 ?_
                      obtain ⟨h20, hw⟩ := hw
                      refine gm_iald hE hM hT 11 rfl h20 dX4_goes_170 ?_
                      refine g_sipush hE dX4_goes_171 (by decide) ?_
                      obtain ⟨h21, h22, hT23, hN24⟩ := hw
                      refine g_icmp_ne hE (tgt := 181) dX4_goes_174 (by decide) h21 h22 (fun q => ?_) (fun q => ?_)
                      · have hw := hT23 q
                        refine g_iconst hE dX4_goes_177 ?_
                        refine g_goto hE (tgt := 182) dX4_goes_178 (by decide) ?_
                        exact hj_182 _ hw
                      · have hw := hN24 q
                        exact hj_181  hw
                    · have hw := hN28 q
                      exact hj_181  hw
                  · skip
                    obtain ⟨h35, h36, hT37, hN38⟩ := hw
                    refine g_icmp_lt hE (tgt := 151) dX4_goes_135 (by decide) h35 h36 (fun q => ?_) (fun q => ?_)
                    · have hw := hT37 q
                      exact hj_151  hw
                    · have hw := hN38 q
                      refine g_ild6 hE dX4_goes_138 ?_
                      refine g_bipush hE dX4_goes_140 (by decide) ?_
                      obtain ⟨h29, hw⟩ := hw
                      refine g_idiv hE dX4_goes_142 h29 (by decide) ?_
                      refine g_ild4 hE dX4_goes_143 ?_
                      refine g_bipush hE dX4_goes_145 (by decide) ?_
                      obtain ⟨h30, hw⟩ := hw
                      refine g_idiv hE dX4_goes_147 h30 (by decide) ?_
                      obtain ⟨h31, h32, hT33, hN34⟩ := hw
                      refine g_icmp_ne hE (tgt := 181) dX4_goes_148 (by decide) h31 h32 (fun q => ?_) (fun q => ?_)
                      · have hw := hT33 q
                        exact hj_151  hw
                      · have hw := hN34 q
                        exact hj_181  hw
          · skip
            obtain ⟨h47, h48, hT49, hN50⟩ := hw
            refine g_if_ne hE (tgt := 91) dX4_goes_80 (by decide) h47 (fun q => ?_) (fun q => ?_)
            · have hw := hT49 q
              refine g_ild4 hE dX4_goes_83 ?_
              refine g_bipush hE dX4_goes_85 (by decide) ?_
              refine g_isub hE dX4_goes_87 ?_
              refine g_goto hE (tgt := 122) dX4_goes_88 (by decide) ?_
              exact hj_122 _ hw
            · have hw := hN50 q
              refine g_ild5 hE dX4_goes_91 ?_
              refine g_iconst hE dX4_goes_93 ?_
              obtain ⟨h43, h44, hT45, hN46⟩ := hw
              refine g_icmp_ne hE (tgt := 105) dX4_goes_94 (by decide) h43 h44 (fun q => ?_) (fun q => ?_)
              · have hw := hT45 q
                refine g_ild4 hE dX4_goes_97 ?_
                refine g_bipush hE dX4_goes_99 (by decide) ?_
                refine g_iadd hE dX4_goes_101 ?_
                refine g_goto hE (tgt := 122) dX4_goes_102 (by decide) ?_
                exact hj_122 _ hw
              · have hw := hN46 q
                refine g_ild5 hE dX4_goes_105 ?_
                refine g_iconst hE dX4_goes_107 ?_
                obtain ⟨h39, h40, hT41, hN42⟩ := hw
                refine g_icmp_ne hE (tgt := 118) dX4_goes_108 (by decide) h39 h40 (fun q => ?_) (fun q => ?_)
                · have hw := hT41 q
                  refine g_ild4 hE dX4_goes_111 ?_
                  refine g_iconst hE dX4_goes_113 ?_
                  refine g_isub hE dX4_goes_114 ?_
                  refine g_goto hE (tgt := 122) dX4_goes_115 (by decide) ?_
                  exact hj_122 _ hw
                · have hw := hN42 q
                  refine g_ild4 hE dX4_goes_118 ?_
                  refine g_iconst hE dX4_goes_120 ?_
                  refine g_iadd hE dX4_goes_121 ?_
                  exact hj_122 _ hw
        · have hw := hN54 q
          refine g_iinc3 hE dX4_goes_225 (by decide) rfl ?_
          refine g_goto hE (tgt := 56) dX4_goes_228 (by decide) ?_
          refine g_kl4 ?_
          refine g_kl5 ?_
          exact hk_56 _ _ _ hw
      · have hw := hN58 q
        exact g_vret hE hR dX4_goes_231 (Nat.le_refl 0) (Nat.le_refl 0) ⟨_, rfl, rfl, rfl, hw⟩

/-- distance(II)I -/
def w4_distance (x1 : Int) (x2 : Int) (F : mF) (A : mA) (Q : Int → mA → Prop) : Prop :=
  inR x1 ∧
  jn0 (
      Q ((-1)) A)
    (fun (j_14 : Prop) =>
    cIf (0 ≤ x1 ∧ x1 ≤ 191)
      (
      inR x2 ∧
      cIf (0 ≤ x2 ∧ x2 ≤ 191)
        (
        w4_goes x1 F A (fun (A5 : mA) =>
        ib x2 192 ∧
        jn1 (fun (y0_44 : Int) => 
            Q y0_44 A5)
          (fun (j_44 : Int → Prop) =>
          cEq (A5 11 x2) 9999
            (
            j_44 ((-5)))
            (
            ib x2 192 ∧
            j_44 (A5 11 x2)))))
        (
        j_14))
      (
      j_14))
theorem hd_X4_distance : yX4_distance.cls = RX4 ∧ yX4_distance.cls ≠ "java/lang/invoke/MethodHandle" ∧ yX4_distance.cls ≠ "java/lang/invoke/VarHandle" ∧ (parseMethodDescriptor yX4_distance.desc).map (fun d => d.parameters.length) = some 2 := by decide +kernel
set_option maxHeartbeats 4000000 in
theorem t4_distance (M : MT) (hM : OkM M) (z : Nat) {x1 : Int} {x2 : Int} {F : mF} {A : mA} {Q : Int → mA → Prop} (hw : w4_distance x1 x2 F A Q) : CtM M z yX4_distance cX4_distance 3 (some .int) (k2_rm 3 69) [aR (some (oM M)), aI x1, aI x2] F A (PMiA M z F Q) := by
  refine Ct.intro (by decide) (Nat.le_of_ble_eq_true rfl) (fun E hE hR hT => ?_)
  have hT : TM E M := hT
  have hE : OkE E RX4 cX4_distance 3 (some .int) := hE
  show G E (wsM M F A) (some z) 0 0 0 [some (aR (some (oM M))), some (aI x1), some (aI x2)] []
  unfold w4_distance at hw
  refine g_ildn1 hE dX4_distance_0 ?_
  obtain ⟨h1, hw⟩ := hw
  refine gm_cSi hE hR hM hT (As := [aI x1]) (t4_isCell M hM z (s4_isCell h1)) (lw_S q2254 q2255 q108 q2256) hd_X4_isCell ⟨by decide, by decide⟩ rfl (Nat.le_of_ble_eq_true rfl) dX4_distance_1 rfl (fun r2 hr2 => ?_)
  subst hr2
  refine jn0_walk (G E (wsM M F A) (some z) 0 0 14 [some (aR (some (oM M))), some (aI x1), some (aI x2)] []) hw (fun  hw => ?_) (fun j_14 hj_14 hw => ?_)
  · skip
    refine g_iconst hE dX4_distance_14 ?_
    exact g_iret hE hR dX4_distance_15 (Nat.le_refl 0) (Nat.le_refl 0) rfl ⟨_, _, rfl, rfl, rfl, hw⟩
  · skip
    refine g_if_eq hE (tgt := 14) dX4_distance_4 (by decide) bI_in (fun q => ?_) (fun q => ?_)
    · have hw := hw.2 (bI_eq0.mp q)
      exact hj_14  hw
    · have hw := hw.1 (bI_ne0.mp q)
      refine g_ildn2 hE dX4_distance_7 ?_
      obtain ⟨h3, hw⟩ := hw
      refine gm_cSi hE hR hM hT (As := [aI x2]) (t4_isCell M hM z (s4_isCell h3)) (lw_S q2254 q2255 q108 q2256) hd_X4_isCell ⟨by decide, by decide⟩ rfl (Nat.le_of_ble_eq_true rfl) dX4_distance_8 rfl (fun r4 hr4 => ?_)
      subst hr4
      refine g_if_ne hE (tgt := 16) dX4_distance_11 (by decide) bI_in (fun q => ?_) (fun q => ?_)
      · have hw := hw.2 (bI_eq0.mp q)
        exact hj_14  hw
      · have hw := hw.1 (bI_ne0.mp q)
        refine g_aldn0 hE dX4_distance_16 ?_
        refine g_ildn1 hE dX4_distance_17 ?_
        refine gm_cVvA hE hR hM hT (As := [aI x1]) (t4_goes M hM z hw) (lw_V q2298 q2300 qs53 q108 q2301) hd_X4_goes ⟨by decide, by decide⟩ rfl (Nat.le_of_ble_eq_true rfl) dX4_distance_18 rfl (fun A5 hw => ?_)
        refine g_aldn0 hE dX4_distance_21 ?_
        refine gm_geta hE hM hT 11 (by decide) rfl q2151 dX4_distance_22 ?_
        refine g_ildn2 hE dX4_distance_25 ?_
        obtain ⟨h6, hw⟩ := hw
        refine gm_iald hE hM hT 11 rfl h6 dX4_distance_26 ?_
        refine g_sipush hE dX4_distance_27 (by decide) ?_
        refine jn1_walk (fun (y0_44 : Int) => G E (wsM M F A5) (some z) 0 0 44 [some (aR (some (oM M))), some (aI x1), some (aI x2)] [aI y0_44]) hw (fun y0_44 hw => ?_) (fun j_44 hj_44 hw => ?_)
        · skip
          exact g_iret hE hR dX4_distance_44 (Nat.le_refl 0) (Nat.le_refl 0) rfl ⟨_, _, rfl, rfl, rfl, hw⟩
        · skip
          obtain ⟨h8, h9, hT10, hN11⟩ := hw
          refine g_icmp_ne hE (tgt := 38) dX4_distance_30 (by decide) h8 h9 (fun q => ?_) (fun q => ?_)
          · have hw := hT10 q
            refine g_bipush hE dX4_distance_33 (by decide) ?_
            refine g_goto hE (tgt := 44) dX4_distance_35 (by decide) ?_
            exact hj_44 _ hw
          · have hw := hN11 q
            refine g_aldn0 hE dX4_distance_38 ?_
            refine gm_geta hE hM hT 11 (by decide) rfl q2151 dX4_distance_39 ?_
            refine g_ildn2 hE dX4_distance_42 ?_
            obtain ⟨h7, hw⟩ := hw
            refine gm_iald hE hM hT 11 rfl h7 dX4_distance_43 ?_
            exact hj_44 _ hw

/-- days(II)I -/
def w4_days (x1 : Int) (x2 : Int) (F : mF) (A : mA) (Q : Int → mA → Prop) : Prop :=
  w4_distance x1 x2 F A (fun (r1 : Int) (A2 : mA) =>
  jn1 (fun (y0_32 : Int) => 
      Q y0_32 A2)
    (fun (j_32 : Int → Prop) =>
    cLt r1 0
      (
      j_32 r1)
      (
      (0 ≤ ((r1 + (A2 0 0)) - 1) ∧ ((r1 + (A2 0 0)) - 1) < 2147483648) ∧ (0 < (A2 0 0) ∧ (A2 0 0) < 2147483648) ∧
      j_32 (((r1 + (A2 0 0)) - 1) / (A2 0 0)))))
theorem hd_X4_days : yX4_days.cls = RX4 ∧ yX4_days.cls ≠ "java/lang/invoke/MethodHandle" ∧ yX4_days.cls ≠ "java/lang/invoke/VarHandle" ∧ (parseMethodDescriptor yX4_days.desc).map (fun d => d.parameters.length) = some 2 := by decide +kernel
set_option maxHeartbeats 4000000 in
theorem t4_days (M : MT) (hM : OkM M) (z : Nat) {x1 : Int} {x2 : Int} {F : mF} {A : mA} {Q : Int → mA → Prop} (hw : w4_days x1 x2 F A Q) : CtM M z yX4_days cX4_days 4 (some .int) (k2_rm 4 91) [aR (some (oM M)), aI x1, aI x2] F A (PMiA M z F Q) := by
  refine Ct.intro (by decide) (Nat.le_of_ble_eq_true rfl) (fun E hE hR hT => ?_)
  have hT : TM E M := hT
  have hE : OkE E RX4 cX4_days 4 (some .int) := hE
  show G E (wsM M F A) (some z) 0 0 0 [some (aR (some (oM M))), some (aI x1), some (aI x2), none] []
  unfold w4_days at hw
  refine g_aldn0 hE dX4_days_0 ?_
  refine g_ildn1 hE dX4_days_1 ?_
  refine g_ildn2 hE dX4_days_2 ?_
  refine gm_cViA hE hR hM hT (As := [aI x1, aI x2]) (t4_distance M hM z hw) (lw_V q2306 q2295 q2296 q108 q2297) hd_X4_distance ⟨by decide, by decide⟩ rfl (Nat.le_of_ble_eq_true rfl) dX4_days_3 rfl (fun r1 A2 hw => ?_)
  refine g_istn3 hE dX4_days_6 (by decide) rfl ?_
  refine g_ildn3 hE dX4_days_7 ?_
  refine jn1_walk (fun (y0_32 : Int) => G E (wsM M F A2) (some z) 0 0 32 [some (aR (some (oM M))), some (aI x1), some (aI x2), some (aI r1)] [aI y0_32]) hw (fun y0_32 hw => ?_) (fun j_32 hj_32 hw => ?_)
  · skip
    exact g_iret hE hR dX4_days_32 (Nat.le_refl 0) (Nat.le_refl 0) rfl ⟨_, _, rfl, rfl, rfl, hw⟩
  · skip
    obtain ⟨h5, h6, hT7, hN8⟩ := hw
    refine g_if_ge hE (tgt := 15) dX4_days_8 (by decide) h5 (fun q => ?_) (fun q => ?_)
    · have hw := hT7 q
      refine g_ildn3 hE dX4_days_11 ?_
      refine g_goto hE (tgt := 32) dX4_days_12 (by decide) ?_
      exact hj_32 _ hw
    · have hw := hN8 q
      refine g_ildn3 hE dX4_days_15 ?_
      refine g_aldn0 hE dX4_days_16 ?_
      refine gm_geta hE hM hT 0 (by decide) rfl q2140 dX4_days_17 ?_
      refine g_iconst hE dX4_days_20 ?_
      refine gm_iald hE hM hT 0 rfl (by decide) dX4_days_21 ?_
      refine g_iadd hE dX4_days_22 ?_
      refine g_iconst hE dX4_days_23 ?_
      refine g_isub hE dX4_days_24 ?_
      refine g_aldn0 hE dX4_days_25 ?_
      refine gm_geta hE hM hT 0 (by decide) rfl q2140 dX4_days_26 ?_
      refine g_iconst hE dX4_days_29 ?_
      refine gm_iald hE hM hT 0 rfl (by decide) dX4_days_30 ?_
      obtain ⟨h3, h4, hw⟩ := hw
      refine g_idiv hE dX4_days_31 h3 h4 ?_
      exact hj_32 _ hw

/-- comes(II)I -/
def w4_comes (x1 : Int) (x2 : Int) (F : mF) (A : mA) (Q : Int → mF → mA → Prop) : Prop :=
  cEq (A 0 11) 10
    (
    w4_refuses 2 10 F A (fun (r1 : Int) (F2 : mF) =>
    Q r1 F2 A))
    (
    lq2 (fun (x4_31 : Int) (A_31 : mA) (k_31 : Int → mA → Prop) =>
      cLt x4_31 15
        (
        ib (204 + 15 * (A 0 11) + x4_31) 354 ∧ ∀ A4 : mA, A4 = uA A_31 0 (204 + 15 * (A 0 11) + x4_31) 0 →
        k_31 (x4_31 + 1) A4)
        (
        ib (204 + 15 * (A 0 11) + 0) 354 ∧ ∀ A7 : mA, A7 = uA A_31 0 (204 + 15 * (A 0 11) + 0) x1 →
        ib (204 + 15 * (A 0 11) + 1) 354 ∧ ∀ A10 : mA, A10 = uA A7 0 (204 + 15 * (A 0 11) + 1) x2 →
        ∀ A12 : mA, A12 = uA A10 0 11 ((A10 0 11) + 1) →
        Q (A 0 11) F A12)) 0 A)
theorem hd_X4_comes : yX4_comes.cls = RX4 ∧ yX4_comes.cls ≠ "java/lang/invoke/MethodHandle" ∧ yX4_comes.cls ≠ "java/lang/invoke/VarHandle" ∧ (parseMethodDescriptor yX4_comes.desc).map (fun d => d.parameters.length) = some 2 := by decide +kernel
set_option maxHeartbeats 4000000 in
theorem t4_comes (M : MT) (hM : OkM M) (z : Nat) {x1 : Int} {x2 : Int} {F : mF} {A : mA} {Q : Int → mF → mA → Prop} (hw : w4_comes x1 x2 F A Q) : CtM M z yX4_comes cX4_comes 5 (some .int) (k2_rm 1 22) [aR (some (oM M)), aI x1, aI x2] F A (PMiFA M z Q) := by
  refine Ct.intro (by decide) (Nat.le_of_ble_eq_true rfl) (fun E hE hR hT => ?_)
  have hT : TM E M := hT
  have hE : OkE E RX4 cX4_comes 5 (some .int) := hE
  show G E (wsM M F A) (some z) 0 0 0 [some (aR (some (oM M))), some (aI x1), some (aI x2), none, none] []
  unfold w4_comes at hw
  refine g_aldn0 hE dX4_comes_0 ?_
  refine gm_geta hE hM hT 0 (by decide) rfl q2140 dX4_comes_1 ?_
  refine g_bipush hE dX4_comes_4 (by decide) ?_
  refine gm_iald hE hM hT 0 rfl (by decide) dX4_comes_6 ?_
  refine g_bipush hE dX4_comes_7 (by decide) ?_
  obtain ⟨h17, h18, hT19, hN20⟩ := hw
  refine g_icmp_ne hE (tgt := 20) dX4_comes_9 (by decide) h17 h18 (fun q => ?_) (fun q => ?_)
  · have hw := hT19 q
    refine g_aldn0 hE dX4_comes_12 ?_
    refine g_iconst hE dX4_comes_13 ?_
    refine g_bipush hE dX4_comes_14 (by decide) ?_
    refine gm_cViF hE hR hM hT (As := [aI 2, aI 10]) (t4_refuses M hM z hw) (lw_V q2278 q2280 qs50 q108 q2281) hd_X4_refuses ⟨by decide, by decide⟩ rfl (Nat.le_of_ble_eq_true rfl) dX4_comes_16 rfl (fun r1 F2 hw => ?_)
    exact g_iret hE hR dX4_comes_19 (Nat.le_refl 0) (Nat.le_refl 0) rfl ⟨_, _, _, rfl, rfl, rfl, hw⟩
  · have hw := hN20 q
    refine g_aldn0 hE dX4_comes_20 ?_
    refine gm_geta hE hM hT 0 (by decide) rfl q2140 dX4_comes_21 ?_
    refine g_bipush hE dX4_comes_24 (by decide) ?_
    refine gm_iald hE hM hT 0 rfl (by decide) dX4_comes_26 ?_
    refine g_istn3 hE dX4_comes_27 (by decide) rfl ?_
    refine g_iconst hE dX4_comes_28 ?_
    refine g_ist4 hE dX4_comes_29 (by decide) rfl ?_
    refine lq2_walk (fun (x4_31 : Int) (A_31 : mA) => G E (wsM M F A_31) (some z) 0 0 31 [some (aR (some (oM M))), some (aI x1), some (aI x2), some (aI (A 0 11)), some (aI x4_31)] []) (fun k_31 hk_31 x4_31 A_31 hw => ?_) _ _ hw
    refine g_ild4 hE dX4_comes_31 ?_
    refine g_bipush hE dX4_comes_33 (by decide) ?_
    obtain ⟨h13, h14, hT15, hN16⟩ := hw
    refine g_icmp_ge hE (tgt := 56) dX4_comes_35 (by decide) h13 h14 (fun q => ?_) (fun q => ?_)
    · have hw := hT15 q
      refine g_aldn0 hE dX4_comes_38 ?_
      refine gm_geta hE hM hT 0 (by decide) rfl q2140 dX4_comes_39 ?_
      refine g_ildn3 hE dX4_comes_42 ?_
      refine g_ild4 hE dX4_comes_43 ?_
      refine gm_cSi hE hR hM hT (As := [aI (A 0 11), aI x4_31]) (t4_at M hM z (s4_at )) (lw_S q2268 q2269 q108 q2270) hd_X4_at ⟨by decide, by decide⟩ rfl (Nat.le_of_ble_eq_true rfl) dX4_comes_45 rfl (fun r3 hr3 => ?_)
      subst hr3
      refine g_iconst hE dX4_comes_48 ?_
      obtain ⟨h5, hw⟩ := hw
      refine gm_iast hE hM hT 0 rfl h5 dX4_comes_49 ?_
      have hw := hw _ rfl
      generalize uA A_31 0 (204 + 15 * (A 0 11) + x4_31) 0 = A4 at hw ⊢
      refine g_iinc4 hE dX4_comes_50 (by decide) rfl ?_
      refine g_goto hE (tgt := 31) dX4_comes_53 (by decide) ?_
      exact hk_31 _ _ hw
    · have hw := hN16 q
      refine g_aldn0 hE dX4_comes_56 ?_
      refine gm_geta hE hM hT 0 (by decide) rfl q2140 dX4_comes_57 ?_
      refine g_ildn3 hE dX4_comes_60 ?_
      refine g_iconst hE dX4_comes_61 ?_
      refine gm_cSi hE hR hM hT (As := [aI (A 0 11), aI 0]) (t4_at M hM z (s4_at )) (lw_S q2268 q2269 q108 q2270) hd_X4_at ⟨by decide, by decide⟩ rfl (Nat.le_of_ble_eq_true rfl) dX4_comes_62 rfl (fun r6 hr6 => ?_)
      subst hr6
      refine g_ildn1 hE dX4_comes_65 ?_
      obtain ⟨h8, hw⟩ := hw
      refine gm_iast hE hM hT 0 rfl h8 dX4_comes_66 ?_
      have hw := hw _ rfl
      generalize uA A_31 0 (204 + 15 * (A 0 11) + 0) x1 = A7 at hw ⊢
      refine g_aldn0 hE dX4_comes_67 ?_
      refine gm_geta hE hM hT 0 (by decide) rfl q2140 dX4_comes_68 ?_
      refine g_ildn3 hE dX4_comes_71 ?_
      refine g_iconst hE dX4_comes_72 ?_
      refine gm_cSi hE hR hM hT (As := [aI (A 0 11), aI 1]) (t4_at M hM z (s4_at )) (lw_S q2268 q2269 q108 q2270) hd_X4_at ⟨by decide, by decide⟩ rfl (Nat.le_of_ble_eq_true rfl) dX4_comes_73 rfl (fun r9 hr9 => ?_)
      subst hr9
      refine g_ildn2 hE dX4_comes_76 ?_
      obtain ⟨h11, hw⟩ := hw
      refine gm_iast hE hM hT 0 rfl h11 dX4_comes_77 ?_
      have hw := hw _ rfl
      generalize uA A7 0 (204 + 15 * (A 0 11) + 1) x2 = A10 at hw ⊢
      refine g_aldn0 hE dX4_comes_78 ?_
      refine gm_geta hE hM hT 0 (by decide) rfl q2140 dX4_comes_79 ?_
      refine g_bipush hE dX4_comes_82 (by decide) ?_
      refine g_dup2 hE dX4_comes_84 rfl rfl ?_
      refine gm_iald hE hM hT 0 rfl (by decide) dX4_comes_85 ?_
      refine g_iconst hE dX4_comes_86 ?_
      refine g_iadd hE dX4_comes_87 ?_
      refine gm_iast hE hM hT 0 rfl (by decide) dX4_comes_88 ?_
      have hw := hw _ rfl
      generalize uA A10 0 11 ((A10 0 11) + 1) = A12 at hw ⊢
      refine g_ildn3 hE dX4_comes_89 ?_
      exact g_iret hE hR dX4_comes_90 (Nat.le_refl 0) (Nat.le_refl 0) rfl ⟨_, _, _, rfl, rfl, rfl, hw⟩

/-- page(II)I -/
def w4_page (x1 : Int) (x2 : Int) (F : mF) (A : mA) (Q : Int → mF → mA → Prop) : Prop :=
  w4_begins  F A (fun (A1 : mA) =>
  inR x1 ∧
  jn3 (fun (y0_38 : Int) (F_38 : mF) (A_38 : mA) => 
      Q y0_38 F_38 A_38)
    (fun (j_38 : Int → mF → mA → Prop) =>
    jn0 (
        j_38 ((-2)) F A1)
      (fun (j_36 : Prop) =>
      cIf (0 ≤ x1 ∧ x1 ≤ 2)
        (
        inR x2 ∧
        cIf (0 ≤ x2 ∧ x2 ≤ 99)
          (
          w4_comes x1 x2 F A1 (fun (r6 : Int) (F7 : mF) (A8 : mA) =>
          w4_ends r6 F7 A8 (fun (r9 : Int) (F10 : mF) (A11 : mA) =>
          j_38 r9 F10 A11)))
          (
          j_36))
        (
        j_36))))
theorem hd_X4_page : yX4_page.cls = RX4 ∧ yX4_page.cls ≠ "java/lang/invoke/MethodHandle" ∧ yX4_page.cls ≠ "java/lang/invoke/VarHandle" ∧ (parseMethodDescriptor yX4_page.desc).map (fun d => d.parameters.length) = some 2 := by decide +kernel
set_option maxHeartbeats 4000000 in
theorem t4_page (M : MT) (hM : OkM M) (z : Nat) {x1 : Int} {x2 : Int} {F : mF} {A : mA} {Q : Int → mF → mA → Prop} (hw : w4_page x1 x2 F A Q) : CtM M z yX4_page cX4_page 3 (some .int) (k2_rm 2 46) [aR (some (oM M)), aI x1, aI x2] F A (PMiFA M z Q) := by
  refine Ct.intro (by decide) (Nat.le_of_ble_eq_true rfl) (fun E hE hR hT => ?_)
  have hT : TM E M := hT
  have hE : OkE E RX4 cX4_page 3 (some .int) := hE
  show G E (wsM M F A) (some z) 0 0 0 [some (aR (some (oM M))), some (aI x1), some (aI x2)] []
  unfold w4_page at hw
  refine g_aldn0 hE dX4_page_0 ?_
  refine gm_cVvA hE hR hM hT (As := []) (t4_begins M hM z hw) (lw_V q2247 q2249 qs46 q108 q2250) hd_X4_begins ⟨by decide, by decide⟩ rfl (Nat.le_of_ble_eq_true rfl) dX4_page_1 rfl (fun A1 hw => ?_)
  refine g_ildn1 hE dX4_page_4 ?_
  refine g_iconst hE dX4_page_5 ?_
  refine g_iconst hE dX4_page_6 ?_
  obtain ⟨h2, hw⟩ := hw
  refine gm_cSi hE hR hM hT (As := [aI x1, aI 0, aI 2]) (t4_isIn M hM z (s4_isIn h2 (by decide) (by decide))) (lw_S q2257 q2258 q108 q2259) hd_X4_isIn ⟨by decide, by decide⟩ rfl (Nat.le_of_ble_eq_true rfl) dX4_page_7 rfl (fun r3 hr3 => ?_)
  subst hr3
  refine jn3_walk (fun (y0_38 : Int) (F_38 : mF) (A_38 : mA) => G E (wsM M F_38 A_38) (some z) 0 0 38 [some (aR (some (oM M))), some (aI x1), some (aI x2)] [aI y0_38]) hw (fun y0_38 F_38 A_38 hw => ?_) (fun j_38 hj_38 hw => ?_)
  · skip
    exact g_iret hE hR dX4_page_38 (Nat.le_refl 0) (Nat.le_refl 0) rfl ⟨_, _, _, rfl, rfl, rfl, hw⟩
  · skip
    refine jn0_walk (G E (wsM M F A1) (some z) 0 0 36 [some (aR (some (oM M))), some (aI x1), some (aI x2)] []) hw (fun  hw => ?_) (fun j_36 hj_36 hw => ?_)
    · skip
      refine g_bipush hE dX4_page_36 (by decide) ?_
      exact hj_38 _ _ _ hw
    · skip
      refine g_if_eq hE (tgt := 36) dX4_page_10 (by decide) bI_in (fun q => ?_) (fun q => ?_)
      · have hw := hw.2 (bI_eq0.mp q)
        exact hj_36  hw
      · have hw := hw.1 (bI_ne0.mp q)
        refine g_ildn2 hE dX4_page_13 ?_
        refine g_iconst hE dX4_page_14 ?_
        refine g_bipush hE dX4_page_15 (by decide) ?_
        obtain ⟨h4, hw⟩ := hw
        refine gm_cSi hE hR hM hT (As := [aI x2, aI 0, aI 99]) (t4_isIn M hM z (s4_isIn h4 (by decide) (by decide))) (lw_S q2257 q2258 q108 q2259) hd_X4_isIn ⟨by decide, by decide⟩ rfl (Nat.le_of_ble_eq_true rfl) dX4_page_17 rfl (fun r5 hr5 => ?_)
        subst hr5
        refine g_if_eq hE (tgt := 36) dX4_page_20 (by decide) bI_in (fun q => ?_) (fun q => ?_)
        · have hw := hw.2 (bI_eq0.mp q)
          exact hj_36  hw
        · have hw := hw.1 (bI_ne0.mp q)
          refine g_aldn0 hE dX4_page_23 ?_
          refine g_aldn0 hE dX4_page_24 ?_
          refine g_ildn1 hE dX4_page_25 ?_
          refine g_ildn2 hE dX4_page_26 ?_
          refine gm_cViFA hE hR hM hT (As := [aI x1, aI x2]) (t4_comes M hM z hw) (lw_V q2311 q2313 qs54 q108 q2314) hd_X4_comes ⟨by decide, by decide⟩ rfl (Nat.le_of_ble_eq_true rfl) dX4_page_27 rfl (fun r6 F7 A8 hw => ?_)
          refine gm_cViFA hE hR hM hT (As := [aI r6]) (t4_ends M hM z hw) (lw_V q2286 q2288 qs52 q108 q2289) hd_X4_ends ⟨by decide, by decide⟩ rfl (Nat.le_of_ble_eq_true rfl) dX4_page_30 rfl (fun r9 F10 A11 hw => ?_)
          refine g_goto hE (tgt := 38) dX4_page_33 (by decide) ?_
          exact hj_38 _ _ _ hw

/-- isPage(I)Z -/
def w4_isPage (x1 : Int) (F : mF) (A : mA) (Q : Int → Prop) : Prop :=
  inR x1 ∧ inR ((A 0 11) - 1) ∧
  Q (bI (0 ≤ x1 ∧ x1 ≤ ((A 0 11) - 1)))
theorem hd_X4_isPage : yX4_isPage.cls = RX4 ∧ yX4_isPage.cls ≠ "java/lang/invoke/MethodHandle" ∧ yX4_isPage.cls ≠ "java/lang/invoke/VarHandle" ∧ (parseMethodDescriptor yX4_isPage.desc).map (fun d => d.parameters.length) = some 1 := by decide +kernel
set_option maxHeartbeats 4000000 in
theorem t4_isPage (M : MT) (hM : OkM M) (z : Nat) {x1 : Int} {F : mF} {A : mA} {Q : Int → Prop} (hw : w4_isPage x1 F A Q) : CtM M z yX4_isPage cX4_isPage 2 (some .boolean) (k2_rm 1 22) [aR (some (oM M)), aI x1] F A (PMi M z F A Q) := by
  refine Ct.intro (by decide) (Nat.le_of_ble_eq_true rfl) (fun E hE hR hT => ?_)
  have hT : TM E M := hT
  have hE : OkE E RX4 cX4_isPage 2 (some .boolean) := hE
  show G E (wsM M F A) (some z) 0 0 0 [some (aR (some (oM M))), some (aI x1)] []
  unfold w4_isPage at hw
  refine g_ildn1 hE dX4_isPage_0 ?_
  refine g_iconst hE dX4_isPage_1 ?_
  refine g_aldn0 hE dX4_isPage_2 ?_
  refine gm_geta hE hM hT 0 (by decide) rfl q2140 dX4_isPage_3 ?_
  refine g_bipush hE dX4_isPage_6 (by decide) ?_
  refine gm_iald hE hM hT 0 rfl (by decide) dX4_isPage_8 ?_
  refine g_iconst hE dX4_isPage_9 ?_
  refine g_isub hE dX4_isPage_10 ?_
  obtain ⟨h1, hw⟩ := hw
  obtain ⟨h2, hw⟩ := hw
  refine gm_cSi hE hR hM hT (As := [aI x1, aI 0, aI ((A 0 11) - 1)]) (t4_isIn M hM z (s4_isIn h1 (by decide) h2)) (lw_S q2257 q2258 q108 q2259) hd_X4_isIn ⟨by decide, by decide⟩ rfl (Nat.le_of_ble_eq_true rfl) dX4_isPage_11 rfl (fun r3 hr3 => ?_)
  subst hr3
  exact g_iret hE hR dX4_isPage_14 (Nat.le_refl 0) (Nat.le_refl 0) narrow_bI ⟨_, rfl, rfl, rfl, hw⟩

/-- adds(IIII)I -/
def w4_adds (x1 : Int) (x2 : Int) (x3 : Int) (x4 : Int) (F : mF) (A : mA) (Q : Int → mF → mA → Prop) : Prop :=
  ib (204 + 15 * x1 + 2) 354 ∧
  cEq (A 0 (204 + 15 * x1 + 2)) 3
    (
    w4_refuses 2 3 F A (fun (r3 : Int) (F4 : mF) =>
    Q r3 F4 A))
    (
    ib (204 + 15 * x1 + 3 + 4 * (A 0 (204 + 15 * x1 + 2)) + 0) 354 ∧ ∀ A6 : mA, A6 = uA A 0 (204 + 15 * x1 + 3 + 4 * (A 0 (204 + 15 * x1 + 2)) + 0) x2 →
    ib (204 + 15 * x1 + 3 + 4 * (A 0 (204 + 15 * x1 + 2)) + 1) 354 ∧ ∀ A9 : mA, A9 = uA A6 0 (204 + 15 * x1 + 3 + 4 * (A 0 (204 + 15 * x1 + 2)) + 1) x3 →
    ib (204 + 15 * x1 + 3 + 4 * (A 0 (204 + 15 * x1 + 2)) + 2) 354 ∧ ∀ A12 : mA, A12 = uA A9 0 (204 + 15 * x1 + 3 + 4 * (A 0 (204 + 15 * x1 + 2)) + 2) x4 →
    ib (204 + 15 * x1 + 3 + 4 * (A 0 (204 + 15 * x1 + 2)) + 3) 354 ∧ ∀ A15 : mA, A15 = uA A12 0 (204 + 15 * x1 + 3 + 4 * (A 0 (204 + 15 * x1 + 2)) + 3) 0 →
    ib (204 + 15 * x1 + 2) 354 ∧
    ib (204 + 15 * x1 + 2) 354 ∧ ∀ A19 : mA, A19 = uA A15 0 (204 + 15 * x1 + 2) ((A15 0 (204 + 15 * x1 + 2)) + 1) →
    Q (A 0 (204 + 15 * x1 + 2)) F A19)
theorem hd_X4_adds : yX4_adds.cls = RX4 ∧ yX4_adds.cls ≠ "java/lang/invoke/MethodHandle" ∧ yX4_adds.cls ≠ "java/lang/invoke/VarHandle" ∧ (parseMethodDescriptor yX4_adds.desc).map (fun d => d.parameters.length) = some 4 := by decide +kernel
set_option maxHeartbeats 4000000 in
theorem t4_adds (M : MT) (hM : OkM M) (z : Nat) {x1 : Int} {x2 : Int} {x3 : Int} {x4 : Int} {F : mF} {A : mA} {Q : Int → mF → mA → Prop} (hw : w4_adds x1 x2 x3 x4 F A Q) : CtM M z yX4_adds cX4_adds 6 (some .int) (k2_rm 1 22) [aR (some (oM M)), aI x1, aI x2, aI x3, aI x4] F A (PMiFA M z Q) := by
  refine Ct.intro (by decide) (Nat.le_of_ble_eq_true rfl) (fun E hE hR hT => ?_)
  have hT : TM E M := hT
  have hE : OkE E RX4 cX4_adds 6 (some .int) := hE
  show G E (wsM M F A) (some z) 0 0 0 [some (aR (some (oM M))), some (aI x1), some (aI x2), some (aI x3), some (aI x4), none] []
  unfold w4_adds at hw
  refine g_aldn0 hE dX4_adds_0 ?_
  refine gm_geta hE hM hT 0 (by decide) rfl q2140 dX4_adds_1 ?_
  refine g_ildn1 hE dX4_adds_4 ?_
  refine g_iconst hE dX4_adds_5 ?_
  refine gm_cSi hE hR hM hT (As := [aI x1, aI 2]) (t4_at M hM z (s4_at )) (lw_S q2268 q2269 q108 q2270) hd_X4_at ⟨by decide, by decide⟩ rfl (Nat.le_of_ble_eq_true rfl) dX4_adds_6 rfl (fun r1 hr1 => ?_)
  subst hr1
  obtain ⟨h2, hw⟩ := hw
  refine gm_iald hE hM hT 0 rfl h2 dX4_adds_9 ?_
  refine g_ist5 hE dX4_adds_10 (by decide) rfl ?_
  refine g_ild5 hE dX4_adds_12 ?_
  refine g_iconst hE dX4_adds_14 ?_
  obtain ⟨h21, h22, hT23, hN24⟩ := hw
  refine g_icmp_ne hE (tgt := 25) dX4_adds_15 (by decide) h21 h22 (fun q => ?_) (fun q => ?_)
  · have hw := hT23 q
    refine g_aldn0 hE dX4_adds_18 ?_
    refine g_iconst hE dX4_adds_19 ?_
    refine g_iconst hE dX4_adds_20 ?_
    refine gm_cViF hE hR hM hT (As := [aI 2, aI 3]) (t4_refuses M hM z hw) (lw_V q2278 q2280 qs50 q108 q2281) hd_X4_refuses ⟨by decide, by decide⟩ rfl (Nat.le_of_ble_eq_true rfl) dX4_adds_21 rfl (fun r3 F4 hw => ?_)
    exact g_iret hE hR dX4_adds_24 (Nat.le_refl 0) (Nat.le_refl 0) rfl ⟨_, _, _, rfl, rfl, rfl, hw⟩
  · have hw := hN24 q
    refine g_aldn0 hE dX4_adds_25 ?_
    refine gm_geta hE hM hT 0 (by decide) rfl q2140 dX4_adds_26 ?_
    refine g_ildn1 hE dX4_adds_29 ?_
    refine g_ild5 hE dX4_adds_30 ?_
    refine g_iconst hE dX4_adds_32 ?_
    refine gm_cSi hE hR hM hT (As := [aI x1, aI (A 0 (204 + 15 * x1 + 2)), aI 0]) (t4_of M hM z (s4_of )) (lw_S q2271 q2272 q108 q2273) hd_X4_of ⟨by decide, by decide⟩ rfl (Nat.le_of_ble_eq_true rfl) dX4_adds_33 rfl (fun r5 hr5 => ?_)
    subst hr5
    refine g_ildn2 hE dX4_adds_36 ?_
    obtain ⟨h7, hw⟩ := hw
    refine gm_iast hE hM hT 0 rfl h7 dX4_adds_37 ?_
    have hw := hw _ rfl
    generalize uA A 0 (204 + 15 * x1 + 3 + 4 * (A 0 (204 + 15 * x1 + 2)) + 0) x2 = A6 at hw ⊢
    refine g_aldn0 hE dX4_adds_38 ?_
    refine gm_geta hE hM hT 0 (by decide) rfl q2140 dX4_adds_39 ?_
    refine g_ildn1 hE dX4_adds_42 ?_
    refine g_ild5 hE dX4_adds_43 ?_
    refine g_iconst hE dX4_adds_45 ?_
    refine gm_cSi hE hR hM hT (As := [aI x1, aI (A 0 (204 + 15 * x1 + 2)), aI 1]) (t4_of M hM z (s4_of )) (lw_S q2271 q2272 q108 q2273) hd_X4_of ⟨by decide, by decide⟩ rfl (Nat.le_of_ble_eq_true rfl) dX4_adds_46 rfl (fun r8 hr8 => ?_)
    subst hr8
    refine g_ildn3 hE dX4_adds_49 ?_
    obtain ⟨h10, hw⟩ := hw
    refine gm_iast hE hM hT 0 rfl h10 dX4_adds_50 ?_
    have hw := hw _ rfl
    generalize uA A6 0 (204 + 15 * x1 + 3 + 4 * (A 0 (204 + 15 * x1 + 2)) + 1) x3 = A9 at hw ⊢
    refine g_aldn0 hE dX4_adds_51 ?_
    refine gm_geta hE hM hT 0 (by decide) rfl q2140 dX4_adds_52 ?_
    refine g_ildn1 hE dX4_adds_55 ?_
    refine g_ild5 hE dX4_adds_56 ?_
    refine g_iconst hE dX4_adds_58 ?_
    refine gm_cSi hE hR hM hT (As := [aI x1, aI (A 0 (204 + 15 * x1 + 2)), aI 2]) (t4_of M hM z (s4_of )) (lw_S q2271 q2272 q108 q2273) hd_X4_of ⟨by decide, by decide⟩ rfl (Nat.le_of_ble_eq_true rfl) dX4_adds_59 rfl (fun r11 hr11 => ?_)
    subst hr11
    refine g_ild4 hE dX4_adds_62 ?_
    obtain ⟨h13, hw⟩ := hw
    refine gm_iast hE hM hT 0 rfl h13 dX4_adds_64 ?_
    have hw := hw _ rfl
    generalize uA A9 0 (204 + 15 * x1 + 3 + 4 * (A 0 (204 + 15 * x1 + 2)) + 2) x4 = A12 at hw ⊢
    refine g_aldn0 hE dX4_adds_65 ?_
    refine gm_geta hE hM hT 0 (by decide) rfl q2140 dX4_adds_66 ?_
    refine g_ildn1 hE dX4_adds_69 ?_
    refine g_ild5 hE dX4_adds_70 ?_
    refine g_iconst hE dX4_adds_72 ?_
    refine gm_cSi hE hR hM hT (As := [aI x1, aI (A 0 (204 + 15 * x1 + 2)), aI 3]) (t4_of M hM z (s4_of )) (lw_S q2271 q2272 q108 q2273) hd_X4_of ⟨by decide, by decide⟩ rfl (Nat.le_of_ble_eq_true rfl) dX4_adds_73 rfl (fun r14 hr14 => ?_)
    subst hr14
    refine g_iconst hE dX4_adds_76 ?_
    obtain ⟨h16, hw⟩ := hw
    refine gm_iast hE hM hT 0 rfl h16 dX4_adds_77 ?_
    have hw := hw _ rfl
    generalize uA A12 0 (204 + 15 * x1 + 3 + 4 * (A 0 (204 + 15 * x1 + 2)) + 3) 0 = A15 at hw ⊢
    refine g_aldn0 hE dX4_adds_78 ?_
    refine gm_geta hE hM hT 0 (by decide) rfl q2140 dX4_adds_79 ?_
    refine g_ildn1 hE dX4_adds_82 ?_
    refine g_iconst hE dX4_adds_83 ?_
    refine gm_cSi hE hR hM hT (As := [aI x1, aI 2]) (t4_at M hM z (s4_at )) (lw_S q2268 q2269 q108 q2270) hd_X4_at ⟨by decide, by decide⟩ rfl (Nat.le_of_ble_eq_true rfl) dX4_adds_84 rfl (fun r17 hr17 => ?_)
    subst hr17
    refine g_dup2 hE dX4_adds_87 rfl rfl ?_
    obtain ⟨h18, hw⟩ := hw
    refine gm_iald hE hM hT 0 rfl h18 dX4_adds_88 ?_
    refine g_iconst hE dX4_adds_89 ?_
    refine g_iadd hE dX4_adds_90 ?_
    obtain ⟨h20, hw⟩ := hw
    refine gm_iast hE hM hT 0 rfl h20 dX4_adds_91 ?_
    have hw := hw _ rfl
    generalize uA A15 0 (204 + 15 * x1 + 2) ((A15 0 (204 + 15 * x1 + 2)) + 1) = A19 at hw ⊢
    refine g_ild5 hE dX4_adds_92 ?_
    exact g_iret hE hR dX4_adds_94 (Nat.le_refl 0) (Nat.le_refl 0) rfl ⟨_, _, _, rfl, rfl, rfl, hw⟩

/-- entry(IIII)I -/
def w4_entry (x1 : Int) (x2 : Int) (x3 : Int) (x4 : Int) (F : mF) (A : mA) (Q : Int → mF → mA → Prop) : Prop :=
  w4_begins  F A (fun (A1 : mA) =>
  w4_isPage x1 F A1 (fun (r2 : Int) =>
  cEq r2 0
    (
    w4_refuses 1 x1 F A1 (fun (r3 : Int) (F4 : mF) =>
    Q r3 F4 A1))
    (
    inR x4 ∧
    cIf (0 ≤ x4 ∧ x4 ≤ 5)
      (
      inR x2 ∧
      jn3 (fun (y0_73 : Int) (F_73 : mF) (A_73 : mA) => 
          Q y0_73 F_73 A_73)
        (fun (j_73 : Int → mF → mA → Prop) =>
        jn0 (
            j_73 ((-2)) F A1)
          (fun (j_71 : Prop) =>
          cIf (0 ≤ x2 ∧ x2 ≤ 999)
            (
            inR x3 ∧
            cIf (0 ≤ x3 ∧ x3 ≤ 191)
              (
              w4_adds x1 x2 x3 x4 F A1 (fun (r11 : Int) (F12 : mF) (A13 : mA) =>
              w4_ends r11 F12 A13 (fun (r14 : Int) (F15 : mF) (A16 : mA) =>
              j_73 r14 F15 A16)))
              (
              j_71))
            (
            j_71))))
      (
      w4_refuses 1 x4 F A1 (fun (r17 : Int) (F18 : mF) =>
      Q r17 F18 A1)))))
theorem hd_X4_entry : yX4_entry.cls = RX4 ∧ yX4_entry.cls ≠ "java/lang/invoke/MethodHandle" ∧ yX4_entry.cls ≠ "java/lang/invoke/VarHandle" ∧ (parseMethodDescriptor yX4_entry.desc).map (fun d => d.parameters.length) = some 4 := by decide +kernel
set_option maxHeartbeats 4000000 in
theorem t4_entry (M : MT) (hM : OkM M) (z : Nat) {x1 : Int} {x2 : Int} {x3 : Int} {x4 : Int} {F : mF} {A : mA} {Q : Int → mF → mA → Prop} (hw : w4_entry x1 x2 x3 x4 F A Q) : CtM M z yX4_entry cX4_entry 5 (some .int) (k2_rm 2 47) [aR (some (oM M)), aI x1, aI x2, aI x3, aI x4] F A (PMiFA M z Q) := by
  refine Ct.intro (by decide) (Nat.le_of_ble_eq_true rfl) (fun E hE hR hT => ?_)
  have hT : TM E M := hT
  have hE : OkE E RX4 cX4_entry 5 (some .int) := hE
  show G E (wsM M F A) (some z) 0 0 0 [some (aR (some (oM M))), some (aI x1), some (aI x2), some (aI x3), some (aI x4)] []
  unfold w4_entry at hw
  refine g_aldn0 hE dX4_entry_0 ?_
  refine gm_cVvA hE hR hM hT (As := []) (t4_begins M hM z hw) (lw_V q2247 q2249 qs46 q108 q2250) hd_X4_begins ⟨by decide, by decide⟩ rfl (Nat.le_of_ble_eq_true rfl) dX4_entry_1 rfl (fun A1 hw => ?_)
  refine g_aldn0 hE dX4_entry_4 ?_
  refine g_ildn1 hE dX4_entry_5 ?_
  refine gm_cVi hE hR hM hT (As := [aI x1]) (t4_isPage M hM z hw) (lw_V q2319 q2321 qs55 q108 q2322) hd_X4_isPage ⟨by decide, by decide⟩ rfl (Nat.le_of_ble_eq_true rfl) dX4_entry_6 rfl (fun r2 hw => ?_)
  obtain ⟨h19, h20, hT21, hN22⟩ := hw
  refine g_if_ne hE (tgt := 19) dX4_entry_9 (by decide) h19 (fun q => ?_) (fun q => ?_)
  · have hw := hT21 q
    refine g_aldn0 hE dX4_entry_12 ?_
    refine g_iconst hE dX4_entry_13 ?_
    refine g_ildn1 hE dX4_entry_14 ?_
    refine gm_cViF hE hR hM hT (As := [aI 1, aI x1]) (t4_refuses M hM z hw) (lw_V q2278 q2280 qs50 q108 q2281) hd_X4_refuses ⟨by decide, by decide⟩ rfl (Nat.le_of_ble_eq_true rfl) dX4_entry_15 rfl (fun r3 F4 hw => ?_)
    exact g_iret hE hR dX4_entry_18 (Nat.le_refl 0) (Nat.le_refl 0) rfl ⟨_, _, _, rfl, rfl, rfl, hw⟩
  · have hw := hN22 q
    refine g_ild4 hE dX4_entry_19 ?_
    refine g_iconst hE dX4_entry_21 ?_
    refine g_iconst hE dX4_entry_22 ?_
    obtain ⟨h5, hw⟩ := hw
    refine gm_cSi hE hR hM hT (As := [aI x4, aI 0, aI 5]) (t4_isIn M hM z (s4_isIn h5 (by decide) (by decide))) (lw_S q2257 q2258 q108 q2259) hd_X4_isIn ⟨by decide, by decide⟩ rfl (Nat.le_of_ble_eq_true rfl) dX4_entry_23 rfl (fun r6 hr6 => ?_)
    subst hr6
    refine g_if_ne hE (tgt := 37) dX4_entry_26 (by decide) bI_in (fun q => ?_) (fun q => ?_)
    · have hw := hw.2 (bI_eq0.mp q)
      refine g_aldn0 hE dX4_entry_29 ?_
      refine g_iconst hE dX4_entry_30 ?_
      refine g_ild4 hE dX4_entry_31 ?_
      refine gm_cViF hE hR hM hT (As := [aI 1, aI x4]) (t4_refuses M hM z hw) (lw_V q2278 q2280 qs50 q108 q2281) hd_X4_refuses ⟨by decide, by decide⟩ rfl (Nat.le_of_ble_eq_true rfl) dX4_entry_33 rfl (fun r17 F18 hw => ?_)
      exact g_iret hE hR dX4_entry_36 (Nat.le_refl 0) (Nat.le_refl 0) rfl ⟨_, _, _, rfl, rfl, rfl, hw⟩
    · have hw := hw.1 (bI_ne0.mp q)
      refine g_ildn2 hE dX4_entry_37 ?_
      refine g_iconst hE dX4_entry_38 ?_
      refine g_sipush hE dX4_entry_39 (by decide) ?_
      obtain ⟨h7, hw⟩ := hw
      refine gm_cSi hE hR hM hT (As := [aI x2, aI 0, aI 999]) (t4_isIn M hM z (s4_isIn h7 (by decide) (by decide))) (lw_S q2257 q2258 q108 q2259) hd_X4_isIn ⟨by decide, by decide⟩ rfl (Nat.le_of_ble_eq_true rfl) dX4_entry_42 rfl (fun r8 hr8 => ?_)
      subst hr8
      refine jn3_walk (fun (y0_73 : Int) (F_73 : mF) (A_73 : mA) => G E (wsM M F_73 A_73) (some z) 0 0 73 [some (aR (some (oM M))), some (aI x1), some (aI x2), some (aI x3), some (aI x4)] [aI y0_73]) hw (fun y0_73 F_73 A_73 hw => ?_) (fun j_73 hj_73 hw => ?_)
      · skip
        exact g_iret hE hR dX4_entry_73 (Nat.le_refl 0) (Nat.le_refl 0) rfl ⟨_, _, _, rfl, rfl, rfl, hw⟩
      · skip
        refine jn0_walk (G E (wsM M F A1) (some z) 0 0 71 [some (aR (some (oM M))), some (aI x1), some (aI x2), some (aI x3), some (aI x4)] []) hw (fun  hw => ?_) (fun j_71 hj_71 hw => ?_)
        · skip
          refine g_bipush hE dX4_entry_71 (by decide) ?_
          exact hj_73 _ _ _ hw
        · skip
          refine g_if_eq hE (tgt := 71) dX4_entry_45 (by decide) bI_in (fun q => ?_) (fun q => ?_)
          · have hw := hw.2 (bI_eq0.mp q)
            exact hj_71  hw
          · have hw := hw.1 (bI_ne0.mp q)
            refine g_ildn3 hE dX4_entry_48 ?_
            obtain ⟨h9, hw⟩ := hw
            refine gm_cSi hE hR hM hT (As := [aI x3]) (t4_isCell M hM z (s4_isCell h9)) (lw_S q2254 q2255 q108 q2256) hd_X4_isCell ⟨by decide, by decide⟩ rfl (Nat.le_of_ble_eq_true rfl) dX4_entry_49 rfl (fun r10 hr10 => ?_)
            subst hr10
            refine g_if_eq hE (tgt := 71) dX4_entry_52 (by decide) bI_in (fun q => ?_) (fun q => ?_)
            · have hw := hw.2 (bI_eq0.mp q)
              exact hj_71  hw
            · have hw := hw.1 (bI_ne0.mp q)
              refine g_aldn0 hE dX4_entry_55 ?_
              refine g_aldn0 hE dX4_entry_56 ?_
              refine g_ildn1 hE dX4_entry_57 ?_
              refine g_ildn2 hE dX4_entry_58 ?_
              refine g_ildn3 hE dX4_entry_59 ?_
              refine g_ild4 hE dX4_entry_60 ?_
              refine gm_cViFA hE hR hM hT (As := [aI x1, aI x2, aI x3, aI x4]) (t4_adds M hM z hw) (lw_V q2323 q2325 qs56 q108 q2326) hd_X4_adds ⟨by decide, by decide⟩ rfl (Nat.le_of_ble_eq_true rfl) dX4_entry_62 rfl (fun r11 F12 A13 hw => ?_)
              refine gm_cViFA hE hR hM hT (As := [aI r11]) (t4_ends M hM z hw) (lw_V q2286 q2288 qs52 q108 q2289) hd_X4_ends ⟨by decide, by decide⟩ rfl (Nat.le_of_ble_eq_true rfl) dX4_entry_65 rfl (fun r14 F15 A16 hw => ?_)
              refine g_goto hE (tgt := 73) dX4_entry_68 (by decide) ?_
              exact hj_73 _ _ _ hw

/-- copies(II)V -/
def w4_copies (x1 : Int) (x2 : Int) (F : mF) (A : mA) (Q : mA → Prop) : Prop :=
  lq2 (fun (x3_2 : Int) (A_2 : mA) (k_2 : Int → mA → Prop) =>
    cLt x3_2 15
      (
      ib (204 + 15 * x2 + x3_2) 354 ∧
      ib (204 + 15 * x1 + x3_2) 354 ∧ ∀ A4 : mA, A4 = uA A_2 0 (204 + 15 * x1 + x3_2) (A_2 0 (204 + 15 * x2 + x3_2)) →
      k_2 (x3_2 + 1) A4)
      (
      Q A_2)) 0 A
theorem hd_X4_copies : yX4_copies.cls = RX4 ∧ yX4_copies.cls ≠ "java/lang/invoke/MethodHandle" ∧ yX4_copies.cls ≠ "java/lang/invoke/VarHandle" ∧ (parseMethodDescriptor yX4_copies.desc).map (fun d => d.parameters.length) = some 2 := by decide +kernel
set_option maxHeartbeats 4000000 in
theorem t4_copies (M : MT) (hM : OkM M) (z : Nat) {x1 : Int} {x2 : Int} {F : mF} {A : mA} {Q : mA → Prop} (hw : w4_copies x1 x2 F A Q) : CtM M z yX4_copies cX4_copies 4 none (k2_rm 1 21) [aR (some (oM M)), aI x1, aI x2] F A (PMvA M z F Q) := by
  refine Ct.intro (by decide) (Nat.le_of_ble_eq_true rfl) (fun E hE hR hT => ?_)
  have hT : TM E M := hT
  have hE : OkE E RX4 cX4_copies 4 none := hE
  show G E (wsM M F A) (some z) 0 0 0 [some (aR (some (oM M))), some (aI x1), some (aI x2), none] []
  unfold w4_copies at hw
  refine g_iconst hE dX4_copies_0 ?_
  refine g_istn3 hE dX4_copies_1 (by decide) rfl ?_
  refine lq2_walk (fun (x3_2 : Int) (A_2 : mA) => G E (wsM M F A_2) (some z) 0 0 2 [some (aR (some (oM M))), some (aI x1), some (aI x2), some (aI x3_2)] []) (fun k_2 hk_2 x3_2 A_2 hw => ?_) _ _ hw
  refine g_ildn3 hE dX4_copies_2 ?_
  refine g_bipush hE dX4_copies_3 (by decide) ?_
  obtain ⟨h6, h7, hT8, hN9⟩ := hw
  refine g_icmp_ge hE (tgt := 34) dX4_copies_5 (by decide) h6 h7 (fun q => ?_) (fun q => ?_)
  · have hw := hT8 q
    refine g_aldn0 hE dX4_copies_8 ?_
    refine gm_geta hE hM hT 0 (by decide) rfl q2140 dX4_copies_9 ?_
    refine g_ildn1 hE dX4_copies_12 ?_
    refine g_ildn3 hE dX4_copies_13 ?_
    refine gm_cSi hE hR hM hT (As := [aI x1, aI x3_2]) (t4_at M hM z (s4_at )) (lw_S q2268 q2269 q108 q2270) hd_X4_at ⟨by decide, by decide⟩ rfl (Nat.le_of_ble_eq_true rfl) dX4_copies_14 rfl (fun r1 hr1 => ?_)
    subst hr1
    refine g_aldn0 hE dX4_copies_17 ?_
    refine gm_geta hE hM hT 0 (by decide) rfl q2140 dX4_copies_18 ?_
    refine g_ildn2 hE dX4_copies_21 ?_
    refine g_ildn3 hE dX4_copies_22 ?_
    refine gm_cSi hE hR hM hT (As := [aI x2, aI x3_2]) (t4_at M hM z (s4_at )) (lw_S q2268 q2269 q108 q2270) hd_X4_at ⟨by decide, by decide⟩ rfl (Nat.le_of_ble_eq_true rfl) dX4_copies_23 rfl (fun r2 hr2 => ?_)
    subst hr2
    obtain ⟨h3, hw⟩ := hw
    refine gm_iald hE hM hT 0 rfl h3 dX4_copies_26 ?_
    obtain ⟨h5, hw⟩ := hw
    refine gm_iast hE hM hT 0 rfl h5 dX4_copies_27 ?_
    have hw := hw _ rfl
    generalize uA A_2 0 (204 + 15 * x1 + x3_2) (A_2 0 (204 + 15 * x2 + x3_2)) = A4 at hw ⊢
    refine g_iinc3 hE dX4_copies_28 (by decide) rfl ?_
    refine g_goto hE (tgt := 2) dX4_copies_31 (by decide) ?_
    exact hk_2 _ _ hw
  · have hw := hN9 q
    exact g_vret hE hR dX4_copies_34 (Nat.le_refl 0) (Nat.le_refl 0) ⟨_, rfl, rfl, rfl, hw⟩

/-- crossed()I -/
def w4_crossed  (F : mF) (A : mA) (Q : Int → mF → mA → Prop) : Prop :=
  w4_lists  F A (fun (F1 : mF) (A2 : mA) =>
  lq2 (fun (x1_8 : Int) (x2_8 : Int) (k_8 : Int → Int → Prop) =>
    cLt x2_8 (F1 14)
      (
      lq2 (fun (x1_18 : Int) (x3_18 : Int) (k_18 : Int → Int → Prop) =>
        cLt x3_18 (F1 14)
          (
          ib x2_8 30 ∧
          ib x3_18 30 ∧
          jn1 (fun (y1_62 : Int) => 
              k_18 (x1_18 + y1_62) (x3_18 + 1))
            (fun (j_62 : Int → Prop) =>
            jn0 (
                j_62 0)
              (fun (j_61 : Prop) =>
              cLt (A2 4 x2_8) (A2 4 x3_18)
                (
                w4_told x2_8 0 F1 A2 (fun (r5 : Int) =>
                w4_told x3_18 0 F1 A2 (fun (r6 : Int) =>
                cLt r6 r5
                  (
                  j_62 1)
                  (
                  j_61))))
                (
                j_61))))
          (
          k_8 x1_18 (x2_8 + 1))) x1_8 0)
      (
      Q x1_8 F1 A2)) 0 0)
theorem hd_X4_crossed : yX4_crossed.cls = RX4 ∧ yX4_crossed.cls ≠ "java/lang/invoke/MethodHandle" ∧ yX4_crossed.cls ≠ "java/lang/invoke/VarHandle" ∧ (parseMethodDescriptor yX4_crossed.desc).map (fun d => d.parameters.length) = some 0 := by decide +kernel
set_option maxHeartbeats 4000000 in
theorem t4_crossed (M : MT) (hM : OkM M) (z : Nat)  {F : mF} {A : mA} {Q : Int → mF → mA → Prop} (hw : w4_crossed F A Q) : CtM M z yX4_crossed cX4_crossed 4 (some .int) (k2_rm 3 67) [aR (some (oM M))] F A (PMiFA M z Q) := by
  refine Ct.intro (by decide) (Nat.le_of_ble_eq_true rfl) (fun E hE hR hT => ?_)
  have hT : TM E M := hT
  have hE : OkE E RX4 cX4_crossed 4 (some .int) := hE
  show G E (wsM M F A) (some z) 0 0 0 [some (aR (some (oM M))), none, none, none] []
  unfold w4_crossed at hw
  refine g_aldn0 hE dX4_crossed_0 ?_
  refine gm_cVvFA hE hR hM hT (As := []) (t4_lists M hM z hw) (lw_V q2264 q2266 qs48 q108 q2267) hd_X4_lists ⟨by decide, by decide⟩ rfl (Nat.le_of_ble_eq_true rfl) dX4_crossed_1 rfl (fun F1 A2 hw => ?_)
  refine g_iconst hE dX4_crossed_4 ?_
  refine g_istn1 hE dX4_crossed_5 (by decide) rfl ?_
  refine g_iconst hE dX4_crossed_6 ?_
  refine g_istn2 hE dX4_crossed_7 (by decide) rfl ?_
  refine lq2_walk (fun (x1_8 : Int) (x2_8 : Int) => G E (wsM M F1 A2) (some z) 0 0 8 [some (aR (some (oM M))), some (aI x1_8), some (aI x2_8), none] []) (fun k_8 hk_8 x1_8 x2_8 hw => ?_) _ _ hw
  refine g_ildn2 hE dX4_crossed_8 ?_
  refine g_aldn0 hE dX4_crossed_9 ?_
  refine gm_geti hE hM hT 14 (by decide) rfl q2154 dX4_crossed_10 ?_
  obtain ⟨h19, h20, hT21, hN22⟩ := hw
  refine g_icmp_ge hE (tgt := 76) dX4_crossed_13 (by decide) h19 h20 (fun q => ?_) (fun q => ?_)
  · have hw := hT21 q
    refine g_iconst hE dX4_crossed_16 ?_
    refine g_istn3 hE dX4_crossed_17 (by decide) rfl ?_
    refine lq2_walk (fun (x1_18 : Int) (x3_18 : Int) => G E (wsM M F1 A2) (some z) 0 0 18 [some (aR (some (oM M))), some (aI x1_18), some (aI x2_8), some (aI x3_18)] []) (fun k_18 hk_18 x1_18 x3_18 hw => ?_) _ _ hw
    refine g_ildn3 hE dX4_crossed_18 ?_
    refine g_aldn0 hE dX4_crossed_19 ?_
    refine gm_geti hE hM hT 14 (by decide) rfl q2154 dX4_crossed_20 ?_
    obtain ⟨h15, h16, hT17, hN18⟩ := hw
    refine g_icmp_ge hE (tgt := 70) dX4_crossed_23 (by decide) h15 h16 (fun q => ?_) (fun q => ?_)
    · have hw := hT17 q
      refine g_ildn1 hE dX4_crossed_26 ?_
      refine g_aldn0 hE dX4_crossed_27 ?_
      refine gm_geta hE hM hT 4 (by decide) rfl q2144 dX4_crossed_28 ?_
      refine g_ildn2 hE dX4_crossed_31 ?_
      obtain ⟨h3, hw⟩ := hw
      refine gm_iald hE hM hT 4 rfl h3 dX4_crossed_32 ?_
      refine g_aldn0 hE dX4_crossed_33 ?_
      refine gm_geta hE hM hT 4 (by decide) rfl q2144 dX4_crossed_34 ?_
      refine g_ildn3 hE dX4_crossed_37 ?_
      obtain ⟨h4, hw⟩ := hw
      refine gm_iald hE hM hT 4 rfl h4 dX4_crossed_38 ?_
      refine jn1_walk (fun (y1_62 : Int) => G E (wsM M F1 A2) (some z) 0 0 62 [some (aR (some (oM M))), some (aI x1_18), some (aI x2_8), some (aI x3_18)] [aI y1_62, aI x1_18]) hw (fun y1_62 hw => ?_) (fun j_62 hj_62 hw => ?_)
      · skip
        refine g_iadd hE dX4_crossed_62 ?_
        refine g_istn1 hE dX4_crossed_63 (by decide) rfl ?_
        refine g_iinc3 hE dX4_crossed_64 (by decide) rfl ?_
        refine g_goto hE (tgt := 18) dX4_crossed_67 (by decide) ?_
        exact hk_18 _ _ hw
      · skip
        refine jn0_walk (G E (wsM M F1 A2) (some z) 0 0 61 [some (aR (some (oM M))), some (aI x1_18), some (aI x2_8), some (aI x3_18)] [aI x1_18]) hw (fun  hw => ?_) (fun j_61 hj_61 hw => ?_)
        · skip
          refine g_iconst hE dX4_crossed_61 ?_
          exact hj_62 _ hw
        · skip
          obtain ⟨h11, h12, hT13, hN14⟩ := hw
          refine g_icmp_ge hE (tgt := 61) dX4_crossed_39 (by decide) h11 h12 (fun q => ?_) (fun q => ?_)
          · have hw := hT13 q
            refine g_aldn0 hE dX4_crossed_42 ?_
            refine g_ildn2 hE dX4_crossed_43 ?_
            refine g_iconst hE dX4_crossed_44 ?_
            refine gm_cVi hE hR hM hT (As := [aI x2_8, aI 0]) (t4_told M hM z hw) (lw_V q2274 q2276 qs49 q108 q2277) hd_X4_told ⟨by decide, by decide⟩ rfl (Nat.le_of_ble_eq_true rfl) dX4_crossed_45 rfl (fun r5 hw => ?_)
            refine g_aldn0 hE dX4_crossed_48 ?_
            refine g_ildn3 hE dX4_crossed_49 ?_
            refine g_iconst hE dX4_crossed_50 ?_
            refine gm_cVi hE hR hM hT (As := [aI x3_18, aI 0]) (t4_told M hM z hw) (lw_V q2274 q2276 qs49 q108 q2277) hd_X4_told ⟨by decide, by decide⟩ rfl (Nat.le_of_ble_eq_true rfl) dX4_crossed_51 rfl (fun r6 hw => ?_)
            obtain ⟨h7, h8, hT9, hN10⟩ := hw
            refine g_icmp_le hE (tgt := 61) dX4_crossed_54 (by decide) h8 h7 (fun q => ?_) (fun q => ?_)
            · have hw := hT9 q
              refine g_iconst hE dX4_crossed_57 ?_
              refine g_goto hE (tgt := 62) dX4_crossed_58 (by decide) ?_
              exact hj_62 _ hw
            · have hw := hN10 q
              exact hj_61  hw
          · have hw := hN14 q
            exact hj_61  hw
    · have hw := hN18 q
      refine g_iinc2 hE dX4_crossed_70 (by decide) rfl ?_
      refine g_goto hE (tgt := 8) dX4_crossed_73 (by decide) ?_
      refine g_kl3 ?_
      exact hk_8 _ _ hw
  · have hw := hN22 q
    refine g_ildn1 hE dX4_crossed_76 ?_
    exact g_iret hE hR dX4_crossed_77 (Nat.le_refl 0) (Nat.le_refl 0) rfl ⟨_, _, _, rfl, rfl, rfl, hw⟩

/-- moves(II)I -/
def w4_moves (x1 : Int) (x2 : Int) (F : mF) (A : mA) (Q : Int → mF → mA → Prop) : Prop :=
  lq2 (fun (x3_2 : Int) (A_2 : mA) (k_2 : Int → mA → Prop) =>
    cLt x3_2 15
      (
      ib (204 + 15 * x1 + x3_2) 354 ∧
      ib x3_2 15 ∧ ∀ A3 : mA, A3 = uA A_2 13 x3_2 (A_2 0 (204 + 15 * x1 + x3_2)) →
      k_2 (x3_2 + 1) A3)
      (
      lq2 (fun (x3_32 : Int) (A_32 : mA) (k_32 : Int → mA → Prop) =>
        cLt x3_32 x2
          (
          w4_copies x3_32 (x3_32 + 1) F A_32 (fun (A5 : mA) =>
          k_32 (x3_32 + 1) A5))
          (
          lq2 (fun (x3_53 : Int) (A_53 : mA) (k_53 : Int → mA → Prop) =>
            cLt x2 x3_53
              (
              w4_copies x3_53 (x3_53 - 1) F A_53 (fun (A6 : mA) =>
              k_53 (x3_53 + (-1)) A6))
              (
              lq2 (fun (x3_74 : Int) (A_74 : mA) (k_74 : Int → mA → Prop) =>
                cLt x3_74 15
                  (
                  ib x3_74 15 ∧
                  ib (204 + 15 * x2 + x3_74) 354 ∧ ∀ A9 : mA, A9 = uA A_74 0 (204 + 15 * x2 + x3_74) (A_74 13 x3_74) →
                  k_74 (x3_74 + 1) A9)
                  (
                  w4_crossed  F A_74 (fun (r11 : Int) (F12 : mF) (A13 : mA) =>
                  Q r11 F12 A13))) 0 A_53)) x1 A_32)) x1 A_2)) 0 A
theorem hd_X4_moves : yX4_moves.cls = RX4 ∧ yX4_moves.cls ≠ "java/lang/invoke/MethodHandle" ∧ yX4_moves.cls ≠ "java/lang/invoke/VarHandle" ∧ (parseMethodDescriptor yX4_moves.desc).map (fun d => d.parameters.length) = some 2 := by decide +kernel
set_option maxHeartbeats 4000000 in
theorem t4_moves (M : MT) (hM : OkM M) (z : Nat) {x1 : Int} {x2 : Int} {F : mF} {A : mA} {Q : Int → mF → mA → Prop} (hw : w4_moves x1 x2 F A Q) : CtM M z yX4_moves cX4_moves 4 (some .int) (k2_rm 4 90) [aR (some (oM M)), aI x1, aI x2] F A (PMiFA M z Q) := by
  refine Ct.intro (by decide) (Nat.le_of_ble_eq_true rfl) (fun E hE hR hT => ?_)
  have hT : TM E M := hT
  have hE : OkE E RX4 cX4_moves 4 (some .int) := hE
  show G E (wsM M F A) (some z) 0 0 0 [some (aR (some (oM M))), some (aI x1), some (aI x2), none] []
  unfold w4_moves at hw
  refine g_iconst hE dX4_moves_0 ?_
  refine g_istn3 hE dX4_moves_1 (by decide) rfl ?_
  refine lq2_walk (fun (x3_2 : Int) (A_2 : mA) => G E (wsM M F A_2) (some z) 0 0 2 [some (aR (some (oM M))), some (aI x1), some (aI x2), some (aI x3_2)] []) (fun k_2 hk_2 x3_2 A_2 hw => ?_) _ _ hw
  refine g_ildn3 hE dX4_moves_2 ?_
  refine g_bipush hE dX4_moves_3 (by decide) ?_
  obtain ⟨h26, h27, hT28, hN29⟩ := hw
  refine g_icmp_ge hE (tgt := 30) dX4_moves_5 (by decide) h26 h27 (fun q => ?_) (fun q => ?_)
  · have hw := hT28 q
    refine g_aldn0 hE dX4_moves_8 ?_
    refine gm_geta hE hM hT 13 (by decide) rfl q2153 dX4_moves_9 ?_
    refine g_ildn3 hE dX4_moves_12 ?_
    refine g_aldn0 hE dX4_moves_13 ?_
    refine gm_geta hE hM hT 0 (by decide) rfl q2140 dX4_moves_14 ?_
    refine g_ildn1 hE dX4_moves_17 ?_
    refine g_ildn3 hE dX4_moves_18 ?_
    refine gm_cSi hE hR hM hT (As := [aI x1, aI x3_2]) (t4_at M hM z (s4_at )) (lw_S q2268 q2269 q108 q2270) hd_X4_at ⟨by decide, by decide⟩ rfl (Nat.le_of_ble_eq_true rfl) dX4_moves_19 rfl (fun r1 hr1 => ?_)
    subst hr1
    obtain ⟨h2, hw⟩ := hw
    refine gm_iald hE hM hT 0 rfl h2 dX4_moves_22 ?_
    obtain ⟨h4, hw⟩ := hw
    refine gm_iast hE hM hT 13 rfl h4 dX4_moves_23 ?_
    have hw := hw _ rfl
    generalize uA A_2 13 x3_2 (A_2 0 (204 + 15 * x1 + x3_2)) = A3 at hw ⊢
    refine g_iinc3 hE dX4_moves_24 (by decide) rfl ?_
    refine g_goto hE (tgt := 2) dX4_moves_27 (by decide) ?_
    exact hk_2 _ _ hw
  · have hw := hN29 q
    refine g_ildn1 hE dX4_moves_30 ?_
    refine g_istn3 hE dX4_moves_31 (by decide) rfl ?_
    refine lq2_walk (fun (x3_32 : Int) (A_32 : mA) => G E (wsM M F A_32) (some z) 0 0 32 [some (aR (some (oM M))), some (aI x1), some (aI x2), some (aI x3_32)] []) (fun k_32 hk_32 x3_32 A_32 hw => ?_) _ _ hw
    refine g_ildn3 hE dX4_moves_32 ?_
    refine g_ildn2 hE dX4_moves_33 ?_
    obtain ⟨h22, h23, hT24, hN25⟩ := hw
    refine g_icmp_ge hE (tgt := 51) dX4_moves_34 (by decide) h22 h23 (fun q => ?_) (fun q => ?_)
    · have hw := hT24 q
      refine g_aldn0 hE dX4_moves_37 ?_
      refine g_ildn3 hE dX4_moves_38 ?_
      refine g_ildn3 hE dX4_moves_39 ?_
      refine g_iconst hE dX4_moves_40 ?_
      refine g_iadd hE dX4_moves_41 ?_
      refine gm_cVvA hE hR hM hT (As := [aI x3_32, aI (x3_32 + 1)]) (t4_copies M hM z hw) (lw_V q2335 q2337 qs58 q108 q2338) hd_X4_copies ⟨by decide, by decide⟩ rfl (Nat.le_of_ble_eq_true rfl) dX4_moves_42 rfl (fun A5 hw => ?_)
      refine g_iinc3 hE dX4_moves_45 (by decide) rfl ?_
      refine g_goto hE (tgt := 32) dX4_moves_48 (by decide) ?_
      exact hk_32 _ _ hw
    · have hw := hN25 q
      refine g_ildn1 hE dX4_moves_51 ?_
      refine g_istn3 hE dX4_moves_52 (by decide) rfl ?_
      refine lq2_walk (fun (x3_53 : Int) (A_53 : mA) => G E (wsM M F A_53) (some z) 0 0 53 [some (aR (some (oM M))), some (aI x1), some (aI x2), some (aI x3_53)] []) (fun k_53 hk_53 x3_53 A_53 hw => ?_) _ _ hw
      refine g_ildn3 hE dX4_moves_53 ?_
      refine g_ildn2 hE dX4_moves_54 ?_
      obtain ⟨h18, h19, hT20, hN21⟩ := hw
      refine g_icmp_le hE (tgt := 72) dX4_moves_55 (by decide) h19 h18 (fun q => ?_) (fun q => ?_)
      · have hw := hT20 q
        refine g_aldn0 hE dX4_moves_58 ?_
        refine g_ildn3 hE dX4_moves_59 ?_
        refine g_ildn3 hE dX4_moves_60 ?_
        refine g_iconst hE dX4_moves_61 ?_
        refine g_isub hE dX4_moves_62 ?_
        refine gm_cVvA hE hR hM hT (As := [aI x3_53, aI (x3_53 - 1)]) (t4_copies M hM z hw) (lw_V q2335 q2337 qs58 q108 q2338) hd_X4_copies ⟨by decide, by decide⟩ rfl (Nat.le_of_ble_eq_true rfl) dX4_moves_63 rfl (fun A6 hw => ?_)
        refine g_iinc3 hE dX4_moves_66 (by decide) rfl ?_
        refine g_goto hE (tgt := 53) dX4_moves_69 (by decide) ?_
        exact hk_53 _ _ hw
      · have hw := hN21 q
        refine g_iconst hE dX4_moves_72 ?_
        refine g_istn3 hE dX4_moves_73 (by decide) rfl ?_
        refine lq2_walk (fun (x3_74 : Int) (A_74 : mA) => G E (wsM M F A_74) (some z) 0 0 74 [some (aR (some (oM M))), some (aI x1), some (aI x2), some (aI x3_74)] []) (fun k_74 hk_74 x3_74 A_74 hw => ?_) _ _ hw
        refine g_ildn3 hE dX4_moves_74 ?_
        refine g_bipush hE dX4_moves_75 (by decide) ?_
        obtain ⟨h14, h15, hT16, hN17⟩ := hw
        refine g_icmp_ge hE (tgt := 102) dX4_moves_77 (by decide) h14 h15 (fun q => ?_) (fun q => ?_)
        · have hw := hT16 q
          refine g_aldn0 hE dX4_moves_80 ?_
          refine gm_geta hE hM hT 0 (by decide) rfl q2140 dX4_moves_81 ?_
          refine g_ildn2 hE dX4_moves_84 ?_
          refine g_ildn3 hE dX4_moves_85 ?_
          refine gm_cSi hE hR hM hT (As := [aI x2, aI x3_74]) (t4_at M hM z (s4_at )) (lw_S q2268 q2269 q108 q2270) hd_X4_at ⟨by decide, by decide⟩ rfl (Nat.le_of_ble_eq_true rfl) dX4_moves_86 rfl (fun r7 hr7 => ?_)
          subst hr7
          refine g_aldn0 hE dX4_moves_89 ?_
          refine gm_geta hE hM hT 13 (by decide) rfl q2153 dX4_moves_90 ?_
          refine g_ildn3 hE dX4_moves_93 ?_
          obtain ⟨h8, hw⟩ := hw
          refine gm_iald hE hM hT 13 rfl h8 dX4_moves_94 ?_
          obtain ⟨h10, hw⟩ := hw
          refine gm_iast hE hM hT 0 rfl h10 dX4_moves_95 ?_
          have hw := hw _ rfl
          generalize uA A_74 0 (204 + 15 * x2 + x3_74) (A_74 13 x3_74) = A9 at hw ⊢
          refine g_iinc3 hE dX4_moves_96 (by decide) rfl ?_
          refine g_goto hE (tgt := 74) dX4_moves_99 (by decide) ?_
          exact hk_74 _ _ hw
        · have hw := hN17 q
          refine g_aldn0 hE dX4_moves_102 ?_
          refine gm_cViFA hE hR hM hT (As := []) (t4_crossed M hM z hw) (lw_V q2339 q2341 qs59 q108 q2342) hd_X4_crossed ⟨by decide, by decide⟩ rfl (Nat.le_of_ble_eq_true rfl) dX4_moves_103 rfl (fun r11 F12 A13 hw => ?_)
          exact g_iret hE hR dX4_moves_106 (Nat.le_refl 0) (Nat.le_refl 0) rfl ⟨_, _, _, rfl, rfl, rfl, hw⟩

/-- move(II)I -/
def w4_move (x1 : Int) (x2 : Int) (F : mF) (A : mA) (Q : Int → mF → mA → Prop) : Prop :=
  w4_begins  F A (fun (A1 : mA) =>
  w4_isPage x1 F A1 (fun (r2 : Int) =>
  jn3 (fun (y0_34 : Int) (F_34 : mF) (A_34 : mA) => 
      Q y0_34 F_34 A_34)
    (fun (j_34 : Int → mF → mA → Prop) =>
    jn0 (
        j_34 ((-1)) F A1)
      (fun (j_33 : Prop) =>
      cEq r2 0
        (
        j_33)
        (
        w4_isPage x2 F A1 (fun (r3 : Int) =>
        cEq r3 0
          (
          j_33)
          (
          w4_moves x1 x2 F A1 (fun (r4 : Int) (F5 : mF) (A6 : mA) =>
          w4_ends r4 F5 A6 (fun (r7 : Int) (F8 : mF) (A9 : mA) =>
          j_34 r7 F8 A9)))))))))
theorem hd_X4_move : yX4_move.cls = RX4 ∧ yX4_move.cls ≠ "java/lang/invoke/MethodHandle" ∧ yX4_move.cls ≠ "java/lang/invoke/VarHandle" ∧ (parseMethodDescriptor yX4_move.desc).map (fun d => d.parameters.length) = some 2 := by decide +kernel
set_option maxHeartbeats 4000000 in
theorem t4_move (M : MT) (hM : OkM M) (z : Nat) {x1 : Int} {x2 : Int} {F : mF} {A : mA} {Q : Int → mF → mA → Prop} (hw : w4_move x1 x2 F A Q) : CtM M z yX4_move cX4_move 3 (some .int) (k2_rm 5 113) [aR (some (oM M)), aI x1, aI x2] F A (PMiFA M z Q) := by
  refine Ct.intro (by decide) (Nat.le_of_ble_eq_true rfl) (fun E hE hR hT => ?_)
  have hT : TM E M := hT
  have hE : OkE E RX4 cX4_move 3 (some .int) := hE
  show G E (wsM M F A) (some z) 0 0 0 [some (aR (some (oM M))), some (aI x1), some (aI x2)] []
  unfold w4_move at hw
  refine g_aldn0 hE dX4_move_0 ?_
  refine gm_cVvA hE hR hM hT (As := []) (t4_begins M hM z hw) (lw_V q2247 q2249 qs46 q108 q2250) hd_X4_begins ⟨by decide, by decide⟩ rfl (Nat.le_of_ble_eq_true rfl) dX4_move_1 rfl (fun A1 hw => ?_)
  refine g_aldn0 hE dX4_move_4 ?_
  refine g_ildn1 hE dX4_move_5 ?_
  refine gm_cVi hE hR hM hT (As := [aI x1]) (t4_isPage M hM z hw) (lw_V q2319 q2321 qs55 q108 q2322) hd_X4_isPage ⟨by decide, by decide⟩ rfl (Nat.le_of_ble_eq_true rfl) dX4_move_6 rfl (fun r2 hw => ?_)
  refine jn3_walk (fun (y0_34 : Int) (F_34 : mF) (A_34 : mA) => G E (wsM M F_34 A_34) (some z) 0 0 34 [some (aR (some (oM M))), some (aI x1), some (aI x2)] [aI y0_34]) hw (fun y0_34 F_34 A_34 hw => ?_) (fun j_34 hj_34 hw => ?_)
  · skip
    exact g_iret hE hR dX4_move_34 (Nat.le_refl 0) (Nat.le_refl 0) rfl ⟨_, _, _, rfl, rfl, rfl, hw⟩
  · skip
    refine jn0_walk (G E (wsM M F A1) (some z) 0 0 33 [some (aR (some (oM M))), some (aI x1), some (aI x2)] []) hw (fun  hw => ?_) (fun j_33 hj_33 hw => ?_)
    · skip
      refine g_iconst hE dX4_move_33 ?_
      exact hj_34 _ _ _ hw
    · skip
      obtain ⟨h14, h15, hT16, hN17⟩ := hw
      refine g_if_eq hE (tgt := 33) dX4_move_9 (by decide) h14 (fun q => ?_) (fun q => ?_)
      · have hw := hT16 q
        exact hj_33  hw
      · have hw := hN17 q
        refine g_aldn0 hE dX4_move_12 ?_
        refine g_ildn2 hE dX4_move_13 ?_
        refine gm_cVi hE hR hM hT (As := [aI x2]) (t4_isPage M hM z hw) (lw_V q2319 q2321 qs55 q108 q2322) hd_X4_isPage ⟨by decide, by decide⟩ rfl (Nat.le_of_ble_eq_true rfl) dX4_move_14 rfl (fun r3 hw => ?_)
        obtain ⟨h10, h11, hT12, hN13⟩ := hw
        refine g_if_eq hE (tgt := 33) dX4_move_17 (by decide) h10 (fun q => ?_) (fun q => ?_)
        · have hw := hT12 q
          exact hj_33  hw
        · have hw := hN13 q
          refine g_aldn0 hE dX4_move_20 ?_
          refine g_aldn0 hE dX4_move_21 ?_
          refine g_ildn1 hE dX4_move_22 ?_
          refine g_ildn2 hE dX4_move_23 ?_
          refine gm_cViFA hE hR hM hT (As := [aI x1, aI x2]) (t4_moves M hM z hw) (lw_V q2331 q2333 qs57 q108 q2334) hd_X4_moves ⟨by decide, by decide⟩ rfl (Nat.le_of_ble_eq_true rfl) dX4_move_24 rfl (fun r4 F5 A6 hw => ?_)
          refine gm_cViFA hE hR hM hT (As := [aI r4]) (t4_ends M hM z hw) (lw_V q2286 q2288 qs52 q108 q2289) hd_X4_ends ⟨by decide, by decide⟩ rfl (Nat.le_of_ble_eq_true rfl) dX4_move_27 rfl (fun r7 F8 A9 hw => ?_)
          refine g_goto hE (tgt := 34) dX4_move_30 (by decide) ?_
          exact hj_34 _ _ _ hw

/-- drop(I)I -/
def w4_drop (x1 : Int) (F : mF) (A : mA) (Q : Int → mF → mA → Prop) : Prop :=
  w4_begins  F A (fun (A1 : mA) =>
  w4_isPage x1 F A1 (fun (r2 : Int) =>
  cEq r2 0
    (
    Q ((-1)) F A1)
    (
    ∀ A3 : mA, A3 = uA A1 0 11 ((A1 0 11) - 1) →
    lq2 (fun (x2_27 : Int) (A_27 : mA) (k_27 : Int → mA → Prop) =>
      cLt x2_27 (A_27 0 11)
        (
        w4_copies x2_27 (x2_27 + 1) F A_27 (fun (A4 : mA) =>
        k_27 (x2_27 + 1) A4))
        (
        w4_ends (A_27 0 11) F A_27 (fun (r5 : Int) (F6 : mF) (A7 : mA) =>
        Q r5 F6 A7))) x1 A3)))
theorem hd_X4_drop : yX4_drop.cls = RX4 ∧ yX4_drop.cls ≠ "java/lang/invoke/MethodHandle" ∧ yX4_drop.cls ≠ "java/lang/invoke/VarHandle" ∧ (parseMethodDescriptor yX4_drop.desc).map (fun d => d.parameters.length) = some 1 := by decide +kernel
set_option maxHeartbeats 4000000 in
theorem t4_drop (M : MT) (hM : OkM M) (z : Nat) {x1 : Int} {F : mF} {A : mA} {Q : Int → mF → mA → Prop} (hw : w4_drop x1 F A Q) : CtM M z yX4_drop cX4_drop 3 (some .int) (k2_rm 2 44) [aR (some (oM M)), aI x1] F A (PMiFA M z Q) := by
  refine Ct.intro (by decide) (Nat.le_of_ble_eq_true rfl) (fun E hE hR hT => ?_)
  have hT : TM E M := hT
  have hE : OkE E RX4 cX4_drop 3 (some .int) := hE
  show G E (wsM M F A) (some z) 0 0 0 [some (aR (some (oM M))), some (aI x1), none] []
  unfold w4_drop at hw
  refine g_aldn0 hE dX4_drop_0 ?_
  refine gm_cVvA hE hR hM hT (As := []) (t4_begins M hM z hw) (lw_V q2247 q2249 qs46 q108 q2250) hd_X4_begins ⟨by decide, by decide⟩ rfl (Nat.le_of_ble_eq_true rfl) dX4_drop_1 rfl (fun A1 hw => ?_)
  refine g_aldn0 hE dX4_drop_4 ?_
  refine g_ildn1 hE dX4_drop_5 ?_
  refine gm_cVi hE hR hM hT (As := [aI x1]) (t4_isPage M hM z hw) (lw_V q2319 q2321 qs55 q108 q2322) hd_X4_isPage ⟨by decide, by decide⟩ rfl (Nat.le_of_ble_eq_true rfl) dX4_drop_6 rfl (fun r2 hw => ?_)
  obtain ⟨h12, h13, hT14, hN15⟩ := hw
  refine g_if_ne hE (tgt := 14) dX4_drop_9 (by decide) h12 (fun q => ?_) (fun q => ?_)
  · have hw := hT14 q
    refine g_iconst hE dX4_drop_12 ?_
    exact g_iret hE hR dX4_drop_13 (Nat.le_refl 0) (Nat.le_refl 0) rfl ⟨_, _, _, rfl, rfl, rfl, hw⟩
  · have hw := hN15 q
    refine g_aldn0 hE dX4_drop_14 ?_
    refine gm_geta hE hM hT 0 (by decide) rfl q2140 dX4_drop_15 ?_
    refine g_bipush hE dX4_drop_18 (by decide) ?_
    refine g_dup2 hE dX4_drop_20 rfl rfl ?_
    refine gm_iald hE hM hT 0 rfl (by decide) dX4_drop_21 ?_
    refine g_iconst hE dX4_drop_22 ?_
    refine g_isub hE dX4_drop_23 ?_
    refine gm_iast hE hM hT 0 rfl (by decide) dX4_drop_24 ?_
    have hw := hw _ rfl
    generalize uA A1 0 11 ((A1 0 11) - 1) = A3 at hw ⊢
    refine g_ildn1 hE dX4_drop_25 ?_
    refine g_istn2 hE dX4_drop_26 (by decide) rfl ?_
    refine lq2_walk (fun (x2_27 : Int) (A_27 : mA) => G E (wsM M F A_27) (some z) 0 0 27 [some (aR (some (oM M))), some (aI x1), some (aI x2_27)] []) (fun k_27 hk_27 x2_27 A_27 hw => ?_) _ _ hw
    refine g_ildn2 hE dX4_drop_27 ?_
    refine g_aldn0 hE dX4_drop_28 ?_
    refine gm_geta hE hM hT 0 (by decide) rfl q2140 dX4_drop_29 ?_
    refine g_bipush hE dX4_drop_32 (by decide) ?_
    refine gm_iald hE hM hT 0 rfl (by decide) dX4_drop_34 ?_
    obtain ⟨h8, h9, hT10, hN11⟩ := hw
    refine g_icmp_ge hE (tgt := 52) dX4_drop_35 (by decide) h8 h9 (fun q => ?_) (fun q => ?_)
    · have hw := hT10 q
      refine g_aldn0 hE dX4_drop_38 ?_
      refine g_ildn2 hE dX4_drop_39 ?_
      refine g_ildn2 hE dX4_drop_40 ?_
      refine g_iconst hE dX4_drop_41 ?_
      refine g_iadd hE dX4_drop_42 ?_
      refine gm_cVvA hE hR hM hT (As := [aI x2_27, aI (x2_27 + 1)]) (t4_copies M hM z hw) (lw_V q2335 q2337 qs58 q108 q2338) hd_X4_copies ⟨by decide, by decide⟩ rfl (Nat.le_of_ble_eq_true rfl) dX4_drop_43 rfl (fun A4 hw => ?_)
      refine g_iinc2 hE dX4_drop_46 (by decide) rfl ?_
      refine g_goto hE (tgt := 27) dX4_drop_49 (by decide) ?_
      exact hk_27 _ _ hw
    · have hw := hN11 q
      refine g_aldn0 hE dX4_drop_52 ?_
      refine g_aldn0 hE dX4_drop_53 ?_
      refine gm_geta hE hM hT 0 (by decide) rfl q2140 dX4_drop_54 ?_
      refine g_bipush hE dX4_drop_57 (by decide) ?_
      refine gm_iald hE hM hT 0 rfl (by decide) dX4_drop_59 ?_
      refine gm_cViFA hE hR hM hT (As := [aI (A_27 0 11)]) (t4_ends M hM z hw) (lw_V q2286 q2288 qs52 q108 q2289) hd_X4_ends ⟨by decide, by decide⟩ rfl (Nat.le_of_ble_eq_true rfl) dX4_drop_60 rfl (fun r5 F6 A7 hw => ?_)
      exact g_iret hE hR dX4_drop_63 (Nat.le_refl 0) (Nat.le_refl 0) rfl ⟨_, _, _, rfl, rfl, rfl, hw⟩

/-- isLegible(II)Z -/
def w4_isLegible (x1 : Int) (x2 : Int) (F : mF) (A : mA) (Q : Int → Prop) : Prop :=
  ib (204 + 15 * x1 + 0) 354 ∧
  ib (204 + 15 * x1 + 1) 354 ∧
  ib (1 + x2) 354 ∧
  jn1 (fun (y3_43 : Int) => 
      jn1 (fun (y0_53 : Int) => 
          bl y0_53 ∧ Q y0_53)
        (fun (j_53 : Int → Prop) =>
        cLt ((A 0 (1 + x2)) - (10 * y3_43)) (A 0 (204 + 15 * x1 + 1))
          (
          j_53 0)
          (
          j_53 1)))
    (fun (j_43 : Int → Prop) =>
    cLt ((A 0 (204 + 15 * x1 + 0)) - x2) 0
      (
      j_43 (-((A 0 (204 + 15 * x1 + 0)) - x2)))
      (
      j_43 ((A 0 (204 + 15 * x1 + 0)) - x2)))
theorem hd_X4_isLegible : yX4_isLegible.cls = RX4 ∧ yX4_isLegible.cls ≠ "java/lang/invoke/MethodHandle" ∧ yX4_isLegible.cls ≠ "java/lang/invoke/VarHandle" ∧ (parseMethodDescriptor yX4_isLegible.desc).map (fun d => d.parameters.length) = some 2 := by decide +kernel
set_option maxHeartbeats 4000000 in
theorem t4_isLegible (M : MT) (hM : OkM M) (z : Nat) {x1 : Int} {x2 : Int} {F : mF} {A : mA} {Q : Int → Prop} (hw : w4_isLegible x1 x2 F A Q) : CtM M z yX4_isLegible cX4_isLegible 4 (some .boolean) (k2_rm 1 21) [aR (some (oM M)), aI x1, aI x2] F A (PMi M z F A Q) := by
  refine Ct.intro (by decide) (Nat.le_of_ble_eq_true rfl) (fun E hE hR hT => ?_)
  have hT : TM E M := hT
  have hE : OkE E RX4 cX4_isLegible 4 (some .boolean) := hE
  show G E (wsM M F A) (some z) 0 0 0 [some (aR (some (oM M))), some (aI x1), some (aI x2), none] []
  unfold w4_isLegible at hw
  refine g_aldn0 hE dX4_isLegible_0 ?_
  refine gm_geta hE hM hT 0 (by decide) rfl q2140 dX4_isLegible_1 ?_
  refine g_ildn1 hE dX4_isLegible_4 ?_
  refine g_iconst hE dX4_isLegible_5 ?_
  refine gm_cSi hE hR hM hT (As := [aI x1, aI 0]) (t4_at M hM z (s4_at )) (lw_S q2268 q2269 q108 q2270) hd_X4_at ⟨by decide, by decide⟩ rfl (Nat.le_of_ble_eq_true rfl) dX4_isLegible_6 rfl (fun r1 hr1 => ?_)
  subst hr1
  obtain ⟨h2, hw⟩ := hw
  refine gm_iald hE hM hT 0 rfl h2 dX4_isLegible_9 ?_
  refine g_ildn2 hE dX4_isLegible_10 ?_
  refine g_isub hE dX4_isLegible_11 ?_
  refine g_istn3 hE dX4_isLegible_12 (by decide) rfl ?_
  refine g_aldn0 hE dX4_isLegible_13 ?_
  refine gm_geta hE hM hT 0 (by decide) rfl q2140 dX4_isLegible_14 ?_
  refine g_ildn1 hE dX4_isLegible_17 ?_
  refine g_iconst hE dX4_isLegible_18 ?_
  refine gm_cSi hE hR hM hT (As := [aI x1, aI 1]) (t4_at M hM z (s4_at )) (lw_S q2268 q2269 q108 q2270) hd_X4_at ⟨by decide, by decide⟩ rfl (Nat.le_of_ble_eq_true rfl) dX4_isLegible_19 rfl (fun r3 hr3 => ?_)
  subst hr3
  obtain ⟨h4, hw⟩ := hw
  refine gm_iald hE hM hT 0 rfl h4 dX4_isLegible_22 ?_
  refine g_aldn0 hE dX4_isLegible_23 ?_
  refine gm_geta hE hM hT 0 (by decide) rfl q2140 dX4_isLegible_24 ?_
  refine g_iconst hE dX4_isLegible_27 ?_
  refine g_ildn2 hE dX4_isLegible_28 ?_
  refine g_iadd hE dX4_isLegible_29 ?_
  obtain ⟨h5, hw⟩ := hw
  refine gm_iald hE hM hT 0 rfl h5 dX4_isLegible_30 ?_
  refine g_bipush hE dX4_isLegible_31 (by decide) ?_
  refine g_ildn3 hE dX4_isLegible_33 ?_
  refine jn1_walk (fun (y3_43 : Int) => G E (wsM M F A) (some z) 0 0 43 [some (aR (some (oM M))), some (aI x1), some (aI x2), some (aI ((A 0 (204 + 15 * x1 + 0)) - x2))] [aI y3_43, aI 10, aI (A 0 (1 + x2)), aI (A 0 (204 + 15 * x1 + 1))]) hw (fun y3_43 hw => ?_) (fun j_43 hj_43 hw => ?_)
  · skip
    refine g_imul hE dX4_isLegible_43 ?_
    refine g_isub hE dX4_isLegible_44 ?_
    refine jn1_walk (fun (y0_53 : Int) => G E (wsM M F A) (some z) 0 0 53 [some (aR (some (oM M))), some (aI x1), some (aI x2), some (aI ((A 0 (204 + 15 * x1 + 0)) - x2))] [aI y0_53]) hw (fun y0_53 hw => ?_) (fun j_53 hj_53 hw => ?_)
    · skip
      obtain ⟨h6, hw⟩ := hw
      exact g_iret hE hR dX4_isLegible_53 (Nat.le_refl 0) (Nat.le_refl 0) (narrow_bl h6) ⟨_, rfl, rfl, rfl, hw⟩
    · skip
      obtain ⟨h7, h8, hT9, hN10⟩ := hw
      refine g_icmp_gt hE (tgt := 52) dX4_isLegible_45 (by decide) h8 h7 (fun q => ?_) (fun q => ?_)
      · have hw := hT9 q
        refine g_iconst hE dX4_isLegible_52 ?_
        exact hj_53 _ hw
      · have hw := hN10 q
        refine g_iconst hE dX4_isLegible_48 ?_
        refine g_goto hE (tgt := 53) dX4_isLegible_49 (by decide) ?_
        exact hj_53 _ hw
  · skip
    obtain ⟨h11, h12, hT13, hN14⟩ := hw
    refine g_if_ge hE (tgt := 42) dX4_isLegible_34 (by decide) h11 (fun q => ?_) (fun q => ?_)
    · have hw := hT13 q
      refine g_ildn3 hE dX4_isLegible_37 ?_
      refine g_ineg hE dX4_isLegible_38 ?_
      refine g_goto hE (tgt := 43) dX4_isLegible_39 (by decide) ?_
      exact hj_43 _ hw
    · have hw := hN14 q
      refine g_ildn3 hE dX4_isLegible_42 ?_
      exact hj_43 _ hw

/-- reads(II)I -/
def w4_reads (x1 : Int) (x2 : Int) (F : mF) (A : mA) (Q : Int → mF → mA → Prop) : Prop :=
  w4_isPage x1 F A (fun (r1 : Int) =>
  cEq r1 0
    (
    w4_refuses 1 x1 F A (fun (r2 : Int) (F3 : mF) =>
    Q r2 F3 A))
    (
    inR x2 ∧
    cIf (0 ≤ x2 ∧ x2 ≤ 2)
      (
      w4_isLegible x1 x2 F A (fun (r6 : Int) =>
      cEq r6 0
        (
        ib (204 + 15 * x1 + 1) 354 ∧
        w4_refuses 3 (A 0 (204 + 15 * x1 + 1)) F A (fun (r9 : Int) (F10 : mF) =>
        Q r9 F10 A))
        (
        lq2 (fun (x3_61 : Int) (x4_61 : Int) (k_61 : Int → Int → Prop) =>
          ib (204 + 15 * x1 + 2) 354 ∧
          cLt x4_61 (A 0 (204 + 15 * x1 + 2))
            (
            ib (204 + 15 * x1 + 3 + 4 * x4_61 + 3) 354 ∧
            jn1 (fun (y1_97 : Int) => 
                k_61 (x3_61 + y1_97) (x4_61 + 1))
              (fun (j_97 : Int → Prop) =>
              cEq (A 0 (204 + 15 * x1 + 3 + 4 * x4_61 + 3)) 0
                (
                j_97 1)
                (
                j_97 0)))
            (
            cEq x3_61 0
              (
              ib (204 + 15 * x1 + 2) 354 ∧
              w4_refuses 4 (A 0 (204 + 15 * x1 + 2)) F A (fun (r21 : Int) (F22 : mF) =>
              Q r21 F22 A))
              (
              lq2 (fun (x4_128 : Int) (A_128 : mA) (k_128 : Int → mA → Prop) =>
                ib (204 + 15 * x1 + 2) 354 ∧
                cLt x4_128 (A_128 0 (204 + 15 * x1 + 2))
                  (
                  ib (204 + 15 * x1 + 3 + 4 * x4_128 + 3) 354 ∧
                  jn1 (fun (A_171 : mA) => 
                      k_128 (x4_128 + 1) A_171)
                    (fun (j_171 : mA → Prop) =>
                    cEq (A_128 0 (204 + 15 * x1 + 3 + 4 * x4_128 + 3)) 0
                      (
                      ib (204 + 15 * x1 + 3 + 4 * x4_128 + 3) 354 ∧ ∀ A28 : mA, A28 = uA A_128 0 (204 + 15 * x1 + 3 + 4 * x4_128 + 3) 1 →
                      j_171 A28)
                      (
                      j_171 A_128)))
                  (
                  ib (204 + 15 * x1 + 1) 354 ∧
                  jn1 (fun (y2_214 : Int) => 
                      ib (204 + 15 * x1 + 1) 354 ∧ ∀ A37 : mA, A37 = uA A_128 0 (204 + 15 * x1 + 1) y2_214 →
                      ∀ A39 : mA, A39 = uA A37 0 10 ((A37 0 10) + 1) →
                      Q x3_61 F A39)
                    (fun (j_214 : Int → Prop) =>
                    cLt 99 ((A_128 0 (204 + 15 * x1 + 1)) + x2)
                      (
                      j_214 99)
                      (
                      j_214 ((A_128 0 (204 + 15 * x1 + 1)) + x2))))) 0 A))) 0 0)))
      (
      w4_refuses 1 x2 F A (fun (r60 : Int) (F61 : mF) =>
      Q r60 F61 A))))
theorem hd_X4_reads : yX4_reads.cls = RX4 ∧ yX4_reads.cls ≠ "java/lang/invoke/MethodHandle" ∧ yX4_reads.cls ≠ "java/lang/invoke/VarHandle" ∧ (parseMethodDescriptor yX4_reads.desc).map (fun d => d.parameters.length) = some 2 := by decide +kernel
set_option maxHeartbeats 4000000 in
theorem t4_reads (M : MT) (hM : OkM M) (z : Nat) {x1 : Int} {x2 : Int} {F : mF} {A : mA} {Q : Int → mF → mA → Prop} (hw : w4_reads x1 x2 F A Q) : CtM M z yX4_reads cX4_reads 5 (some .int) (k2_rm 2 44) [aR (some (oM M)), aI x1, aI x2] F A (PMiFA M z Q) := by
  refine Ct.intro (by decide) (Nat.le_of_ble_eq_true rfl) (fun E hE hR hT => ?_)
  have hT : TM E M := hT
  have hE : OkE E RX4 cX4_reads 5 (some .int) := hE
  show G E (wsM M F A) (some z) 0 0 0 [some (aR (some (oM M))), some (aI x1), some (aI x2), none, none] []
  unfold w4_reads at hw
  refine g_aldn0 hE dX4_reads_0 ?_
  refine g_ildn1 hE dX4_reads_1 ?_
  refine gm_cVi hE hR hM hT (As := [aI x1]) (t4_isPage M hM z hw) (lw_V q2319 q2321 qs55 q108 q2322) hd_X4_isPage ⟨by decide, by decide⟩ rfl (Nat.le_of_ble_eq_true rfl) dX4_reads_2 rfl (fun r1 hw => ?_)
  obtain ⟨h62, h63, hT64, hN65⟩ := hw
  refine g_if_ne hE (tgt := 15) dX4_reads_5 (by decide) h62 (fun q => ?_) (fun q => ?_)
  · have hw := hT64 q
    refine g_aldn0 hE dX4_reads_8 ?_
    refine g_iconst hE dX4_reads_9 ?_
    refine g_ildn1 hE dX4_reads_10 ?_
    refine gm_cViF hE hR hM hT (As := [aI 1, aI x1]) (t4_refuses M hM z hw) (lw_V q2278 q2280 qs50 q108 q2281) hd_X4_refuses ⟨by decide, by decide⟩ rfl (Nat.le_of_ble_eq_true rfl) dX4_reads_11 rfl (fun r2 F3 hw => ?_)
    exact g_iret hE hR dX4_reads_14 (Nat.le_refl 0) (Nat.le_refl 0) rfl ⟨_, _, _, rfl, rfl, rfl, hw⟩
  · have hw := hN65 q
    refine g_ildn2 hE dX4_reads_15 ?_
    refine g_iconst hE dX4_reads_16 ?_
    refine g_iconst hE dX4_reads_17 ?_
    obtain ⟨h4, hw⟩ := hw
    refine gm_cSi hE hR hM hT (As := [aI x2, aI 0, aI 2]) (t4_isIn M hM z (s4_isIn h4 (by decide) (by decide))) (lw_S q2257 q2258 q108 q2259) hd_X4_isIn ⟨by decide, by decide⟩ rfl (Nat.le_of_ble_eq_true rfl) dX4_reads_18 rfl (fun r5 hr5 => ?_)
    subst hr5
    refine g_if_ne hE (tgt := 31) dX4_reads_21 (by decide) bI_in (fun q => ?_) (fun q => ?_)
    · have hw := hw.2 (bI_eq0.mp q)
      refine g_aldn0 hE dX4_reads_24 ?_
      refine g_iconst hE dX4_reads_25 ?_
      refine g_ildn2 hE dX4_reads_26 ?_
      refine gm_cViF hE hR hM hT (As := [aI 1, aI x2]) (t4_refuses M hM z hw) (lw_V q2278 q2280 qs50 q108 q2281) hd_X4_refuses ⟨by decide, by decide⟩ rfl (Nat.le_of_ble_eq_true rfl) dX4_reads_27 rfl (fun r60 F61 hw => ?_)
      exact g_iret hE hR dX4_reads_30 (Nat.le_refl 0) (Nat.le_refl 0) rfl ⟨_, _, _, rfl, rfl, rfl, hw⟩
    · have hw := hw.1 (bI_ne0.mp q)
      refine g_aldn0 hE dX4_reads_31 ?_
      refine g_ildn1 hE dX4_reads_32 ?_
      refine g_ildn2 hE dX4_reads_33 ?_
      refine gm_cVi hE hR hM hT (As := [aI x1, aI x2]) (t4_isLegible M hM z hw) (lw_V q2355 q2357 qs61 q108 q2358) hd_X4_isLegible ⟨by decide, by decide⟩ rfl (Nat.le_of_ble_eq_true rfl) dX4_reads_34 rfl (fun r6 hw => ?_)
      obtain ⟨h56, h57, hT58, hN59⟩ := hw
      refine g_if_ne hE (tgt := 56) dX4_reads_37 (by decide) h56 (fun q => ?_) (fun q => ?_)
      · have hw := hT58 q
        refine g_aldn0 hE dX4_reads_40 ?_
        refine g_iconst hE dX4_reads_41 ?_
        refine g_aldn0 hE dX4_reads_42 ?_
        refine gm_geta hE hM hT 0 (by decide) rfl q2140 dX4_reads_43 ?_
        refine g_ildn1 hE dX4_reads_46 ?_
        refine g_iconst hE dX4_reads_47 ?_
        refine gm_cSi hE hR hM hT (As := [aI x1, aI 1]) (t4_at M hM z (s4_at )) (lw_S q2268 q2269 q108 q2270) hd_X4_at ⟨by decide, by decide⟩ rfl (Nat.le_of_ble_eq_true rfl) dX4_reads_48 rfl (fun r7 hr7 => ?_)
        subst hr7
        obtain ⟨h8, hw⟩ := hw
        refine gm_iald hE hM hT 0 rfl h8 dX4_reads_51 ?_
        refine gm_cViF hE hR hM hT (As := [aI 3, aI (A 0 (204 + 15 * x1 + 1))]) (t4_refuses M hM z hw) (lw_V q2278 q2280 qs50 q108 q2281) hd_X4_refuses ⟨by decide, by decide⟩ rfl (Nat.le_of_ble_eq_true rfl) dX4_reads_52 rfl (fun r9 F10 hw => ?_)
        exact g_iret hE hR dX4_reads_55 (Nat.le_refl 0) (Nat.le_refl 0) rfl ⟨_, _, _, rfl, rfl, rfl, hw⟩
      · have hw := hN59 q
        refine g_iconst hE dX4_reads_56 ?_
        refine g_istn3 hE dX4_reads_57 (by decide) rfl ?_
        refine g_iconst hE dX4_reads_58 ?_
        refine g_ist4 hE dX4_reads_59 (by decide) rfl ?_
        refine lq2_walk (fun (x3_61 : Int) (x4_61 : Int) => G E (wsM M F A) (some z) 0 0 61 [some (aR (some (oM M))), some (aI x1), some (aI x2), some (aI x3_61), some (aI x4_61)] []) (fun k_61 hk_61 x3_61 x4_61 hw => ?_) _ _ hw
        refine g_ild4 hE dX4_reads_61 ?_
        refine g_aldn0 hE dX4_reads_63 ?_
        refine gm_geta hE hM hT 0 (by decide) rfl q2140 dX4_reads_64 ?_
        refine g_ildn1 hE dX4_reads_67 ?_
        refine g_iconst hE dX4_reads_68 ?_
        refine gm_cSi hE hR hM hT (As := [aI x1, aI 2]) (t4_at M hM z (s4_at )) (lw_S q2268 q2269 q108 q2270) hd_X4_at ⟨by decide, by decide⟩ rfl (Nat.le_of_ble_eq_true rfl) dX4_reads_69 rfl (fun r11 hr11 => ?_)
        subst hr11
        obtain ⟨h12, hw⟩ := hw
        refine gm_iald hE hM hT 0 rfl h12 dX4_reads_72 ?_
        obtain ⟨h52, h53, hT54, hN55⟩ := hw
        refine g_icmp_ge hE (tgt := 105) dX4_reads_73 (by decide) h52 h53 (fun q => ?_) (fun q => ?_)
        · have hw := hT54 q
          refine g_ildn3 hE dX4_reads_76 ?_
          refine g_aldn0 hE dX4_reads_77 ?_
          refine gm_geta hE hM hT 0 (by decide) rfl q2140 dX4_reads_78 ?_
          refine g_ildn1 hE dX4_reads_81 ?_
          refine g_ild4 hE dX4_reads_82 ?_
          refine g_iconst hE dX4_reads_84 ?_
          refine gm_cSi hE hR hM hT (As := [aI x1, aI x4_61, aI 3]) (t4_of M hM z (s4_of )) (lw_S q2271 q2272 q108 q2273) hd_X4_of ⟨by decide, by decide⟩ rfl (Nat.le_of_ble_eq_true rfl) dX4_reads_85 rfl (fun r13 hr13 => ?_)
          subst hr13
          obtain ⟨h14, hw⟩ := hw
          refine gm_iald hE hM hT 0 rfl h14 dX4_reads_88 ?_
          refine jn1_walk (fun (y1_97 : Int) => G E (wsM M F A) (some z) 0 0 97 [some (aR (some (oM M))), some (aI x1), some (aI x2), some (aI x3_61), some (aI x4_61)] [aI y1_97, aI x3_61]) hw (fun y1_97 hw => ?_) (fun j_97 hj_97 hw => ?_)
          · skip
            refine g_iadd hE dX4_reads_97 ?_
            refine g_istn3 hE dX4_reads_98 (by decide) rfl ?_
            refine g_iinc4 hE dX4_reads_99 (by decide) rfl ?_
            refine g_goto hE (tgt := 61) dX4_reads_102 (by decide) ?_
            exact hk_61 _ _ hw
          · skip
            obtain ⟨h15, h16, hT17, hN18⟩ := hw
            refine g_if_ne hE (tgt := 96) dX4_reads_89 (by decide) h15 (fun q => ?_) (fun q => ?_)
            · have hw := hT17 q
              refine g_iconst hE dX4_reads_92 ?_
              refine g_goto hE (tgt := 97) dX4_reads_93 (by decide) ?_
              exact hj_97 _ hw
            · have hw := hN18 q
              refine g_iconst hE dX4_reads_96 ?_
              exact hj_97 _ hw
        · have hw := hN55 q
          refine g_ildn3 hE dX4_reads_105 ?_
          obtain ⟨h48, h49, hT50, hN51⟩ := hw
          refine g_if_ne hE (tgt := 125) dX4_reads_106 (by decide) h48 (fun q => ?_) (fun q => ?_)
          · have hw := hT50 q
            refine g_aldn0 hE dX4_reads_109 ?_
            refine g_iconst hE dX4_reads_110 ?_
            refine g_aldn0 hE dX4_reads_111 ?_
            refine gm_geta hE hM hT 0 (by decide) rfl q2140 dX4_reads_112 ?_
            refine g_ildn1 hE dX4_reads_115 ?_
            refine g_iconst hE dX4_reads_116 ?_
            refine gm_cSi hE hR hM hT (As := [aI x1, aI 2]) (t4_at M hM z (s4_at )) (lw_S q2268 q2269 q108 q2270) hd_X4_at ⟨by decide, by decide⟩ rfl (Nat.le_of_ble_eq_true rfl) dX4_reads_117 rfl (fun r19 hr19 => ?_)
            subst hr19
            obtain ⟨h20, hw⟩ := hw
            refine gm_iald hE hM hT 0 rfl h20 dX4_reads_120 ?_
            refine gm_cViF hE hR hM hT (As := [aI 4, aI (A 0 (204 + 15 * x1 + 2))]) (t4_refuses M hM z hw) (lw_V q2278 q2280 qs50 q108 q2281) hd_X4_refuses ⟨by decide, by decide⟩ rfl (Nat.le_of_ble_eq_true rfl) dX4_reads_121 rfl (fun r21 F22 hw => ?_)
            exact g_iret hE hR dX4_reads_124 (Nat.le_refl 0) (Nat.le_refl 0) rfl ⟨_, _, _, rfl, rfl, rfl, hw⟩
          · have hw := hN51 q
            refine g_iconst hE dX4_reads_125 ?_
            refine g_ist4 hE dX4_reads_126 (by decide) rfl ?_
            refine lq2_walk (fun (x4_128 : Int) (A_128 : mA) => G E (wsM M F A_128) (some z) 0 0 128 [some (aR (some (oM M))), some (aI x1), some (aI x2), some (aI x3_61), some (aI x4_128)] []) (fun k_128 hk_128 x4_128 A_128 hw => ?_) _ _ hw
            refine g_ild4 hE dX4_reads_128 ?_
            refine g_aldn0 hE dX4_reads_130 ?_
            refine gm_geta hE hM hT 0 (by decide) rfl q2140 dX4_reads_131 ?_
            refine g_ildn1 hE dX4_reads_134 ?_
            refine g_iconst hE dX4_reads_135 ?_
            refine gm_cSi hE hR hM hT (As := [aI x1, aI 2]) (t4_at M hM z (s4_at )) (lw_S q2268 q2269 q108 q2270) hd_X4_at ⟨by decide, by decide⟩ rfl (Nat.le_of_ble_eq_true rfl) dX4_reads_136 rfl (fun r23 hr23 => ?_)
            subst hr23
            obtain ⟨h24, hw⟩ := hw
            refine gm_iald hE hM hT 0 rfl h24 dX4_reads_139 ?_
            obtain ⟨h44, h45, hT46, hN47⟩ := hw
            refine g_icmp_ge hE (tgt := 177) dX4_reads_140 (by decide) h44 h45 (fun q => ?_) (fun q => ?_)
            · have hw := hT46 q
              refine g_aldn0 hE dX4_reads_143 ?_
              refine gm_geta hE hM hT 0 (by decide) rfl q2140 dX4_reads_144 ?_
              refine g_ildn1 hE dX4_reads_147 ?_
              refine g_ild4 hE dX4_reads_148 ?_
              refine g_iconst hE dX4_reads_150 ?_
              refine gm_cSi hE hR hM hT (As := [aI x1, aI x4_128, aI 3]) (t4_of M hM z (s4_of )) (lw_S q2271 q2272 q108 q2273) hd_X4_of ⟨by decide, by decide⟩ rfl (Nat.le_of_ble_eq_true rfl) dX4_reads_151 rfl (fun r25 hr25 => ?_)
              subst hr25
              obtain ⟨h26, hw⟩ := hw
              refine gm_iald hE hM hT 0 rfl h26 dX4_reads_154 ?_
              refine jn1_walk (fun (A_171 : mA) => G E (wsM M F A_171) (some z) 0 0 171 [some (aR (some (oM M))), some (aI x1), some (aI x2), some (aI x3_61), some (aI x4_128)] []) hw (fun A_171 hw => ?_) (fun j_171 hj_171 hw => ?_)
              · skip
                refine g_iinc4 hE dX4_reads_171 (by decide) rfl ?_
                refine g_goto hE (tgt := 128) dX4_reads_174 (by decide) ?_
                exact hk_128 _ _ hw
              · skip
                obtain ⟨h30, h31, hT32, hN33⟩ := hw
                refine g_if_ne hE (tgt := 171) dX4_reads_155 (by decide) h30 (fun q => ?_) (fun q => ?_)
                · have hw := hT32 q
                  refine g_aldn0 hE dX4_reads_158 ?_
                  refine gm_geta hE hM hT 0 (by decide) rfl q2140 dX4_reads_159 ?_
                  refine g_ildn1 hE dX4_reads_162 ?_
                  refine g_ild4 hE dX4_reads_163 ?_
                  refine g_iconst hE dX4_reads_165 ?_
                  refine gm_cSi hE hR hM hT (As := [aI x1, aI x4_128, aI 3]) (t4_of M hM z (s4_of )) (lw_S q2271 q2272 q108 q2273) hd_X4_of ⟨by decide, by decide⟩ rfl (Nat.le_of_ble_eq_true rfl) dX4_reads_166 rfl (fun r27 hr27 => ?_)
                  subst hr27
                  refine g_iconst hE dX4_reads_169 ?_
                  obtain ⟨h29, hw⟩ := hw
                  refine gm_iast hE hM hT 0 rfl h29 dX4_reads_170 ?_
                  have hw := hw _ rfl
                  generalize uA A_128 0 (204 + 15 * x1 + 3 + 4 * x4_128 + 3) 1 = A28 at hw ⊢
                  exact hj_171 _ hw
                · have hw := hN33 q
                  exact hj_171 _ hw
            · have hw := hN47 q
              refine g_aldn0 hE dX4_reads_177 ?_
              refine gm_geta hE hM hT 0 (by decide) rfl q2140 dX4_reads_178 ?_
              refine g_ildn1 hE dX4_reads_181 ?_
              refine g_iconst hE dX4_reads_182 ?_
              refine gm_cSi hE hR hM hT (As := [aI x1, aI 1]) (t4_at M hM z (s4_at )) (lw_S q2268 q2269 q108 q2270) hd_X4_at ⟨by decide, by decide⟩ rfl (Nat.le_of_ble_eq_true rfl) dX4_reads_183 rfl (fun r34 hr34 => ?_)
              subst hr34
              obtain ⟨h35, hw⟩ := hw
              refine gm_iald hE hM hT 0 rfl h35 dX4_reads_186 ?_
              refine g_ildn2 hE dX4_reads_187 ?_
              refine g_iadd hE dX4_reads_188 ?_
              refine g_ist4 hE dX4_reads_189 (by decide) rfl ?_
              refine g_aldn0 hE dX4_reads_191 ?_
              refine gm_geta hE hM hT 0 (by decide) rfl q2140 dX4_reads_192 ?_
              refine g_ildn1 hE dX4_reads_195 ?_
              refine g_iconst hE dX4_reads_196 ?_
              refine gm_cSi hE hR hM hT (As := [aI x1, aI 1]) (t4_at M hM z (s4_at )) (lw_S q2268 q2269 q108 q2270) hd_X4_at ⟨by decide, by decide⟩ rfl (Nat.le_of_ble_eq_true rfl) dX4_reads_197 rfl (fun r36 hr36 => ?_)
              subst hr36
              refine g_ild4 hE dX4_reads_200 ?_
              refine g_bipush hE dX4_reads_202 (by decide) ?_
              refine jn1_walk (fun (y2_214 : Int) => G E (wsM M F A_128) (some z) 0 0 214 [some (aR (some (oM M))), some (aI x1), some (aI x2), some (aI x3_61), some (aI ((A_128 0 (204 + 15 * x1 + 1)) + x2))] [aI y2_214, aI (204 + 15 * x1 + 1), aR (some (adM M 0))]) hw (fun y2_214 hw => ?_) (fun j_214 hj_214 hw => ?_)
              · skip
                obtain ⟨h38, hw⟩ := hw
                refine gm_iast hE hM hT 0 rfl h38 dX4_reads_214 ?_
                have hw := hw _ rfl
                generalize uA A_128 0 (204 + 15 * x1 + 1) y2_214 = A37 at hw ⊢
                refine g_aldn0 hE dX4_reads_215 ?_
                refine gm_geta hE hM hT 0 (by decide) rfl q2140 dX4_reads_216 ?_
                refine g_bipush hE dX4_reads_219 (by decide) ?_
                refine g_dup2 hE dX4_reads_221 rfl rfl ?_
                refine gm_iald hE hM hT 0 rfl (by decide) dX4_reads_222 ?_
                refine g_iconst hE dX4_reads_223 ?_
                refine g_iadd hE dX4_reads_224 ?_
                refine gm_iast hE hM hT 0 rfl (by decide) dX4_reads_225 ?_
                have hw := hw _ rfl
                generalize uA A37 0 10 ((A37 0 10) + 1) = A39 at hw ⊢
                refine g_ildn3 hE dX4_reads_226 ?_
                exact g_iret hE hR dX4_reads_227 (Nat.le_refl 0) (Nat.le_refl 0) rfl ⟨_, _, _, rfl, rfl, rfl, hw⟩
              · skip
                obtain ⟨h40, h41, hT42, hN43⟩ := hw
                refine g_icmp_le hE (tgt := 212) dX4_reads_204 (by decide) h41 h40 (fun q => ?_) (fun q => ?_)
                · have hw := hT42 q
                  refine g_bipush hE dX4_reads_207 (by decide) ?_
                  refine g_goto hE (tgt := 214) dX4_reads_209 (by decide) ?_
                  exact hj_214 _ hw
                · have hw := hN43 q
                  refine g_ild4 hE dX4_reads_212 ?_
                  exact hj_214 _ hw

/-- read(II)I -/
def w4_read (x1 : Int) (x2 : Int) (F : mF) (A : mA) (Q : Int → mF → mA → Prop) : Prop :=
  w4_begins  F A (fun (A1 : mA) =>
  w4_reads x1 x2 F A1 (fun (r2 : Int) (F3 : mF) (A4 : mA) =>
  w4_ends r2 F3 A4 (fun (r5 : Int) (F6 : mF) (A7 : mA) =>
  Q r5 F6 A7)))
theorem hd_X4_read : yX4_read.cls = RX4 ∧ yX4_read.cls ≠ "java/lang/invoke/MethodHandle" ∧ yX4_read.cls ≠ "java/lang/invoke/VarHandle" ∧ (parseMethodDescriptor yX4_read.desc).map (fun d => d.parameters.length) = some 2 := by decide +kernel
set_option maxHeartbeats 4000000 in
theorem t4_read (M : MT) (hM : OkM M) (z : Nat) {x1 : Int} {x2 : Int} {F : mF} {A : mA} {Q : Int → mF → mA → Prop} (hw : w4_read x1 x2 F A Q) : CtM M z yX4_read cX4_read 3 (some .int) (k2_rm 3 68) [aR (some (oM M)), aI x1, aI x2] F A (PMiFA M z Q) := by
  refine Ct.intro (by decide) (Nat.le_of_ble_eq_true rfl) (fun E hE hR hT => ?_)
  have hT : TM E M := hT
  have hE : OkE E RX4 cX4_read 3 (some .int) := hE
  show G E (wsM M F A) (some z) 0 0 0 [some (aR (some (oM M))), some (aI x1), some (aI x2)] []
  unfold w4_read at hw
  refine g_aldn0 hE dX4_read_0 ?_
  refine gm_cVvA hE hR hM hT (As := []) (t4_begins M hM z hw) (lw_V q2247 q2249 qs46 q108 q2250) hd_X4_begins ⟨by decide, by decide⟩ rfl (Nat.le_of_ble_eq_true rfl) dX4_read_1 rfl (fun A1 hw => ?_)
  refine g_aldn0 hE dX4_read_4 ?_
  refine g_aldn0 hE dX4_read_5 ?_
  refine g_ildn1 hE dX4_read_6 ?_
  refine g_ildn2 hE dX4_read_7 ?_
  refine gm_cViFA hE hR hM hT (As := [aI x1, aI x2]) (t4_reads M hM z hw) (lw_V q2351 q2353 qs60 q108 q2354) hd_X4_reads ⟨by decide, by decide⟩ rfl (Nat.le_of_ble_eq_true rfl) dX4_read_8 rfl (fun r2 F3 A4 hw => ?_)
  refine gm_cViFA hE hR hM hT (As := [aI r2]) (t4_ends M hM z hw) (lw_V q2286 q2288 qs52 q108 q2289) hd_X4_ends ⟨by decide, by decide⟩ rfl (Nat.le_of_ble_eq_true rfl) dX4_read_11 rfl (fun r5 F6 A7 hw => ?_)
  exact g_iret hE hR dX4_read_14 (Nat.le_refl 0) (Nat.le_refl 0) rfl ⟨_, _, _, rfl, rfl, rfl, hw⟩

/-- isEntry(II)Z -/
def w4_isEntry (x1 : Int) (x2 : Int) (F : mF) (A : mA) (Q : Int → Prop) : Prop :=
  ib (204 + 15 * x1 + 2) 354 ∧
  inR x2 ∧ inR ((A 0 (204 + 15 * x1 + 2)) - 1) ∧
  Q (bI (0 ≤ x2 ∧ x2 ≤ ((A 0 (204 + 15 * x1 + 2)) - 1)))
theorem hd_X4_isEntry : yX4_isEntry.cls = RX4 ∧ yX4_isEntry.cls ≠ "java/lang/invoke/MethodHandle" ∧ yX4_isEntry.cls ≠ "java/lang/invoke/VarHandle" ∧ (parseMethodDescriptor yX4_isEntry.desc).map (fun d => d.parameters.length) = some 2 := by decide +kernel
set_option maxHeartbeats 4000000 in
theorem t4_isEntry (M : MT) (hM : OkM M) (z : Nat) {x1 : Int} {x2 : Int} {F : mF} {A : mA} {Q : Int → Prop} (hw : w4_isEntry x1 x2 F A Q) : CtM M z yX4_isEntry cX4_isEntry 3 (some .boolean) (k2_rm 1 22) [aR (some (oM M)), aI x1, aI x2] F A (PMi M z F A Q) := by
  refine Ct.intro (by decide) (Nat.le_of_ble_eq_true rfl) (fun E hE hR hT => ?_)
  have hT : TM E M := hT
  have hE : OkE E RX4 cX4_isEntry 3 (some .boolean) := hE
  show G E (wsM M F A) (some z) 0 0 0 [some (aR (some (oM M))), some (aI x1), some (aI x2)] []
  unfold w4_isEntry at hw
  refine g_ildn2 hE dX4_isEntry_0 ?_
  refine g_iconst hE dX4_isEntry_1 ?_
  refine g_aldn0 hE dX4_isEntry_2 ?_
  refine gm_geta hE hM hT 0 (by decide) rfl q2140 dX4_isEntry_3 ?_
  refine g_ildn1 hE dX4_isEntry_6 ?_
  refine g_iconst hE dX4_isEntry_7 ?_
  refine gm_cSi hE hR hM hT (As := [aI x1, aI 2]) (t4_at M hM z (s4_at )) (lw_S q2268 q2269 q108 q2270) hd_X4_at ⟨by decide, by decide⟩ rfl (Nat.le_of_ble_eq_true rfl) dX4_isEntry_8 rfl (fun r1 hr1 => ?_)
  subst hr1
  obtain ⟨h2, hw⟩ := hw
  refine gm_iald hE hM hT 0 rfl h2 dX4_isEntry_11 ?_
  refine g_iconst hE dX4_isEntry_12 ?_
  refine g_isub hE dX4_isEntry_13 ?_
  obtain ⟨h3, hw⟩ := hw
  obtain ⟨h4, hw⟩ := hw
  refine gm_cSi hE hR hM hT (As := [aI x2, aI 0, aI ((A 0 (204 + 15 * x1 + 2)) - 1)]) (t4_isIn M hM z (s4_isIn h3 (by decide) h4)) (lw_S q2257 q2258 q108 q2259) hd_X4_isIn ⟨by decide, by decide⟩ rfl (Nat.le_of_ble_eq_true rfl) dX4_isEntry_14 rfl (fun r5 hr5 => ?_)
  subst hr5
  exact g_iret hE hR dX4_isEntry_17 (Nat.le_refl 0) (Nat.le_refl 0) narrow_bI ⟨_, rfl, rfl, rfl, hw⟩

/-- entries(I)I -/
def w4_entries (x1 : Int) (F : mF) (A : mA) (Q : Int → Prop) : Prop :=
  lq2 (fun (x2_4 : Int) (x3_4 : Int) (k_4 : Int → Int → Prop) =>
    cLt x3_4 (A 0 11)
      (
      lq2 (fun (x2_18 : Int) (x4_18 : Int) (k_18 : Int → Int → Prop) =>
        ib (204 + 15 * x3_4 + 2) 354 ∧
        cLt x4_18 (A 0 (204 + 15 * x3_4 + 2))
          (
          ib (204 + 15 * x3_4 + 3 + 4 * x4_18 + 3) 354 ∧
          jn1 (fun (y1_55 : Int) => 
              k_18 (x2_18 + y1_55) (x4_18 + 1))
            (fun (j_55 : Int → Prop) =>
            cEq (A 0 (204 + 15 * x3_4 + 3 + 4 * x4_18 + 3)) x1
              (
              j_55 1)
              (
              j_55 0)))
          (
          k_4 x2_18 (x3_4 + 1))) x2_4 0)
      (
      Q x2_4)) 0 0
theorem hd_X4_entries : yX4_entries.cls = RX4 ∧ yX4_entries.cls ≠ "java/lang/invoke/MethodHandle" ∧ yX4_entries.cls ≠ "java/lang/invoke/VarHandle" ∧ (parseMethodDescriptor yX4_entries.desc).map (fun d => d.parameters.length) = some 1 := by decide +kernel
set_option maxHeartbeats 4000000 in
theorem t4_entries (M : MT) (hM : OkM M) (z : Nat) {x1 : Int} {F : mF} {A : mA} {Q : Int → Prop} (hw : w4_entries x1 F A Q) : CtM M z yX4_entries cX4_entries 5 (some .int) (k2_rm 1 22) [aR (some (oM M)), aI x1] F A (PMi M z F A Q) := by
  refine Ct.intro (by decide) (Nat.le_of_ble_eq_true rfl) (fun E hE hR hT => ?_)
  have hT : TM E M := hT
  have hE : OkE E RX4 cX4_entries 5 (some .int) := hE
  show G E (wsM M F A) (some z) 0 0 0 [some (aR (some (oM M))), some (aI x1), none, none, none] []
  unfold w4_entries at hw
  refine g_iconst hE dX4_entries_0 ?_
  refine g_istn2 hE dX4_entries_1 (by decide) rfl ?_
  refine g_iconst hE dX4_entries_2 ?_
  refine g_istn3 hE dX4_entries_3 (by decide) rfl ?_
  refine lq2_walk (fun (x2_4 : Int) (x3_4 : Int) => G E (wsM M F A) (some z) 0 0 4 [some (aR (some (oM M))), some (aI x1), some (aI x2_4), some (aI x3_4), none] []) (fun k_4 hk_4 x2_4 x3_4 hw => ?_) _ _ hw
  refine g_ildn3 hE dX4_entries_4 ?_
  refine g_aldn0 hE dX4_entries_5 ?_
  refine gm_geta hE hM hT 0 (by decide) rfl q2140 dX4_entries_6 ?_
  refine g_bipush hE dX4_entries_9 (by decide) ?_
  refine gm_iald hE hM hT 0 rfl (by decide) dX4_entries_11 ?_
  obtain ⟨h13, h14, hT15, hN16⟩ := hw
  refine g_icmp_ge hE (tgt := 69) dX4_entries_12 (by decide) h13 h14 (fun q => ?_) (fun q => ?_)
  · have hw := hT15 q
    refine g_iconst hE dX4_entries_15 ?_
    refine g_ist4 hE dX4_entries_16 (by decide) rfl ?_
    refine lq2_walk (fun (x2_18 : Int) (x4_18 : Int) => G E (wsM M F A) (some z) 0 0 18 [some (aR (some (oM M))), some (aI x1), some (aI x2_18), some (aI x3_4), some (aI x4_18)] []) (fun k_18 hk_18 x2_18 x4_18 hw => ?_) _ _ hw
    refine g_ild4 hE dX4_entries_18 ?_
    refine g_aldn0 hE dX4_entries_20 ?_
    refine gm_geta hE hM hT 0 (by decide) rfl q2140 dX4_entries_21 ?_
    refine g_ildn3 hE dX4_entries_24 ?_
    refine g_iconst hE dX4_entries_25 ?_
    refine gm_cSi hE hR hM hT (As := [aI x3_4, aI 2]) (t4_at M hM z (s4_at )) (lw_S q2268 q2269 q108 q2270) hd_X4_at ⟨by decide, by decide⟩ rfl (Nat.le_of_ble_eq_true rfl) dX4_entries_26 rfl (fun r1 hr1 => ?_)
    subst hr1
    obtain ⟨h2, hw⟩ := hw
    refine gm_iald hE hM hT 0 rfl h2 dX4_entries_29 ?_
    obtain ⟨h9, h10, hT11, hN12⟩ := hw
    refine g_icmp_ge hE (tgt := 63) dX4_entries_30 (by decide) h9 h10 (fun q => ?_) (fun q => ?_)
    · have hw := hT11 q
      refine g_ildn2 hE dX4_entries_33 ?_
      refine g_aldn0 hE dX4_entries_34 ?_
      refine gm_geta hE hM hT 0 (by decide) rfl q2140 dX4_entries_35 ?_
      refine g_ildn3 hE dX4_entries_38 ?_
      refine g_ild4 hE dX4_entries_39 ?_
      refine g_iconst hE dX4_entries_41 ?_
      refine gm_cSi hE hR hM hT (As := [aI x3_4, aI x4_18, aI 3]) (t4_of M hM z (s4_of )) (lw_S q2271 q2272 q108 q2273) hd_X4_of ⟨by decide, by decide⟩ rfl (Nat.le_of_ble_eq_true rfl) dX4_entries_42 rfl (fun r3 hr3 => ?_)
      subst hr3
      obtain ⟨h4, hw⟩ := hw
      refine gm_iald hE hM hT 0 rfl h4 dX4_entries_45 ?_
      refine g_ildn1 hE dX4_entries_46 ?_
      refine jn1_walk (fun (y1_55 : Int) => G E (wsM M F A) (some z) 0 0 55 [some (aR (some (oM M))), some (aI x1), some (aI x2_18), some (aI x3_4), some (aI x4_18)] [aI y1_55, aI x2_18]) hw (fun y1_55 hw => ?_) (fun j_55 hj_55 hw => ?_)
      · skip
        refine g_iadd hE dX4_entries_55 ?_
        refine g_istn2 hE dX4_entries_56 (by decide) rfl ?_
        refine g_iinc4 hE dX4_entries_57 (by decide) rfl ?_
        refine g_goto hE (tgt := 18) dX4_entries_60 (by decide) ?_
        exact hk_18 _ _ hw
      · skip
        obtain ⟨h5, h6, hT7, hN8⟩ := hw
        refine g_icmp_ne hE (tgt := 54) dX4_entries_47 (by decide) h5 h6 (fun q => ?_) (fun q => ?_)
        · have hw := hT7 q
          refine g_iconst hE dX4_entries_50 ?_
          refine g_goto hE (tgt := 55) dX4_entries_51 (by decide) ?_
          exact hj_55 _ hw
        · have hw := hN8 q
          refine g_iconst hE dX4_entries_54 ?_
          exact hj_55 _ hw
    · have hw := hN12 q
      refine g_iinc3 hE dX4_entries_63 (by decide) rfl ?_
      refine g_goto hE (tgt := 4) dX4_entries_66 (by decide) ?_
      refine g_kl4 ?_
      exact hk_4 _ _ hw
  · have hw := hN16 q
    refine g_ildn2 hE dX4_entries_69 ?_
    exact g_iret hE hR dX4_entries_70 (Nat.le_refl 0) (Nat.le_refl 0) rfl ⟨_, rfl, rfl, rfl, hw⟩

/-- strikes(II)I -/
def w4_strikes (x1 : Int) (x2 : Int) (F : mF) (A : mA) (Q : Int → mF → mA → Prop) : Prop :=
  w4_isPage x1 F A (fun (r1 : Int) =>
  cEq r1 0
    (
    w4_refuses 1 x1 F A (fun (r2 : Int) (F3 : mF) =>
    Q r2 F3 A))
    (
    w4_isEntry x1 x2 F A (fun (r4 : Int) =>
    cEq r4 0
      (
      w4_refuses 1 x2 F A (fun (r5 : Int) (F6 : mF) =>
      Q r5 F6 A))
      (
      ib (204 + 15 * x1 + 3 + 4 * x2 + 3) 354 ∧
      cEq (A 0 (204 + 15 * x1 + 3 + 4 * x2 + 3)) 1
        (
        ib (204 + 15 * x1 + 3 + 4 * x2 + 3) 354 ∧ ∀ A10 : mA, A10 = uA A 0 (204 + 15 * x1 + 3 + 4 * x2 + 3) 2 →
        w4_entries 1 F A10 (fun (r12 : Int) =>
        Q r12 F A10))
        (
        w4_refuses 5 (A 0 (204 + 15 * x1 + 3 + 4 * x2 + 3)) F A (fun (r13 : Int) (F14 : mF) =>
        Q r13 F14 A))))))
theorem hd_X4_strikes : yX4_strikes.cls = RX4 ∧ yX4_strikes.cls ≠ "java/lang/invoke/MethodHandle" ∧ yX4_strikes.cls ≠ "java/lang/invoke/VarHandle" ∧ (parseMethodDescriptor yX4_strikes.desc).map (fun d => d.parameters.length) = some 2 := by decide +kernel
set_option maxHeartbeats 4000000 in
theorem t4_strikes (M : MT) (hM : OkM M) (z : Nat) {x1 : Int} {x2 : Int} {F : mF} {A : mA} {Q : Int → mF → mA → Prop} (hw : w4_strikes x1 x2 F A Q) : CtM M z yX4_strikes cX4_strikes 4 (some .int) (k2_rm 2 46) [aR (some (oM M)), aI x1, aI x2] F A (PMiFA M z Q) := by
  refine Ct.intro (by decide) (Nat.le_of_ble_eq_true rfl) (fun E hE hR hT => ?_)
  have hT : TM E M := hT
  have hE : OkE E RX4 cX4_strikes 4 (some .int) := hE
  show G E (wsM M F A) (some z) 0 0 0 [some (aR (some (oM M))), some (aI x1), some (aI x2), none] []
  unfold w4_strikes at hw
  refine g_aldn0 hE dX4_strikes_0 ?_
  refine g_ildn1 hE dX4_strikes_1 ?_
  refine gm_cVi hE hR hM hT (As := [aI x1]) (t4_isPage M hM z hw) (lw_V q2319 q2321 qs55 q108 q2322) hd_X4_isPage ⟨by decide, by decide⟩ rfl (Nat.le_of_ble_eq_true rfl) dX4_strikes_2 rfl (fun r1 hw => ?_)
  obtain ⟨h23, h24, hT25, hN26⟩ := hw
  refine g_if_ne hE (tgt := 15) dX4_strikes_5 (by decide) h23 (fun q => ?_) (fun q => ?_)
  · have hw := hT25 q
    refine g_aldn0 hE dX4_strikes_8 ?_
    refine g_iconst hE dX4_strikes_9 ?_
    refine g_ildn1 hE dX4_strikes_10 ?_
    refine gm_cViF hE hR hM hT (As := [aI 1, aI x1]) (t4_refuses M hM z hw) (lw_V q2278 q2280 qs50 q108 q2281) hd_X4_refuses ⟨by decide, by decide⟩ rfl (Nat.le_of_ble_eq_true rfl) dX4_strikes_11 rfl (fun r2 F3 hw => ?_)
    exact g_iret hE hR dX4_strikes_14 (Nat.le_refl 0) (Nat.le_refl 0) rfl ⟨_, _, _, rfl, rfl, rfl, hw⟩
  · have hw := hN26 q
    refine g_aldn0 hE dX4_strikes_15 ?_
    refine g_ildn1 hE dX4_strikes_16 ?_
    refine g_ildn2 hE dX4_strikes_17 ?_
    refine gm_cVi hE hR hM hT (As := [aI x1, aI x2]) (t4_isEntry M hM z hw) (lw_V q2367 q2369 qs63 q108 q2370) hd_X4_isEntry ⟨by decide, by decide⟩ rfl (Nat.le_of_ble_eq_true rfl) dX4_strikes_18 rfl (fun r4 hw => ?_)
    obtain ⟨h19, h20, hT21, hN22⟩ := hw
    refine g_if_ne hE (tgt := 31) dX4_strikes_21 (by decide) h19 (fun q => ?_) (fun q => ?_)
    · have hw := hT21 q
      refine g_aldn0 hE dX4_strikes_24 ?_
      refine g_iconst hE dX4_strikes_25 ?_
      refine g_ildn2 hE dX4_strikes_26 ?_
      refine gm_cViF hE hR hM hT (As := [aI 1, aI x2]) (t4_refuses M hM z hw) (lw_V q2278 q2280 qs50 q108 q2281) hd_X4_refuses ⟨by decide, by decide⟩ rfl (Nat.le_of_ble_eq_true rfl) dX4_strikes_27 rfl (fun r5 F6 hw => ?_)
      exact g_iret hE hR dX4_strikes_30 (Nat.le_refl 0) (Nat.le_refl 0) rfl ⟨_, _, _, rfl, rfl, rfl, hw⟩
    · have hw := hN22 q
      refine g_aldn0 hE dX4_strikes_31 ?_
      refine gm_geta hE hM hT 0 (by decide) rfl q2140 dX4_strikes_32 ?_
      refine g_ildn1 hE dX4_strikes_35 ?_
      refine g_ildn2 hE dX4_strikes_36 ?_
      refine g_iconst hE dX4_strikes_37 ?_
      refine gm_cSi hE hR hM hT (As := [aI x1, aI x2, aI 3]) (t4_of M hM z (s4_of )) (lw_S q2271 q2272 q108 q2273) hd_X4_of ⟨by decide, by decide⟩ rfl (Nat.le_of_ble_eq_true rfl) dX4_strikes_38 rfl (fun r7 hr7 => ?_)
      subst hr7
      obtain ⟨h8, hw⟩ := hw
      refine gm_iald hE hM hT 0 rfl h8 dX4_strikes_41 ?_
      refine g_istn3 hE dX4_strikes_42 (by decide) rfl ?_
      refine g_ildn3 hE dX4_strikes_43 ?_
      refine g_iconst hE dX4_strikes_44 ?_
      obtain ⟨h15, h16, hT17, hN18⟩ := hw
      refine g_icmp_eq hE (tgt := 55) dX4_strikes_45 (by decide) h15 h16 (fun q => ?_) (fun q => ?_)
      · have hw := hT17 q
        refine g_aldn0 hE dX4_strikes_55 ?_
        refine gm_geta hE hM hT 0 (by decide) rfl q2140 dX4_strikes_56 ?_
        refine g_ildn1 hE dX4_strikes_59 ?_
        refine g_ildn2 hE dX4_strikes_60 ?_
        refine g_iconst hE dX4_strikes_61 ?_
        refine gm_cSi hE hR hM hT (As := [aI x1, aI x2, aI 3]) (t4_of M hM z (s4_of )) (lw_S q2271 q2272 q108 q2273) hd_X4_of ⟨by decide, by decide⟩ rfl (Nat.le_of_ble_eq_true rfl) dX4_strikes_62 rfl (fun r9 hr9 => ?_)
        subst hr9
        refine g_iconst hE dX4_strikes_65 ?_
        obtain ⟨h11, hw⟩ := hw
        refine gm_iast hE hM hT 0 rfl h11 dX4_strikes_66 ?_
        have hw := hw _ rfl
        generalize uA A 0 (204 + 15 * x1 + 3 + 4 * x2 + 3) 2 = A10 at hw ⊢
        refine g_aldn0 hE dX4_strikes_67 ?_
        refine g_iconst hE dX4_strikes_68 ?_
        refine gm_cVi hE hR hM hT (As := [aI 1]) (t4_entries M hM z hw) (lw_V q2371 q2373 qs64 q108 q2374) hd_X4_entries ⟨by decide, by decide⟩ rfl (Nat.le_of_ble_eq_true rfl) dX4_strikes_69 rfl (fun r12 hw => ?_)
        exact g_iret hE hR dX4_strikes_72 (Nat.le_refl 0) (Nat.le_refl 0) rfl ⟨_, _, _, rfl, rfl, rfl, hw⟩
      · have hw := hN18 q
        refine g_aldn0 hE dX4_strikes_48 ?_
        refine g_iconst hE dX4_strikes_49 ?_
        refine g_ildn3 hE dX4_strikes_50 ?_
        refine gm_cViF hE hR hM hT (As := [aI 5, aI (A 0 (204 + 15 * x1 + 3 + 4 * x2 + 3))]) (t4_refuses M hM z hw) (lw_V q2278 q2280 qs50 q108 q2281) hd_X4_refuses ⟨by decide, by decide⟩ rfl (Nat.le_of_ble_eq_true rfl) dX4_strikes_51 rfl (fun r13 F14 hw => ?_)
        exact g_iret hE hR dX4_strikes_54 (Nat.le_refl 0) (Nat.le_refl 0) rfl ⟨_, _, _, rfl, rfl, rfl, hw⟩

/-- strike(II)I -/
def w4_strike (x1 : Int) (x2 : Int) (F : mF) (A : mA) (Q : Int → mF → mA → Prop) : Prop :=
  w4_begins  F A (fun (A1 : mA) =>
  w4_strikes x1 x2 F A1 (fun (r2 : Int) (F3 : mF) (A4 : mA) =>
  w4_ends r2 F3 A4 (fun (r5 : Int) (F6 : mF) (A7 : mA) =>
  Q r5 F6 A7)))
theorem hd_X4_strike : yX4_strike.cls = RX4 ∧ yX4_strike.cls ≠ "java/lang/invoke/MethodHandle" ∧ yX4_strike.cls ≠ "java/lang/invoke/VarHandle" ∧ (parseMethodDescriptor yX4_strike.desc).map (fun d => d.parameters.length) = some 2 := by decide +kernel
set_option maxHeartbeats 4000000 in
theorem t4_strike (M : MT) (hM : OkM M) (z : Nat) {x1 : Int} {x2 : Int} {F : mF} {A : mA} {Q : Int → mF → mA → Prop} (hw : w4_strike x1 x2 F A Q) : CtM M z yX4_strike cX4_strike 3 (some .int) (k2_rm 3 69) [aR (some (oM M)), aI x1, aI x2] F A (PMiFA M z Q) := by
  refine Ct.intro (by decide) (Nat.le_of_ble_eq_true rfl) (fun E hE hR hT => ?_)
  have hT : TM E M := hT
  have hE : OkE E RX4 cX4_strike 3 (some .int) := hE
  show G E (wsM M F A) (some z) 0 0 0 [some (aR (some (oM M))), some (aI x1), some (aI x2)] []
  unfold w4_strike at hw
  refine g_aldn0 hE dX4_strike_0 ?_
  refine gm_cVvA hE hR hM hT (As := []) (t4_begins M hM z hw) (lw_V q2247 q2249 qs46 q108 q2250) hd_X4_begins ⟨by decide, by decide⟩ rfl (Nat.le_of_ble_eq_true rfl) dX4_strike_1 rfl (fun A1 hw => ?_)
  refine g_aldn0 hE dX4_strike_4 ?_
  refine g_aldn0 hE dX4_strike_5 ?_
  refine g_ildn1 hE dX4_strike_6 ?_
  refine g_ildn2 hE dX4_strike_7 ?_
  refine gm_cViFA hE hR hM hT (As := [aI x1, aI x2]) (t4_strikes M hM z hw) (lw_V q2363 q2365 qs62 q108 q2366) hd_X4_strikes ⟨by decide, by decide⟩ rfl (Nat.le_of_ble_eq_true rfl) dX4_strike_8 rfl (fun r2 F3 A4 hw => ?_)
  refine gm_cViFA hE hR hM hT (As := [aI r2]) (t4_ends M hM z hw) (lw_V q2286 q2288 qs52 q108 q2289) hd_X4_ends ⟨by decide, by decide⟩ rfl (Nat.le_of_ble_eq_true rfl) dX4_strike_11 rfl (fun r5 F6 A7 hw => ?_)
  exact g_iret hE hR dX4_strike_14 (Nat.le_refl 0) (Nat.le_refl 0) rfl ⟨_, _, _, rfl, rfl, rfl, hw⟩

/-- blames(I)I -/
def w4_blames (x1 : Int) (F : mF) (A : mA) (Q : Int → mF → mA → Prop) : Prop :=
  inR x1 ∧
  cIf (0 ≤ x1 ∧ x1 ≤ 5)
    (
    ib (4 + x1) 354 ∧
    cEq (A 0 (4 + x1)) 9
      (
      w4_refuses 7 x1 F A (fun (r4 : Int) (F5 : mF) =>
      Q r4 F5 A))
      (
      ib (4 + x1) 354 ∧
      ib (4 + x1) 354 ∧ ∀ A7 : mA, A7 = uA A 0 (4 + x1) ((A 0 (4 + x1)) + 1) →
      ib (4 + x1) 354 ∧
      Q (10 - (A7 0 (4 + x1))) F A7))
    (
    w4_refuses 1 x1 F A (fun (r14 : Int) (F15 : mF) =>
    Q r14 F15 A))
theorem hd_X4_blames : yX4_blames.cls = RX4 ∧ yX4_blames.cls ≠ "java/lang/invoke/MethodHandle" ∧ yX4_blames.cls ≠ "java/lang/invoke/VarHandle" ∧ (parseMethodDescriptor yX4_blames.desc).map (fun d => d.parameters.length) = some 1 := by decide +kernel
set_option maxHeartbeats 4000000 in
theorem t4_blames (M : MT) (hM : OkM M) (z : Nat) {x1 : Int} {F : mF} {A : mA} {Q : Int → mF → mA → Prop} (hw : w4_blames x1 F A Q) : CtM M z yX4_blames cX4_blames 2 (some .int) (k2_rm 1 22) [aR (some (oM M)), aI x1] F A (PMiFA M z Q) := by
  refine Ct.intro (by decide) (Nat.le_of_ble_eq_true rfl) (fun E hE hR hT => ?_)
  have hT : TM E M := hT
  have hE : OkE E RX4 cX4_blames 2 (some .int) := hE
  show G E (wsM M F A) (some z) 0 0 0 [some (aR (some (oM M))), some (aI x1)] []
  unfold w4_blames at hw
  refine g_ildn1 hE dX4_blames_0 ?_
  refine g_iconst hE dX4_blames_1 ?_
  refine g_iconst hE dX4_blames_2 ?_
  obtain ⟨h1, hw⟩ := hw
  refine gm_cSi hE hR hM hT (As := [aI x1, aI 0, aI 5]) (t4_isIn M hM z (s4_isIn h1 (by decide) (by decide))) (lw_S q2257 q2258 q108 q2259) hd_X4_isIn ⟨by decide, by decide⟩ rfl (Nat.le_of_ble_eq_true rfl) dX4_blames_3 rfl (fun r2 hr2 => ?_)
  subst hr2
  refine g_if_ne hE (tgt := 16) dX4_blames_6 (by decide) bI_in (fun q => ?_) (fun q => ?_)
  · have hw := hw.2 (bI_eq0.mp q)
    refine g_aldn0 hE dX4_blames_9 ?_
    refine g_iconst hE dX4_blames_10 ?_
    refine g_ildn1 hE dX4_blames_11 ?_
    refine gm_cViF hE hR hM hT (As := [aI 1, aI x1]) (t4_refuses M hM z hw) (lw_V q2278 q2280 qs50 q108 q2281) hd_X4_refuses ⟨by decide, by decide⟩ rfl (Nat.le_of_ble_eq_true rfl) dX4_blames_12 rfl (fun r14 F15 hw => ?_)
    exact g_iret hE hR dX4_blames_15 (Nat.le_refl 0) (Nat.le_refl 0) rfl ⟨_, _, _, rfl, rfl, rfl, hw⟩
  · have hw := hw.1 (bI_ne0.mp q)
    refine g_aldn0 hE dX4_blames_16 ?_
    refine gm_geta hE hM hT 0 (by decide) rfl q2140 dX4_blames_17 ?_
    refine g_iconst hE dX4_blames_20 ?_
    refine g_ildn1 hE dX4_blames_21 ?_
    refine g_iadd hE dX4_blames_22 ?_
    obtain ⟨h3, hw⟩ := hw
    refine gm_iald hE hM hT 0 rfl h3 dX4_blames_23 ?_
    refine g_bipush hE dX4_blames_24 (by decide) ?_
    obtain ⟨h10, h11, hT12, hN13⟩ := hw
    refine g_icmp_ne hE (tgt := 37) dX4_blames_26 (by decide) h10 h11 (fun q => ?_) (fun q => ?_)
    · have hw := hT12 q
      refine g_aldn0 hE dX4_blames_29 ?_
      refine g_bipush hE dX4_blames_30 (by decide) ?_
      refine g_ildn1 hE dX4_blames_32 ?_
      refine gm_cViF hE hR hM hT (As := [aI 7, aI x1]) (t4_refuses M hM z hw) (lw_V q2278 q2280 qs50 q108 q2281) hd_X4_refuses ⟨by decide, by decide⟩ rfl (Nat.le_of_ble_eq_true rfl) dX4_blames_33 rfl (fun r4 F5 hw => ?_)
      exact g_iret hE hR dX4_blames_36 (Nat.le_refl 0) (Nat.le_refl 0) rfl ⟨_, _, _, rfl, rfl, rfl, hw⟩
    · have hw := hN13 q
      refine g_aldn0 hE dX4_blames_37 ?_
      refine gm_geta hE hM hT 0 (by decide) rfl q2140 dX4_blames_38 ?_
      refine g_iconst hE dX4_blames_41 ?_
      refine g_ildn1 hE dX4_blames_42 ?_
      refine g_iadd hE dX4_blames_43 ?_
      refine g_dup2 hE dX4_blames_44 rfl rfl ?_
      obtain ⟨h6, hw⟩ := hw
      refine gm_iald hE hM hT 0 rfl h6 dX4_blames_45 ?_
      refine g_iconst hE dX4_blames_46 ?_
      refine g_iadd hE dX4_blames_47 ?_
      obtain ⟨h8, hw⟩ := hw
      refine gm_iast hE hM hT 0 rfl h8 dX4_blames_48 ?_
      have hw := hw _ rfl
      generalize uA A 0 (4 + x1) ((A 0 (4 + x1)) + 1) = A7 at hw ⊢
      refine g_bipush hE dX4_blames_49 (by decide) ?_
      refine g_aldn0 hE dX4_blames_51 ?_
      refine gm_geta hE hM hT 0 (by decide) rfl q2140 dX4_blames_52 ?_
      refine g_iconst hE dX4_blames_55 ?_
      refine g_ildn1 hE dX4_blames_56 ?_
      refine g_iadd hE dX4_blames_57 ?_
      obtain ⟨h9, hw⟩ := hw
      refine gm_iald hE hM hT 0 rfl h9 dX4_blames_58 ?_
      refine g_isub hE dX4_blames_59 ?_
      exact g_iret hE hR dX4_blames_60 (Nat.le_refl 0) (Nat.le_refl 0) rfl ⟨_, _, _, rfl, rfl, rfl, hw⟩

/-- blame(I)I -/
def w4_blame (x1 : Int) (F : mF) (A : mA) (Q : Int → mF → mA → Prop) : Prop :=
  w4_begins  F A (fun (A1 : mA) =>
  w4_blames x1 F A1 (fun (r2 : Int) (F3 : mF) (A4 : mA) =>
  w4_ends r2 F3 A4 (fun (r5 : Int) (F6 : mF) (A7 : mA) =>
  Q r5 F6 A7)))
theorem hd_X4_blame : yX4_blame.cls = RX4 ∧ yX4_blame.cls ≠ "java/lang/invoke/MethodHandle" ∧ yX4_blame.cls ≠ "java/lang/invoke/VarHandle" ∧ (parseMethodDescriptor yX4_blame.desc).map (fun d => d.parameters.length) = some 1 := by decide +kernel
set_option maxHeartbeats 4000000 in
theorem t4_blame (M : MT) (hM : OkM M) (z : Nat) {x1 : Int} {F : mF} {A : mA} {Q : Int → mF → mA → Prop} (hw : w4_blame x1 F A Q) : CtM M z yX4_blame cX4_blame 2 (some .int) (k2_rm 2 44) [aR (some (oM M)), aI x1] F A (PMiFA M z Q) := by
  refine Ct.intro (by decide) (Nat.le_of_ble_eq_true rfl) (fun E hE hR hT => ?_)
  have hT : TM E M := hT
  have hE : OkE E RX4 cX4_blame 2 (some .int) := hE
  show G E (wsM M F A) (some z) 0 0 0 [some (aR (some (oM M))), some (aI x1)] []
  unfold w4_blame at hw
  refine g_aldn0 hE dX4_blame_0 ?_
  refine gm_cVvA hE hR hM hT (As := []) (t4_begins M hM z hw) (lw_V q2247 q2249 qs46 q108 q2250) hd_X4_begins ⟨by decide, by decide⟩ rfl (Nat.le_of_ble_eq_true rfl) dX4_blame_1 rfl (fun A1 hw => ?_)
  refine g_aldn0 hE dX4_blame_4 ?_
  refine g_aldn0 hE dX4_blame_5 ?_
  refine g_ildn1 hE dX4_blame_6 ?_
  refine gm_cViFA hE hR hM hT (As := [aI x1]) (t4_blames M hM z hw) (lw_V q2379 q2381 qs65 q108 q2382) hd_X4_blames ⟨by decide, by decide⟩ rfl (Nat.le_of_ble_eq_true rfl) dX4_blame_7 rfl (fun r2 F3 A4 hw => ?_)
  refine gm_cViFA hE hR hM hT (As := [aI r2]) (t4_ends M hM z hw) (lw_V q2286 q2288 qs52 q108 q2289) hd_X4_ends ⟨by decide, by decide⟩ rfl (Nat.le_of_ble_eq_true rfl) dX4_blame_10 rfl (fun r5 F6 A7 hw => ?_)
  exact g_iret hE hR dX4_blame_13 (Nat.le_refl 0) (Nat.le_refl 0) rfl ⟨_, _, _, rfl, rfl, rfl, hw⟩

/-- known(I)I -/
def w4_known (x1 : Int) (F : mF) (A : mA) (Q : Int → Prop) : Prop :=
  lq2 (fun (x2_4 : Int) (x3_4 : Int) (k_4 : Int → Int → Prop) =>
    ib (204 + 15 * x1 + 2) 354 ∧
    cLt x3_4 (A 0 (204 + 15 * x1 + 2))
      (
      ib (204 + 15 * x1 + 3 + 4 * x3_4 + 3) 354 ∧
      jn1 (fun (y1_39 : Int) => 
          k_4 (x2_4 + y1_39) (x3_4 + 1))
        (fun (j_39 : Int → Prop) =>
        cEq (A 0 (204 + 15 * x1 + 3 + 4 * x3_4 + 3)) 1
          (
          j_39 1)
          (
          j_39 0)))
      (
      Q x2_4)) 0 0
theorem hd_X4_known : yX4_known.cls = RX4 ∧ yX4_known.cls ≠ "java/lang/invoke/MethodHandle" ∧ yX4_known.cls ≠ "java/lang/invoke/VarHandle" ∧ (parseMethodDescriptor yX4_known.desc).map (fun d => d.parameters.length) = some 1 := by decide +kernel
set_option maxHeartbeats 4000000 in
theorem t4_known (M : MT) (hM : OkM M) (z : Nat) {x1 : Int} {F : mF} {A : mA} {Q : Int → Prop} (hw : w4_known x1 F A Q) : CtM M z yX4_known cX4_known 4 (some .int) (k2_rm 1 22) [aR (some (oM M)), aI x1] F A (PMi M z F A Q) := by
  refine Ct.intro (by decide) (Nat.le_of_ble_eq_true rfl) (fun E hE hR hT => ?_)
  have hT : TM E M := hT
  have hE : OkE E RX4 cX4_known 4 (some .int) := hE
  show G E (wsM M F A) (some z) 0 0 0 [some (aR (some (oM M))), some (aI x1), none, none] []
  unfold w4_known at hw
  refine g_iconst hE dX4_known_0 ?_
  refine g_istn2 hE dX4_known_1 (by decide) rfl ?_
  refine g_iconst hE dX4_known_2 ?_
  refine g_istn3 hE dX4_known_3 (by decide) rfl ?_
  refine lq2_walk (fun (x2_4 : Int) (x3_4 : Int) => G E (wsM M F A) (some z) 0 0 4 [some (aR (some (oM M))), some (aI x1), some (aI x2_4), some (aI x3_4)] []) (fun k_4 hk_4 x2_4 x3_4 hw => ?_) _ _ hw
  refine g_ildn3 hE dX4_known_4 ?_
  refine g_aldn0 hE dX4_known_5 ?_
  refine gm_geta hE hM hT 0 (by decide) rfl q2140 dX4_known_6 ?_
  refine g_ildn1 hE dX4_known_9 ?_
  refine g_iconst hE dX4_known_10 ?_
  refine gm_cSi hE hR hM hT (As := [aI x1, aI 2]) (t4_at M hM z (s4_at )) (lw_S q2268 q2269 q108 q2270) hd_X4_at ⟨by decide, by decide⟩ rfl (Nat.le_of_ble_eq_true rfl) dX4_known_11 rfl (fun r1 hr1 => ?_)
  subst hr1
  obtain ⟨h2, hw⟩ := hw
  refine gm_iald hE hM hT 0 rfl h2 dX4_known_14 ?_
  obtain ⟨h9, h10, hT11, hN12⟩ := hw
  refine g_icmp_ge hE (tgt := 47) dX4_known_15 (by decide) h9 h10 (fun q => ?_) (fun q => ?_)
  · have hw := hT11 q
    refine g_ildn2 hE dX4_known_18 ?_
    refine g_aldn0 hE dX4_known_19 ?_
    refine gm_geta hE hM hT 0 (by decide) rfl q2140 dX4_known_20 ?_
    refine g_ildn1 hE dX4_known_23 ?_
    refine g_ildn3 hE dX4_known_24 ?_
    refine g_iconst hE dX4_known_25 ?_
    refine gm_cSi hE hR hM hT (As := [aI x1, aI x3_4, aI 3]) (t4_of M hM z (s4_of )) (lw_S q2271 q2272 q108 q2273) hd_X4_of ⟨by decide, by decide⟩ rfl (Nat.le_of_ble_eq_true rfl) dX4_known_26 rfl (fun r3 hr3 => ?_)
    subst hr3
    obtain ⟨h4, hw⟩ := hw
    refine gm_iald hE hM hT 0 rfl h4 dX4_known_29 ?_
    refine g_iconst hE dX4_known_30 ?_
    refine jn1_walk (fun (y1_39 : Int) => G E (wsM M F A) (some z) 0 0 39 [some (aR (some (oM M))), some (aI x1), some (aI x2_4), some (aI x3_4)] [aI y1_39, aI x2_4]) hw (fun y1_39 hw => ?_) (fun j_39 hj_39 hw => ?_)
    · skip
      refine g_iadd hE dX4_known_39 ?_
      refine g_istn2 hE dX4_known_40 (by decide) rfl ?_
      refine g_iinc3 hE dX4_known_41 (by decide) rfl ?_
      refine g_goto hE (tgt := 4) dX4_known_44 (by decide) ?_
      exact hk_4 _ _ hw
    · skip
      obtain ⟨h5, h6, hT7, hN8⟩ := hw
      refine g_icmp_ne hE (tgt := 38) dX4_known_31 (by decide) h5 h6 (fun q => ?_) (fun q => ?_)
      · have hw := hT7 q
        refine g_iconst hE dX4_known_34 ?_
        refine g_goto hE (tgt := 39) dX4_known_35 (by decide) ?_
        exact hj_39 _ hw
      · have hw := hN8 q
        refine g_iconst hE dX4_known_38 ?_
        exact hj_39 _ hw
  · have hw := hN12 q
    refine g_ildn2 hE dX4_known_47 ?_
    exact g_iret hE hR dX4_known_48 (Nat.le_refl 0) (Nat.le_refl 0) rfl ⟨_, rfl, rfl, rfl, hw⟩

/-- rays(I)I -/
def w4_rays (x1 : Int) (F : mF) (A : mA) (Q : Int → Prop) : Prop :=
  lq2 (fun (x2_4 : Int) (x3_4 : Int) (k_4 : Int → Int → Prop) =>
    cLt x3_4 3
      (
      w4_isLegible x1 x3_4 F A (fun (r1 : Int) =>
      jn1 (fun (y1_26 : Int) => 
          k_4 (bOr x2_4 y1_26) (x3_4 + 1))
        (fun (j_26 : Int → Prop) =>
        cEq r1 0
          (
          j_26 0)
          (
          j_26 (bShl 1 x3_4)))))
      (
      Q x2_4)) 0 0
theorem hd_X4_rays : yX4_rays.cls = RX4 ∧ yX4_rays.cls ≠ "java/lang/invoke/MethodHandle" ∧ yX4_rays.cls ≠ "java/lang/invoke/VarHandle" ∧ (parseMethodDescriptor yX4_rays.desc).map (fun d => d.parameters.length) = some 1 := by decide +kernel
set_option maxHeartbeats 4000000 in
theorem t4_rays (M : MT) (hM : OkM M) (z : Nat) {x1 : Int} {F : mF} {A : mA} {Q : Int → Prop} (hw : w4_rays x1 F A Q) : CtM M z yX4_rays cX4_rays 4 (some .int) (k2_rm 2 44) [aR (some (oM M)), aI x1] F A (PMi M z F A Q) := by
  refine Ct.intro (by decide) (Nat.le_of_ble_eq_true rfl) (fun E hE hR hT => ?_)
  have hT : TM E M := hT
  have hE : OkE E RX4 cX4_rays 4 (some .int) := hE
  show G E (wsM M F A) (some z) 0 0 0 [some (aR (some (oM M))), some (aI x1), none, none] []
  unfold w4_rays at hw
  refine g_iconst hE dX4_rays_0 ?_
  refine g_istn2 hE dX4_rays_1 (by decide) rfl ?_
  refine g_iconst hE dX4_rays_2 ?_
  refine g_istn3 hE dX4_rays_3 (by decide) rfl ?_
  refine lq2_walk (fun (x2_4 : Int) (x3_4 : Int) => G E (wsM M F A) (some z) 0 0 4 [some (aR (some (oM M))), some (aI x1), some (aI x2_4), some (aI x3_4)] []) (fun k_4 hk_4 x2_4 x3_4 hw => ?_) _ _ hw
  refine g_ildn3 hE dX4_rays_4 ?_
  refine g_iconst hE dX4_rays_5 ?_
  obtain ⟨h6, h7, hT8, hN9⟩ := hw
  refine g_icmp_ge hE (tgt := 34) dX4_rays_6 (by decide) h6 h7 (fun q => ?_) (fun q => ?_)
  · have hw := hT8 q
    refine g_ildn2 hE dX4_rays_9 ?_
    refine g_aldn0 hE dX4_rays_10 ?_
    refine g_ildn1 hE dX4_rays_11 ?_
    refine g_ildn3 hE dX4_rays_12 ?_
    refine gm_cVi hE hR hM hT (As := [aI x1, aI x3_4]) (t4_isLegible M hM z hw) (lw_V q2355 q2357 qs61 q108 q2358) hd_X4_isLegible ⟨by decide, by decide⟩ rfl (Nat.le_of_ble_eq_true rfl) dX4_rays_13 rfl (fun r1 hw => ?_)
    refine jn1_walk (fun (y1_26 : Int) => G E (wsM M F A) (some z) 0 0 26 [some (aR (some (oM M))), some (aI x1), some (aI x2_4), some (aI x3_4)] [aI y1_26, aI x2_4]) hw (fun y1_26 hw => ?_) (fun j_26 hj_26 hw => ?_)
    · skip
      refine g_ior hE dX4_rays_26 ?_
      refine g_istn2 hE dX4_rays_27 (by decide) rfl ?_
      refine g_iinc3 hE dX4_rays_28 (by decide) rfl ?_
      refine g_goto hE (tgt := 4) dX4_rays_31 (by decide) ?_
      exact hk_4 _ _ hw
    · skip
      obtain ⟨h2, h3, hT4, hN5⟩ := hw
      refine g_if_eq hE (tgt := 25) dX4_rays_16 (by decide) h2 (fun q => ?_) (fun q => ?_)
      · have hw := hT4 q
        refine g_iconst hE dX4_rays_25 ?_
        exact hj_26 _ hw
      · have hw := hN5 q
        refine g_iconst hE dX4_rays_19 ?_
        refine g_ildn3 hE dX4_rays_20 ?_
        refine g_ishl hE dX4_rays_21 ?_
        refine g_goto hE (tgt := 26) dX4_rays_22 (by decide) ?_
        exact hj_26 _ hw
  · have hw := hN9 q
    refine g_ildn2 hE dX4_rays_34 ?_
    exact g_iret hE hR dX4_rays_35 (Nat.le_refl 0) (Nat.le_refl 0) rfl ⟨_, rfl, rfl, rfl, hw⟩

/-- pageOf(II)I -/
def w4_pageOf (x1 : Int) (x2 : Int) (F : mF) (A : mA) (Q : Int → Prop) : Prop :=
  w4_isPage x1 F A (fun (r1 : Int) =>
  cEq r1 0
    (
    Q ((-1)))
    (
    inR x2 ∧
    cIf (0 ≤ x2 ∧ x2 ≤ 5)
      (
      cLt x2 3
        (
        ib (204 + 15 * x1 + x2) 354 ∧
        Q (A 0 (204 + 15 * x1 + x2)))
        (
        cEq x2 3
          (
          w4_known x1 F A (fun (r6 : Int) =>
          Q r6))
          (
          w4_rays x1 F A (fun (r7 : Int) =>
          jn1 (fun (y0_97 : Int) => 
              Q y0_97)
            (fun (j_97 : Int → Prop) =>
            cEq x2 4
              (
              j_97 r7)
              (
              cEq (bAnd r7 1) 1
                (
                j_97 0)
                (
                cEq (bAnd r7 2) 2
                  (
                  j_97 1)
                  (
                  cEq r7 4
                    (
                    j_97 2)
                    (
                    j_97 ((-5)))))))))))
      (
      Q ((-2)))))
theorem hd_X4_pageOf : yX4_pageOf.cls = RX4 ∧ yX4_pageOf.cls ≠ "java/lang/invoke/MethodHandle" ∧ yX4_pageOf.cls ≠ "java/lang/invoke/VarHandle" ∧ (parseMethodDescriptor yX4_pageOf.desc).map (fun d => d.parameters.length) = some 2 := by decide +kernel
set_option maxHeartbeats 4000000 in
theorem t4_pageOf (M : MT) (hM : OkM M) (z : Nat) {x1 : Int} {x2 : Int} {F : mF} {A : mA} {Q : Int → Prop} (hw : w4_pageOf x1 x2 F A Q) : CtM M z yX4_pageOf cX4_pageOf 4 (some .int) (k2_rm 3 67) [aR (some (oM M)), aI x1, aI x2] F A (PMi M z F A Q) := by
  refine Ct.intro (by decide) (Nat.le_of_ble_eq_true rfl) (fun E hE hR hT => ?_)
  have hT : TM E M := hT
  have hE : OkE E RX4 cX4_pageOf 4 (some .int) := hE
  show G E (wsM M F A) (some z) 0 0 0 [some (aR (some (oM M))), some (aI x1), some (aI x2), none] []
  unfold w4_pageOf at hw
  refine g_aldn0 hE dX4_pageOf_0 ?_
  refine g_ildn1 hE dX4_pageOf_1 ?_
  refine gm_cVi hE hR hM hT (As := [aI x1]) (t4_isPage M hM z hw) (lw_V q2319 q2321 qs55 q108 q2322) hd_X4_isPage ⟨by decide, by decide⟩ rfl (Nat.le_of_ble_eq_true rfl) dX4_pageOf_2 rfl (fun r1 hw => ?_)
  obtain ⟨h32, h33, hT34, hN35⟩ := hw
  refine g_if_ne hE (tgt := 10) dX4_pageOf_5 (by decide) h32 (fun q => ?_) (fun q => ?_)
  · have hw := hT34 q
    refine g_iconst hE dX4_pageOf_8 ?_
    exact g_iret hE hR dX4_pageOf_9 (Nat.le_refl 0) (Nat.le_refl 0) rfl ⟨_, rfl, rfl, rfl, hw⟩
  · have hw := hN35 q
    refine g_ildn2 hE dX4_pageOf_10 ?_
    refine g_iconst hE dX4_pageOf_11 ?_
    refine g_iconst hE dX4_pageOf_12 ?_
    obtain ⟨h2, hw⟩ := hw
    refine gm_cSi hE hR hM hT (As := [aI x2, aI 0, aI 5]) (t4_isIn M hM z (s4_isIn h2 (by decide) (by decide))) (lw_S q2257 q2258 q108 q2259) hd_X4_isIn ⟨by decide, by decide⟩ rfl (Nat.le_of_ble_eq_true rfl) dX4_pageOf_13 rfl (fun r3 hr3 => ?_)
    subst hr3
    refine g_if_ne hE (tgt := 22) dX4_pageOf_16 (by decide) bI_in (fun q => ?_) (fun q => ?_)
    · have hw := hw.2 (bI_eq0.mp q)
      refine g_bipush hE dX4_pageOf_19 (by decide) ?_
      exact g_iret hE hR dX4_pageOf_21 (Nat.le_refl 0) (Nat.le_refl 0) rfl ⟨_, rfl, rfl, rfl, hw⟩
    · have hw := hw.1 (bI_ne0.mp q)
      refine g_ildn2 hE dX4_pageOf_22 ?_
      refine g_iconst hE dX4_pageOf_23 ?_
      obtain ⟨h28, h29, hT30, hN31⟩ := hw
      refine g_icmp_ge hE (tgt := 38) dX4_pageOf_24 (by decide) h28 h29 (fun q => ?_) (fun q => ?_)
      · have hw := hT30 q
        refine g_aldn0 hE dX4_pageOf_27 ?_
        refine gm_geta hE hM hT 0 (by decide) rfl q2140 dX4_pageOf_28 ?_
        refine g_ildn1 hE dX4_pageOf_31 ?_
        refine g_ildn2 hE dX4_pageOf_32 ?_
        refine gm_cSi hE hR hM hT (As := [aI x1, aI x2]) (t4_at M hM z (s4_at )) (lw_S q2268 q2269 q108 q2270) hd_X4_at ⟨by decide, by decide⟩ rfl (Nat.le_of_ble_eq_true rfl) dX4_pageOf_33 rfl (fun r4 hr4 => ?_)
        subst hr4
        obtain ⟨h5, hw⟩ := hw
        refine gm_iald hE hM hT 0 rfl h5 dX4_pageOf_36 ?_
        exact g_iret hE hR dX4_pageOf_37 (Nat.le_refl 0) (Nat.le_refl 0) rfl ⟨_, rfl, rfl, rfl, hw⟩
      · have hw := hN31 q
        refine g_ildn2 hE dX4_pageOf_38 ?_
        refine g_iconst hE dX4_pageOf_39 ?_
        obtain ⟨h24, h25, hT26, hN27⟩ := hw
        refine g_icmp_ne hE (tgt := 49) dX4_pageOf_40 (by decide) h24 h25 (fun q => ?_) (fun q => ?_)
        · have hw := hT26 q
          refine g_aldn0 hE dX4_pageOf_43 ?_
          refine g_ildn1 hE dX4_pageOf_44 ?_
          refine gm_cVi hE hR hM hT (As := [aI x1]) (t4_known M hM z hw) (lw_V q2387 q2389 qs66 q108 q2390) hd_X4_known ⟨by decide, by decide⟩ rfl (Nat.le_of_ble_eq_true rfl) dX4_pageOf_45 rfl (fun r6 hw => ?_)
          exact g_iret hE hR dX4_pageOf_48 (Nat.le_refl 0) (Nat.le_refl 0) rfl ⟨_, rfl, rfl, rfl, hw⟩
        · have hw := hN27 q
          refine g_aldn0 hE dX4_pageOf_49 ?_
          refine g_ildn1 hE dX4_pageOf_50 ?_
          refine gm_cVi hE hR hM hT (As := [aI x1]) (t4_rays M hM z hw) (lw_V q2391 q2393 qs67 q108 q2394) hd_X4_rays ⟨by decide, by decide⟩ rfl (Nat.le_of_ble_eq_true rfl) dX4_pageOf_51 rfl (fun r7 hw => ?_)
          refine g_istn3 hE dX4_pageOf_54 (by decide) rfl ?_
          refine g_ildn2 hE dX4_pageOf_55 ?_
          refine g_iconst hE dX4_pageOf_56 ?_
          refine jn1_walk (fun (y0_97 : Int) => G E (wsM M F A) (some z) 0 0 97 [some (aR (some (oM M))), some (aI x1), some (aI x2), some (aI r7)] [aI y0_97]) hw (fun y0_97 hw => ?_) (fun j_97 hj_97 hw => ?_)
          · skip
            exact g_iret hE hR dX4_pageOf_97 (Nat.le_refl 0) (Nat.le_refl 0) rfl ⟨_, rfl, rfl, rfl, hw⟩
          · skip
            obtain ⟨h20, h21, hT22, hN23⟩ := hw
            refine g_icmp_ne hE (tgt := 64) dX4_pageOf_57 (by decide) h20 h21 (fun q => ?_) (fun q => ?_)
            · have hw := hT22 q
              refine g_ildn3 hE dX4_pageOf_60 ?_
              refine g_goto hE (tgt := 97) dX4_pageOf_61 (by decide) ?_
              exact hj_97 _ hw
            · have hw := hN23 q
              refine g_ildn3 hE dX4_pageOf_64 ?_
              refine g_iconst hE dX4_pageOf_65 ?_
              refine g_iand hE dX4_pageOf_66 ?_
              refine g_iconst hE dX4_pageOf_67 ?_
              obtain ⟨h16, h17, hT18, hN19⟩ := hw
              refine g_icmp_ne hE (tgt := 75) dX4_pageOf_68 (by decide) h16 h17 (fun q => ?_) (fun q => ?_)
              · have hw := hT18 q
                refine g_iconst hE dX4_pageOf_71 ?_
                refine g_goto hE (tgt := 97) dX4_pageOf_72 (by decide) ?_
                exact hj_97 _ hw
              · have hw := hN19 q
                refine g_ildn3 hE dX4_pageOf_75 ?_
                refine g_iconst hE dX4_pageOf_76 ?_
                refine g_iand hE dX4_pageOf_77 ?_
                refine g_iconst hE dX4_pageOf_78 ?_
                obtain ⟨h12, h13, hT14, hN15⟩ := hw
                refine g_icmp_ne hE (tgt := 86) dX4_pageOf_79 (by decide) h12 h13 (fun q => ?_) (fun q => ?_)
                · have hw := hT14 q
                  refine g_iconst hE dX4_pageOf_82 ?_
                  refine g_goto hE (tgt := 97) dX4_pageOf_83 (by decide) ?_
                  exact hj_97 _ hw
                · have hw := hN15 q
                  refine g_ildn3 hE dX4_pageOf_86 ?_
                  refine g_iconst hE dX4_pageOf_87 ?_
                  obtain ⟨h8, h9, hT10, hN11⟩ := hw
                  refine g_icmp_ne hE (tgt := 95) dX4_pageOf_88 (by decide) h8 h9 (fun q => ?_) (fun q => ?_)
                  · have hw := hT10 q
                    refine g_iconst hE dX4_pageOf_91 ?_
                    refine g_goto hE (tgt := 97) dX4_pageOf_92 (by decide) ?_
                    exact hj_97 _ hw
                  · have hw := hN11 q
                    refine g_bipush hE dX4_pageOf_95 (by decide) ?_
                    exact hj_97 _ hw

/-- entryOf(III)I -/
def w4_entryOf (x1 : Int) (x2 : Int) (x3 : Int) (F : mF) (A : mA) (Q : Int → Prop) : Prop :=
  w4_isPage x1 F A (fun (r1 : Int) =>
  jn0 (
      Q ((-1)))
    (fun (j_17 : Prop) =>
    cEq r1 0
      (
      j_17)
      (
      w4_isEntry x1 x2 F A (fun (r2 : Int) =>
      cEq r2 0
        (
        j_17)
        (
        inR x3 ∧
        jn1 (fun (y0_44 : Int) => 
            Q y0_44)
          (fun (j_44 : Int → Prop) =>
          cIf (0 ≤ x3 ∧ x3 ≤ 3)
            (
            ib (204 + 15 * x1 + 3 + 4 * x2 + x3) 354 ∧
            j_44 (A 0 (204 + 15 * x1 + 3 + 4 * x2 + x3)))
            (
            j_44 ((-2)))))))))
theorem hd_X4_entryOf : yX4_entryOf.cls = RX4 ∧ yX4_entryOf.cls ≠ "java/lang/invoke/MethodHandle" ∧ yX4_entryOf.cls ≠ "java/lang/invoke/VarHandle" ∧ (parseMethodDescriptor yX4_entryOf.desc).map (fun d => d.parameters.length) = some 3 := by decide +kernel
set_option maxHeartbeats 4000000 in
theorem t4_entryOf (M : MT) (hM : OkM M) (z : Nat) {x1 : Int} {x2 : Int} {x3 : Int} {F : mF} {A : mA} {Q : Int → Prop} (hw : w4_entryOf x1 x2 x3 F A Q) : CtM M z yX4_entryOf cX4_entryOf 4 (some .int) (k2_rm 2 44) [aR (some (oM M)), aI x1, aI x2, aI x3] F A (PMi M z F A Q) := by
  refine Ct.intro (by decide) (Nat.le_of_ble_eq_true rfl) (fun E hE hR hT => ?_)
  have hT : TM E M := hT
  have hE : OkE E RX4 cX4_entryOf 4 (some .int) := hE
  show G E (wsM M F A) (some z) 0 0 0 [some (aR (some (oM M))), some (aI x1), some (aI x2), some (aI x3)] []
  unfold w4_entryOf at hw
  refine g_aldn0 hE dX4_entryOf_0 ?_
  refine g_ildn1 hE dX4_entryOf_1 ?_
  refine gm_cVi hE hR hM hT (As := [aI x1]) (t4_isPage M hM z hw) (lw_V q2319 q2321 qs55 q108 q2322) hd_X4_isPage ⟨by decide, by decide⟩ rfl (Nat.le_of_ble_eq_true rfl) dX4_entryOf_2 rfl (fun r1 hw => ?_)
  refine jn0_walk (G E (wsM M F A) (some z) 0 0 17 [some (aR (some (oM M))), some (aI x1), some (aI x2), some (aI x3)] []) hw (fun  hw => ?_) (fun j_17 hj_17 hw => ?_)
  · skip
    refine g_iconst hE dX4_entryOf_17 ?_
    exact g_iret hE hR dX4_entryOf_18 (Nat.le_refl 0) (Nat.le_refl 0) rfl ⟨_, rfl, rfl, rfl, hw⟩
  · skip
    obtain ⟨h11, h12, hT13, hN14⟩ := hw
    refine g_if_eq hE (tgt := 17) dX4_entryOf_5 (by decide) h11 (fun q => ?_) (fun q => ?_)
    · have hw := hT13 q
      exact hj_17  hw
    · have hw := hN14 q
      refine g_aldn0 hE dX4_entryOf_8 ?_
      refine g_ildn1 hE dX4_entryOf_9 ?_
      refine g_ildn2 hE dX4_entryOf_10 ?_
      refine gm_cVi hE hR hM hT (As := [aI x1, aI x2]) (t4_isEntry M hM z hw) (lw_V q2367 q2369 qs63 q108 q2370) hd_X4_isEntry ⟨by decide, by decide⟩ rfl (Nat.le_of_ble_eq_true rfl) dX4_entryOf_11 rfl (fun r2 hw => ?_)
      obtain ⟨h7, h8, hT9, hN10⟩ := hw
      refine g_if_ne hE (tgt := 19) dX4_entryOf_14 (by decide) h7 (fun q => ?_) (fun q => ?_)
      · have hw := hT9 q
        exact hj_17  hw
      · have hw := hN10 q
        refine g_ildn3 hE dX4_entryOf_19 ?_
        refine g_iconst hE dX4_entryOf_20 ?_
        refine g_iconst hE dX4_entryOf_21 ?_
        obtain ⟨h3, hw⟩ := hw
        refine gm_cSi hE hR hM hT (As := [aI x3, aI 0, aI 3]) (t4_isIn M hM z (s4_isIn h3 (by decide) (by decide))) (lw_S q2257 q2258 q108 q2259) hd_X4_isIn ⟨by decide, by decide⟩ rfl (Nat.le_of_ble_eq_true rfl) dX4_entryOf_22 rfl (fun r4 hr4 => ?_)
        subst hr4
        refine jn1_walk (fun (y0_44 : Int) => G E (wsM M F A) (some z) 0 0 44 [some (aR (some (oM M))), some (aI x1), some (aI x2), some (aI x3)] [aI y0_44]) hw (fun y0_44 hw => ?_) (fun j_44 hj_44 hw => ?_)
        · skip
          exact g_iret hE hR dX4_entryOf_44 (Nat.le_refl 0) (Nat.le_refl 0) rfl ⟨_, rfl, rfl, rfl, hw⟩
        · skip
          refine g_if_eq hE (tgt := 42) dX4_entryOf_25 (by decide) bI_in (fun q => ?_) (fun q => ?_)
          · have hw := hw.2 (bI_eq0.mp q)
            refine g_bipush hE dX4_entryOf_42 (by decide) ?_
            exact hj_44 _ hw
          · have hw := hw.1 (bI_ne0.mp q)
            refine g_aldn0 hE dX4_entryOf_28 ?_
            refine gm_geta hE hM hT 0 (by decide) rfl q2140 dX4_entryOf_29 ?_
            refine g_ildn1 hE dX4_entryOf_32 ?_
            refine g_ildn2 hE dX4_entryOf_33 ?_
            refine g_ildn3 hE dX4_entryOf_34 ?_
            refine gm_cSi hE hR hM hT (As := [aI x1, aI x2, aI x3]) (t4_of M hM z (s4_of )) (lw_S q2271 q2272 q108 q2273) hd_X4_of ⟨by decide, by decide⟩ rfl (Nat.le_of_ble_eq_true rfl) dX4_entryOf_35 rfl (fun r5 hr5 => ?_)
            subst hr5
            obtain ⟨h6, hw⟩ := hw
            refine gm_iald hE hM hT 0 rfl h6 dX4_entryOf_38 ?_
            refine g_goto hE (tgt := 44) dX4_entryOf_39 (by decide) ?_
            exact hj_44 _ hw

/-- measures()V -/
def w4_measures  (F : mF) (A : mA) (Q : mF → mA → Prop) : Prop :=
  w4_lists  F A (fun (F1 : mF) (A2 : mA) =>
  lq2 (fun (x1_6 : Int) (A_6 : mA) (k_6 : Int → mA → Prop) =>
    cLt x1_6 (F1 14)
      (
      w4_told x1_6 1 F1 A_6 (fun (r3 : Int) =>
      w4_goes r3 F1 A_6 (fun (A4 : mA) =>
      lq2 (fun (x2_26 : Int) (A_26 : mA) (k_26 : Int → mA → Prop) =>
        cLt x2_26 (F1 14)
          (
          w4_told x2_26 1 F1 A_26 (fun (r5 : Int) =>
          ib r5 192 ∧
          ib ((30 * x1_6) + x2_26) 900 ∧ ∀ A7 : mA, A7 = uA A_26 6 ((30 * x1_6) + x2_26) (A_26 11 r5) →
          k_26 (x2_26 + 1) A7))
          (
          k_6 (x1_6 + 1) A_26)) 0 A4)))
      (
      Q F1 A_6)) 0 A2)
theorem hd_X4_measures : yX4_measures.cls = RX4 ∧ yX4_measures.cls ≠ "java/lang/invoke/MethodHandle" ∧ yX4_measures.cls ≠ "java/lang/invoke/VarHandle" ∧ (parseMethodDescriptor yX4_measures.desc).map (fun d => d.parameters.length) = some 0 := by decide +kernel
set_option maxHeartbeats 4000000 in
theorem t4_measures (M : MT) (hM : OkM M) (z : Nat)  {F : mF} {A : mA} {Q : mF → mA → Prop} (hw : w4_measures F A Q) : CtM M z yX4_measures cX4_measures 3 none (k2_rm 3 69) [aR (some (oM M))] F A (PMvFA M z Q) := by
  refine Ct.intro (by decide) (Nat.le_of_ble_eq_true rfl) (fun E hE hR hT => ?_)
  have hT : TM E M := hT
  have hE : OkE E RX4 cX4_measures 3 none := hE
  show G E (wsM M F A) (some z) 0 0 0 [some (aR (some (oM M))), none, none] []
  unfold w4_measures at hw
  refine g_aldn0 hE dX4_measures_0 ?_
  refine gm_cVvFA hE hR hM hT (As := []) (t4_lists M hM z hw) (lw_V q2264 q2266 qs48 q108 q2267) hd_X4_lists ⟨by decide, by decide⟩ rfl (Nat.le_of_ble_eq_true rfl) dX4_measures_1 rfl (fun F1 A2 hw => ?_)
  refine g_iconst hE dX4_measures_4 ?_
  refine g_istn1 hE dX4_measures_5 (by decide) rfl ?_
  refine lq2_walk (fun (x1_6 : Int) (A_6 : mA) => G E (wsM M F1 A_6) (some z) 0 0 6 [some (aR (some (oM M))), some (aI x1_6), none] []) (fun k_6 hk_6 x1_6 A_6 hw => ?_) _ _ hw
  refine g_ildn1 hE dX4_measures_6 ?_
  refine g_aldn0 hE dX4_measures_7 ?_
  refine gm_geti hE hM hT 14 (by decide) rfl q2154 dX4_measures_8 ?_
  obtain ⟨h13, h14, hT15, hN16⟩ := hw
  refine g_icmp_ge hE (tgt := 68) dX4_measures_11 (by decide) h13 h14 (fun q => ?_) (fun q => ?_)
  · have hw := hT15 q
    refine g_aldn0 hE dX4_measures_14 ?_
    refine g_aldn0 hE dX4_measures_15 ?_
    refine g_ildn1 hE dX4_measures_16 ?_
    refine g_iconst hE dX4_measures_17 ?_
    refine gm_cVi hE hR hM hT (As := [aI x1_6, aI 1]) (t4_told M hM z hw) (lw_V q2274 q2276 qs49 q108 q2277) hd_X4_told ⟨by decide, by decide⟩ rfl (Nat.le_of_ble_eq_true rfl) dX4_measures_18 rfl (fun r3 hw => ?_)
    refine gm_cVvA hE hR hM hT (As := [aI r3]) (t4_goes M hM z hw) (lw_V q2298 q2300 qs53 q108 q2301) hd_X4_goes ⟨by decide, by decide⟩ rfl (Nat.le_of_ble_eq_true rfl) dX4_measures_21 rfl (fun A4 hw => ?_)
    refine g_iconst hE dX4_measures_24 ?_
    refine g_istn2 hE dX4_measures_25 (by decide) rfl ?_
    refine lq2_walk (fun (x2_26 : Int) (A_26 : mA) => G E (wsM M F1 A_26) (some z) 0 0 26 [some (aR (some (oM M))), some (aI x1_6), some (aI x2_26)] []) (fun k_26 hk_26 x2_26 A_26 hw => ?_) _ _ hw
    refine g_ildn2 hE dX4_measures_26 ?_
    refine g_aldn0 hE dX4_measures_27 ?_
    refine gm_geti hE hM hT 14 (by decide) rfl q2154 dX4_measures_28 ?_
    obtain ⟨h9, h10, hT11, hN12⟩ := hw
    refine g_icmp_ge hE (tgt := 62) dX4_measures_31 (by decide) h9 h10 (fun q => ?_) (fun q => ?_)
    · have hw := hT11 q
      refine g_aldn0 hE dX4_measures_34 ?_
      refine gm_geta hE hM hT 6 (by decide) rfl q2146 dX4_measures_35 ?_
      refine g_bipush hE dX4_measures_38 (by decide) ?_
      refine g_ildn1 hE dX4_measures_40 ?_
      refine g_imul hE dX4_measures_41 ?_
      refine g_ildn2 hE dX4_measures_42 ?_
      refine g_iadd hE dX4_measures_43 ?_
      refine g_aldn0 hE dX4_measures_44 ?_
      refine gm_geta hE hM hT 11 (by decide) rfl q2151 dX4_measures_45 ?_
      refine g_aldn0 hE dX4_measures_48 ?_
      refine g_ildn2 hE dX4_measures_49 ?_
      refine g_iconst hE dX4_measures_50 ?_
      refine gm_cVi hE hR hM hT (As := [aI x2_26, aI 1]) (t4_told M hM z hw) (lw_V q2274 q2276 qs49 q108 q2277) hd_X4_told ⟨by decide, by decide⟩ rfl (Nat.le_of_ble_eq_true rfl) dX4_measures_51 rfl (fun r5 hw => ?_)
      obtain ⟨h6, hw⟩ := hw
      refine gm_iald hE hM hT 11 rfl h6 dX4_measures_54 ?_
      obtain ⟨h8, hw⟩ := hw
      refine gm_iast hE hM hT 6 rfl h8 dX4_measures_55 ?_
      have hw := hw _ rfl
      generalize uA A_26 6 ((30 * x1_6) + x2_26) (A_26 11 r5) = A7 at hw ⊢
      refine g_iinc2 hE dX4_measures_56 (by decide) rfl ?_
      refine g_goto hE (tgt := 26) dX4_measures_59 (by decide) ?_
      exact hk_26 _ _ hw
    · have hw := hN12 q
      refine g_iinc1 hE dX4_measures_62 (by decide) rfl ?_
      refine g_goto hE (tgt := 6) dX4_measures_65 (by decide) ?_
      refine g_kl2 ?_
      exact hk_6 _ _ hw
  · have hw := hN16 q
    exact g_vret hE hR dX4_measures_68 (Nat.le_refl 0) (Nat.le_refl 0) ⟨_, _, rfl, rfl, rfl, hw⟩

/-- areBoth(II)Z -/
def w4_areBoth (x1 : Int) (x2 : Int) (F : mF) (A : mA) (Q : Int → Prop) : Prop :=
  w4_told x1 0 F A (fun (r1 : Int) =>
  w4_told x2 0 F A (fun (r2 : Int) =>
  ib ((30 * x1) + x2) 900 ∧
  jn1 (fun (y2_41 : Int) => 
      jn1 (fun (y0_50 : Int) => 
          bl y0_50 ∧ Q y0_50)
        (fun (j_50 : Int → Prop) =>
        cLt ((A 0 0) * y2_41) (A 6 ((30 * x1) + x2))
          (
          j_50 0)
          (
          j_50 1)))
    (fun (j_41 : Int → Prop) =>
    cLt (r1 - r2) 0
      (
      j_41 (-(r1 - r2)))
      (
      j_41 (r1 - r2)))))
theorem hd_X4_areBoth : yX4_areBoth.cls = RX4 ∧ yX4_areBoth.cls ≠ "java/lang/invoke/MethodHandle" ∧ yX4_areBoth.cls ≠ "java/lang/invoke/VarHandle" ∧ (parseMethodDescriptor yX4_areBoth.desc).map (fun d => d.parameters.length) = some 2 := by decide +kernel
set_option maxHeartbeats 4000000 in
theorem t4_areBoth (M : MT) (hM : OkM M) (z : Nat) {x1 : Int} {x2 : Int} {F : mF} {A : mA} {Q : Int → Prop} (hw : w4_areBoth x1 x2 F A Q) : CtM M z yX4_areBoth cX4_areBoth 4 (some .boolean) (k2_rm 2 44) [aR (some (oM M)), aI x1, aI x2] F A (PMi M z F A Q) := by
  refine Ct.intro (by decide) (Nat.le_of_ble_eq_true rfl) (fun E hE hR hT => ?_)
  have hT : TM E M := hT
  have hE : OkE E RX4 cX4_areBoth 4 (some .boolean) := hE
  show G E (wsM M F A) (some z) 0 0 0 [some (aR (some (oM M))), some (aI x1), some (aI x2), none] []
  unfold w4_areBoth at hw
  refine g_aldn0 hE dX4_areBoth_0 ?_
  refine g_ildn1 hE dX4_areBoth_1 ?_
  refine g_iconst hE dX4_areBoth_2 ?_
  refine gm_cVi hE hR hM hT (As := [aI x1, aI 0]) (t4_told M hM z hw) (lw_V q2274 q2276 qs49 q108 q2277) hd_X4_told ⟨by decide, by decide⟩ rfl (Nat.le_of_ble_eq_true rfl) dX4_areBoth_3 rfl (fun r1 hw => ?_)
  refine g_aldn0 hE dX4_areBoth_6 ?_
  refine g_ildn2 hE dX4_areBoth_7 ?_
  refine g_iconst hE dX4_areBoth_8 ?_
  refine gm_cVi hE hR hM hT (As := [aI x2, aI 0]) (t4_told M hM z hw) (lw_V q2274 q2276 qs49 q108 q2277) hd_X4_told ⟨by decide, by decide⟩ rfl (Nat.le_of_ble_eq_true rfl) dX4_areBoth_9 rfl (fun r2 hw => ?_)
  refine g_isub hE dX4_areBoth_12 ?_
  refine g_istn3 hE dX4_areBoth_13 (by decide) rfl ?_
  refine g_aldn0 hE dX4_areBoth_14 ?_
  refine gm_geta hE hM hT 6 (by decide) rfl q2146 dX4_areBoth_15 ?_
  refine g_bipush hE dX4_areBoth_18 (by decide) ?_
  refine g_ildn1 hE dX4_areBoth_20 ?_
  refine g_imul hE dX4_areBoth_21 ?_
  refine g_ildn2 hE dX4_areBoth_22 ?_
  refine g_iadd hE dX4_areBoth_23 ?_
  obtain ⟨h3, hw⟩ := hw
  refine gm_iald hE hM hT 6 rfl h3 dX4_areBoth_24 ?_
  refine g_aldn0 hE dX4_areBoth_25 ?_
  refine gm_geta hE hM hT 0 (by decide) rfl q2140 dX4_areBoth_26 ?_
  refine g_iconst hE dX4_areBoth_29 ?_
  refine gm_iald hE hM hT 0 rfl (by decide) dX4_areBoth_30 ?_
  refine g_ildn3 hE dX4_areBoth_31 ?_
  refine jn1_walk (fun (y2_41 : Int) => G E (wsM M F A) (some z) 0 0 41 [some (aR (some (oM M))), some (aI x1), some (aI x2), some (aI (r1 - r2))] [aI y2_41, aI (A 0 0), aI (A 6 ((30 * x1) + x2))]) hw (fun y2_41 hw => ?_) (fun j_41 hj_41 hw => ?_)
  · skip
    refine g_imul hE dX4_areBoth_41 ?_
    refine jn1_walk (fun (y0_50 : Int) => G E (wsM M F A) (some z) 0 0 50 [some (aR (some (oM M))), some (aI x1), some (aI x2), some (aI (r1 - r2))] [aI y0_50]) hw (fun y0_50 hw => ?_) (fun j_50 hj_50 hw => ?_)
    · skip
      obtain ⟨h4, hw⟩ := hw
      exact g_iret hE hR dX4_areBoth_50 (Nat.le_refl 0) (Nat.le_refl 0) (narrow_bl h4) ⟨_, rfl, rfl, rfl, hw⟩
    · skip
      obtain ⟨h5, h6, hT7, hN8⟩ := hw
      refine g_icmp_gt hE (tgt := 49) dX4_areBoth_42 (by decide) h6 h5 (fun q => ?_) (fun q => ?_)
      · have hw := hT7 q
        refine g_iconst hE dX4_areBoth_49 ?_
        exact hj_50 _ hw
      · have hw := hN8 q
        refine g_iconst hE dX4_areBoth_45 ?_
        refine g_goto hE (tgt := 50) dX4_areBoth_46 (by decide) ?_
        exact hj_50 _ hw
  · skip
    obtain ⟨h9, h10, hT11, hN12⟩ := hw
    refine g_if_ge hE (tgt := 40) dX4_areBoth_32 (by decide) h9 (fun q => ?_) (fun q => ?_)
    · have hw := hT11 q
      refine g_ildn3 hE dX4_areBoth_35 ?_
      refine g_ineg hE dX4_areBoth_36 ?_
      refine g_goto hE (tgt := 41) dX4_areBoth_37 (by decide) ?_
      exact hj_41 _ hw
    · have hw := hN12 q
      refine g_ildn3 hE dX4_areBoth_40 ?_
      exact hj_41 _ hw

/-- weight(I)I -/
def w4_weight (x1 : Int) (F : mF) (A : mA) (Q : Int → Prop) : Prop :=
  w4_told x1 2 F A (fun (r1 : Int) =>
  ib (4 + r1) 354 ∧
  Q (10 - (A 0 (4 + r1))))
theorem hd_X4_weight : yX4_weight.cls = RX4 ∧ yX4_weight.cls ≠ "java/lang/invoke/MethodHandle" ∧ yX4_weight.cls ≠ "java/lang/invoke/VarHandle" ∧ (parseMethodDescriptor yX4_weight.desc).map (fun d => d.parameters.length) = some 1 := by decide +kernel
set_option maxHeartbeats 4000000 in
theorem t4_weight (M : MT) (hM : OkM M) (z : Nat) {x1 : Int} {F : mF} {A : mA} {Q : Int → Prop} (hw : w4_weight x1 F A Q) : CtM M z yX4_weight cX4_weight 2 (some .int) (k2_rm 2 44) [aR (some (oM M)), aI x1] F A (PMi M z F A Q) := by
  refine Ct.intro (by decide) (Nat.le_of_ble_eq_true rfl) (fun E hE hR hT => ?_)
  have hT : TM E M := hT
  have hE : OkE E RX4 cX4_weight 2 (some .int) := hE
  show G E (wsM M F A) (some z) 0 0 0 [some (aR (some (oM M))), some (aI x1)] []
  unfold w4_weight at hw
  refine g_bipush hE dX4_weight_0 (by decide) ?_
  refine g_aldn0 hE dX4_weight_2 ?_
  refine gm_geta hE hM hT 0 (by decide) rfl q2140 dX4_weight_3 ?_
  refine g_iconst hE dX4_weight_6 ?_
  refine g_aldn0 hE dX4_weight_7 ?_
  refine g_ildn1 hE dX4_weight_8 ?_
  refine g_iconst hE dX4_weight_9 ?_
  refine gm_cVi hE hR hM hT (As := [aI x1, aI 2]) (t4_told M hM z hw) (lw_V q2274 q2276 qs49 q108 q2277) hd_X4_told ⟨by decide, by decide⟩ rfl (Nat.le_of_ble_eq_true rfl) dX4_weight_10 rfl (fun r1 hw => ?_)
  refine g_iadd hE dX4_weight_13 ?_
  obtain ⟨h2, hw⟩ := hw
  refine gm_iald hE hM hT 0 rfl h2 dX4_weight_14 ?_
  refine g_isub hE dX4_weight_15 ?_
  exact g_iret hE hR dX4_weight_16 (Nat.le_refl 0) (Nat.le_refl 0) rfl ⟨_, rfl, rfl, rfl, hw⟩

/-- tracks()V -/
def w4_tracks  (F : mF) (A : mA) (Q : mF → mA → Prop) : Prop :=
  w4_measures  F A (fun (F1 : mF) (A2 : mA) =>
  lq3 (fun (x1_13 : Int) (x2_13 : Int) (A_13 : mA) (k_13 : Int → Int → mA → Prop) =>
    cLt x2_13 0
      (
      ∀ F3 : mF, F3 = uF F1 15 0 →
      jn1 (fun (y1_201 : Int) => 
          ∀ F4 : mF, F4 = uF F3 16 y1_201 →
          lq3 (fun (x2_206 : Int) (F_206 : mF) (A_206 : mA) (k_206 : Int → mF → mA → Prop) =>
            cLt x2_206 0
              (
              Q F_206 A_206)
              (
              ib (F_206 15) 30 ∧ ∀ A5 : mA, A5 = uA A_206 9 (F_206 15) x2_206 →
              ∀ F7 : mF, F7 = uF F_206 15 ((F_206 15) + 1) →
              ib x2_206 30 ∧
              k_206 (A5 8 x2_206) F7 A5)) x1_13 F4 A_13)
        (fun (j_201 : Int → Prop) =>
        cLt x1_13 0
          (
          j_201 0)
          (
          ib x1_13 30 ∧
          j_201 (A_13 7 x1_13))))
      (
      ib x2_13 30 ∧ ∀ A18 : mA, A18 = uA A_13 7 x2_13 0 →
      ib x2_13 30 ∧ ∀ A20 : mA, A20 = uA A18 8 x2_13 ((-1)) →
      ib (31 * x2_13) 900 ∧
      jn2 (fun (x1_175 : Int) (A_175 : mA) => 
          k_13 x1_175 (x2_13 + (-1)) A_175)
        (fun (j_175 : Int → mA → Prop) =>
        cLt 0 (A20 6 (31 * x2_13))
          (
          j_175 x1_13 A20)
          (
          lq2 (fun (x3_53 : Int) (A_53 : mA) (k_53 : Int → mA → Prop) =>
            cLt x2_13 x3_53
              (
              ib x3_53 30 ∧
              jn1 (fun (A_112 : mA) => 
                  k_53 (x3_53 + (-1)) A_112)
                (fun (j_112 : mA → Prop) =>
                cLt 0 (A_53 7 x3_53)
                  (
                  w4_areBoth x2_13 x3_53 F1 A_53 (fun (r24 : Int) =>
                  cEq r24 0
                    (
                    j_112 A_53)
                    (
                    ib x2_13 30 ∧
                    jn0 (
                        ib x2_13 30 ∧ ∀ A26 : mA, A26 = uA A_53 8 x2_13 x3_53 →
                        j_112 A26)
                      (fun (j_105 : Prop) =>
                      cLt (A_53 8 x2_13) 0
                        (
                        j_105)
                        (
                        ib x3_53 30 ∧
                        ib x2_13 30 ∧
                        ib (A_53 8 x2_13) 30 ∧
                        cLt (A_53 7 x3_53) (A_53 7 (A_53 8 x2_13))
                          (
                          j_112 A_53)
                          (
                          j_105))))))
                  (
                  j_112 A_53)))
              (
              w4_weight x2_13 F1 A_53 (fun (r47 : Int) =>
              ib x2_13 30 ∧
              jn1 (fun (y3_152 : Int) => 
                  ib x2_13 30 ∧ ∀ A49 : mA, A49 = uA A_53 7 x2_13 (r47 + y3_152) →
                  jn0 (
                      j_175 x2_13 A49)
                    (fun (j_173 : Prop) =>
                    cLt x1_13 0
                      (
                      j_173)
                      (
                      ib x2_13 30 ∧
                      ib x1_13 30 ∧
                      cLt (A49 7 x2_13) (A49 7 x1_13)
                        (
                        j_175 x1_13 A49)
                        (
                        j_173))))
                (fun (j_152 : Int → Prop) =>
                cLt (A_53 8 x2_13) 0
                  (
                  j_152 0)
                  (
                  ib x2_13 30 ∧
                  ib (A_53 8 x2_13) 30 ∧
                  j_152 (A_53 7 (A_53 8 x2_13))))))) ((F1 14) - 1) A20)))) ((-1)) ((F1 14) - 1) A2)
theorem hd_X4_tracks : yX4_tracks.cls = RX4 ∧ yX4_tracks.cls ≠ "java/lang/invoke/MethodHandle" ∧ yX4_tracks.cls ≠ "java/lang/invoke/VarHandle" ∧ (parseMethodDescriptor yX4_tracks.desc).map (fun d => d.parameters.length) = some 0 := by decide +kernel
set_option maxHeartbeats 4000000 in
theorem t4_tracks (M : MT) (hM : OkM M) (z : Nat)  {F : mF} {A : mA} {Q : mF → mA → Prop} (hw : w4_tracks F A Q) : CtM M z yX4_tracks cX4_tracks 4 none (k2_rm 4 91) [aR (some (oM M))] F A (PMvFA M z Q) := by
  refine Ct.intro (by decide) (Nat.le_of_ble_eq_true rfl) (fun E hE hR hT => ?_)
  have hT : TM E M := hT
  have hE : OkE E RX4 cX4_tracks 4 none := hE
  show G E (wsM M F A) (some z) 0 0 0 [some (aR (some (oM M))), none, none, none] []
  unfold w4_tracks at hw
  refine g_aldn0 hE dX4_tracks_0 ?_
  refine gm_cVvFA hE hR hM hT (As := []) (t4_measures M hM z hw) (lw_V q2407 q2409 qs69 q108 q2410) hd_X4_measures ⟨by decide, by decide⟩ rfl (Nat.le_of_ble_eq_true rfl) dX4_tracks_1 rfl (fun F1 A2 hw => ?_)
  refine g_iconst hE dX4_tracks_4 ?_
  refine g_istn1 hE dX4_tracks_5 (by decide) rfl ?_
  refine g_aldn0 hE dX4_tracks_6 ?_
  refine gm_geti hE hM hT 14 (by decide) rfl q2154 dX4_tracks_7 ?_
  refine g_iconst hE dX4_tracks_10 ?_
  refine g_isub hE dX4_tracks_11 ?_
  refine g_istn2 hE dX4_tracks_12 (by decide) rfl ?_
  refine lq3_walk (fun (x1_13 : Int) (x2_13 : Int) (A_13 : mA) => G E (wsM M F1 A_13) (some z) 0 0 13 [some (aR (some (oM M))), some (aI x1_13), some (aI x2_13), none] []) (fun k_13 hk_13 x1_13 x2_13 A_13 hw => ?_) _ _ _ hw
  refine g_ildn2 hE dX4_tracks_13 ?_
  obtain ⟨h75, h76, hT77, hN78⟩ := hw
  refine g_if_lt hE (tgt := 181) dX4_tracks_14 (by decide) h75 (fun q => ?_) (fun q => ?_)
  · have hw := hT77 q
    refine g_aldn0 hE dX4_tracks_181 ?_
    refine g_iconst hE dX4_tracks_182 ?_
    refine gm_put hE hM hT 15 (by decide) rfl q2155 rfl (ty := .int) (by decide +kernel) rfl rfl dX4_tracks_183 ?_
    have hw := hw _ rfl
    generalize uF F1 15 0 = F3 at hw ⊢
    refine g_aldn0 hE dX4_tracks_186 ?_
    refine g_ildn1 hE dX4_tracks_187 ?_
    refine jn1_walk (fun (y1_201 : Int) => G E (wsM M F3 A_13) (some z) 0 0 201 [some (aR (some (oM M))), some (aI x1_13), some (aI x2_13), none] [aI y1_201, aR (some (oM M))]) hw (fun y1_201 hw => ?_) (fun j_201 hj_201 hw => ?_)
    · skip
      refine gm_put hE hM hT 16 (by decide) rfl q2156 rfl (ty := .int) (by decide +kernel) rfl rfl dX4_tracks_201 ?_
      have hw := hw _ rfl
      generalize uF F3 16 y1_201 = F4 at hw ⊢
      refine g_ildn1 hE dX4_tracks_204 ?_
      refine g_istn2 hE dX4_tracks_205 (by decide) rfl ?_
      refine lq3_walk (fun (x2_206 : Int) (F_206 : mF) (A_206 : mA) => G E (wsM M F_206 A_206) (some z) 0 0 206 [some (aR (some (oM M))), some (aI x1_13), some (aI x2_206), none] []) (fun k_206 hk_206 x2_206 F_206 A_206 hw => ?_) _ _ _ hw
      refine g_ildn2 hE dX4_tracks_206 ?_
      obtain ⟨h9, h10, hT11, hN12⟩ := hw
      refine g_if_lt hE (tgt := 240) dX4_tracks_207 (by decide) h9 (fun q => ?_) (fun q => ?_)
      · have hw := hT11 q
        exact g_vret hE hR dX4_tracks_240 (Nat.le_refl 0) (Nat.le_refl 0) ⟨_, _, rfl, rfl, rfl, hw⟩
      · have hw := hN12 q
        refine g_aldn0 hE dX4_tracks_210 ?_
        refine gm_geta hE hM hT 9 (by decide) rfl q2149 dX4_tracks_211 ?_
        refine g_aldn0 hE dX4_tracks_214 ?_
        refine gm_geti hE hM hT 15 (by decide) rfl q2155 dX4_tracks_215 ?_
        refine g_ildn2 hE dX4_tracks_218 ?_
        obtain ⟨h6, hw⟩ := hw
        refine gm_iast hE hM hT 9 rfl h6 dX4_tracks_219 ?_
        have hw := hw _ rfl
        generalize uA A_206 9 (F_206 15) x2_206 = A5 at hw ⊢
        refine g_aldn0 hE dX4_tracks_220 ?_
        refine g_dup hE dX4_tracks_221 rfl ?_
        refine gm_geti hE hM hT 15 (by decide) rfl q2155 dX4_tracks_222 ?_
        refine g_iconst hE dX4_tracks_225 ?_
        refine g_iadd hE dX4_tracks_226 ?_
        refine gm_put hE hM hT 15 (by decide) rfl q2155 rfl (ty := .int) (by decide +kernel) rfl rfl dX4_tracks_227 ?_
        have hw := hw _ rfl
        generalize uF F_206 15 ((F_206 15) + 1) = F7 at hw ⊢
        refine g_aldn0 hE dX4_tracks_230 ?_
        refine gm_geta hE hM hT 8 (by decide) rfl q2148 dX4_tracks_231 ?_
        refine g_ildn2 hE dX4_tracks_234 ?_
        obtain ⟨h8, hw⟩ := hw
        refine gm_iald hE hM hT 8 rfl h8 dX4_tracks_235 ?_
        refine g_istn2 hE dX4_tracks_236 (by decide) rfl ?_
        refine g_goto hE (tgt := 206) dX4_tracks_237 (by decide) ?_
        exact hk_206 _ _ _ hw
    · skip
      obtain ⟨h14, h15, hT16, hN17⟩ := hw
      refine g_if_ge hE (tgt := 195) dX4_tracks_188 (by decide) h14 (fun q => ?_) (fun q => ?_)
      · have hw := hT16 q
        refine g_iconst hE dX4_tracks_191 ?_
        refine g_goto hE (tgt := 201) dX4_tracks_192 (by decide) ?_
        exact hj_201 _ hw
      · have hw := hN17 q
        refine g_aldn0 hE dX4_tracks_195 ?_
        refine gm_geta hE hM hT 7 (by decide) rfl q2147 dX4_tracks_196 ?_
        refine g_ildn1 hE dX4_tracks_199 ?_
        obtain ⟨h13, hw⟩ := hw
        refine gm_iald hE hM hT 7 rfl h13 dX4_tracks_200 ?_
        exact hj_201 _ hw
  · have hw := hN78 q
    refine g_aldn0 hE dX4_tracks_17 ?_
    refine gm_geta hE hM hT 7 (by decide) rfl q2147 dX4_tracks_18 ?_
    refine g_ildn2 hE dX4_tracks_21 ?_
    refine g_iconst hE dX4_tracks_22 ?_
    obtain ⟨h19, hw⟩ := hw
    refine gm_iast hE hM hT 7 rfl h19 dX4_tracks_23 ?_
    have hw := hw _ rfl
    generalize uA A_13 7 x2_13 0 = A18 at hw ⊢
    refine g_aldn0 hE dX4_tracks_24 ?_
    refine gm_geta hE hM hT 8 (by decide) rfl q2148 dX4_tracks_25 ?_
    refine g_ildn2 hE dX4_tracks_28 ?_
    refine g_iconst hE dX4_tracks_29 ?_
    obtain ⟨h21, hw⟩ := hw
    refine gm_iast hE hM hT 8 rfl h21 dX4_tracks_30 ?_
    have hw := hw _ rfl
    generalize uA A18 8 x2_13 ((-1)) = A20 at hw ⊢
    refine g_aldn0 hE dX4_tracks_31 ?_
    refine gm_geta hE hM hT 6 (by decide) rfl q2146 dX4_tracks_32 ?_
    refine g_bipush hE dX4_tracks_35 (by decide) ?_
    refine g_ildn2 hE dX4_tracks_37 ?_
    refine g_imul hE dX4_tracks_38 ?_
    obtain ⟨h22, hw⟩ := hw
    refine gm_iald hE hM hT 6 rfl h22 dX4_tracks_39 ?_
    refine jn2_walk (fun (x1_175 : Int) (A_175 : mA) => G E (wsM M F1 A_175) (some z) 0 0 175 [some (aR (some (oM M))), some (aI x1_175), some (aI x2_13), none] []) hw (fun x1_175 A_175 hw => ?_) (fun j_175 hj_175 hw => ?_)
    · skip
      refine g_iinc2 hE dX4_tracks_175 (by decide) rfl ?_
      refine g_goto hE (tgt := 13) dX4_tracks_178 (by decide) ?_
      exact hk_13 _ _ _ hw
    · skip
      obtain ⟨h71, h72, hT73, hN74⟩ := hw
      refine g_if_le hE (tgt := 46) dX4_tracks_40 (by decide) h72 (fun q => ?_) (fun q => ?_)
      · have hw := hT73 q
        refine g_goto hE (tgt := 175) dX4_tracks_43 (by decide) ?_
        exact hj_175 _ _ hw
      · have hw := hN74 q
        refine g_aldn0 hE dX4_tracks_46 ?_
        refine gm_geti hE hM hT 14 (by decide) rfl q2154 dX4_tracks_47 ?_
        refine g_iconst hE dX4_tracks_50 ?_
        refine g_isub hE dX4_tracks_51 ?_
        refine g_istn3 hE dX4_tracks_52 (by decide) rfl ?_
        refine lq2_walk (fun (x3_53 : Int) (A_53 : mA) => G E (wsM M F1 A_53) (some z) 0 0 53 [some (aR (some (oM M))), some (aI x1_13), some (aI x2_13), some (aI x3_53)] []) (fun k_53 hk_53 x3_53 A_53 hw => ?_) _ _ hw
        refine g_ildn3 hE dX4_tracks_53 ?_
        refine g_ildn2 hE dX4_tracks_54 ?_
        obtain ⟨h67, h68, hT69, hN70⟩ := hw
        refine g_icmp_le hE (tgt := 118) dX4_tracks_55 (by decide) h68 h67 (fun q => ?_) (fun q => ?_)
        · have hw := hT69 q
          refine g_aldn0 hE dX4_tracks_58 ?_
          refine gm_geta hE hM hT 7 (by decide) rfl q2147 dX4_tracks_59 ?_
          refine g_ildn3 hE dX4_tracks_62 ?_
          obtain ⟨h23, hw⟩ := hw
          refine gm_iald hE hM hT 7 rfl h23 dX4_tracks_63 ?_
          refine jn1_walk (fun (A_112 : mA) => G E (wsM M F1 A_112) (some z) 0 0 112 [some (aR (some (oM M))), some (aI x1_13), some (aI x2_13), some (aI x3_53)] []) hw (fun A_112 hw => ?_) (fun j_112 hj_112 hw => ?_)
          · skip
            refine g_iinc3 hE dX4_tracks_112 (by decide) rfl ?_
            refine g_goto hE (tgt := 53) dX4_tracks_115 (by decide) ?_
            exact hk_53 _ _ hw
          · skip
            obtain ⟨h43, h44, hT45, hN46⟩ := hw
            refine g_if_le hE (tgt := 112) dX4_tracks_64 (by decide) h44 (fun q => ?_) (fun q => ?_)
            · have hw := hT45 q
              refine g_aldn0 hE dX4_tracks_67 ?_
              refine g_ildn2 hE dX4_tracks_68 ?_
              refine g_ildn3 hE dX4_tracks_69 ?_
              refine gm_cVi hE hR hM hT (As := [aI x2_13, aI x3_53]) (t4_areBoth M hM z hw) (lw_V q2411 q2413 qs70 q108 q2414) hd_X4_areBoth ⟨by decide, by decide⟩ rfl (Nat.le_of_ble_eq_true rfl) dX4_tracks_70 rfl (fun r24 hw => ?_)
              obtain ⟨h39, h40, hT41, hN42⟩ := hw
              refine g_if_eq hE (tgt := 112) dX4_tracks_73 (by decide) h39 (fun q => ?_) (fun q => ?_)
              · have hw := hT41 q
                exact hj_112 _ hw
              · have hw := hN42 q
                refine g_aldn0 hE dX4_tracks_76 ?_
                refine gm_geta hE hM hT 8 (by decide) rfl q2148 dX4_tracks_77 ?_
                refine g_ildn2 hE dX4_tracks_80 ?_
                obtain ⟨h25, hw⟩ := hw
                refine gm_iald hE hM hT 8 rfl h25 dX4_tracks_81 ?_
                refine jn0_walk (G E (wsM M F1 A_53) (some z) 0 0 105 [some (aR (some (oM M))), some (aI x1_13), some (aI x2_13), some (aI x3_53)] []) hw (fun  hw => ?_) (fun j_105 hj_105 hw => ?_)
                · skip
                  refine g_aldn0 hE dX4_tracks_105 ?_
                  refine gm_geta hE hM hT 8 (by decide) rfl q2148 dX4_tracks_106 ?_
                  refine g_ildn2 hE dX4_tracks_109 ?_
                  refine g_ildn3 hE dX4_tracks_110 ?_
                  obtain ⟨h27, hw⟩ := hw
                  refine gm_iast hE hM hT 8 rfl h27 dX4_tracks_111 ?_
                  have hw := hw _ rfl
                  generalize uA A_53 8 x2_13 x3_53 = A26 at hw ⊢
                  exact hj_112 _ hw
                · skip
                  obtain ⟨h35, h36, hT37, hN38⟩ := hw
                  refine g_if_lt hE (tgt := 105) dX4_tracks_82 (by decide) h35 (fun q => ?_) (fun q => ?_)
                  · have hw := hT37 q
                    exact hj_105  hw
                  · have hw := hN38 q
                    refine g_aldn0 hE dX4_tracks_85 ?_
                    refine gm_geta hE hM hT 7 (by decide) rfl q2147 dX4_tracks_86 ?_
                    refine g_ildn3 hE dX4_tracks_89 ?_
                    obtain ⟨h28, hw⟩ := hw
                    refine gm_iald hE hM hT 7 rfl h28 dX4_tracks_90 ?_
                    refine g_aldn0 hE dX4_tracks_91 ?_
                    refine gm_geta hE hM hT 7 (by decide) rfl q2147 dX4_tracks_92 ?_
                    refine g_aldn0 hE dX4_tracks_95 ?_
                    refine gm_geta hE hM hT 8 (by decide) rfl q2148 dX4_tracks_96 ?_
                    refine g_ildn2 hE dX4_tracks_99 ?_
                    obtain ⟨h29, hw⟩ := hw
                    refine gm_iald hE hM hT 8 rfl h29 dX4_tracks_100 ?_
                    obtain ⟨h30, hw⟩ := hw
                    refine gm_iald hE hM hT 7 rfl h30 dX4_tracks_101 ?_
                    obtain ⟨h31, h32, hT33, hN34⟩ := hw
                    refine g_icmp_lt hE (tgt := 112) dX4_tracks_102 (by decide) h31 h32 (fun q => ?_) (fun q => ?_)
                    · have hw := hT33 q
                      exact hj_112 _ hw
                    · have hw := hN34 q
                      exact hj_105  hw
            · have hw := hN46 q
              exact hj_112 _ hw
        · have hw := hN70 q
          refine g_aldn0 hE dX4_tracks_118 ?_
          refine gm_geta hE hM hT 7 (by decide) rfl q2147 dX4_tracks_119 ?_
          refine g_ildn2 hE dX4_tracks_122 ?_
          refine g_aldn0 hE dX4_tracks_123 ?_
          refine g_ildn2 hE dX4_tracks_124 ?_
          refine gm_cVi hE hR hM hT (As := [aI x2_13]) (t4_weight M hM z hw) (lw_V q2415 q2417 qs71 q108 q2418) hd_X4_weight ⟨by decide, by decide⟩ rfl (Nat.le_of_ble_eq_true rfl) dX4_tracks_125 rfl (fun r47 hw => ?_)
          refine g_aldn0 hE dX4_tracks_128 ?_
          refine gm_geta hE hM hT 8 (by decide) rfl q2148 dX4_tracks_129 ?_
          refine g_ildn2 hE dX4_tracks_132 ?_
          obtain ⟨h48, hw⟩ := hw
          refine gm_iald hE hM hT 8 rfl h48 dX4_tracks_133 ?_
          refine jn1_walk (fun (y3_152 : Int) => G E (wsM M F1 A_53) (some z) 0 0 152 [some (aR (some (oM M))), some (aI x1_13), some (aI x2_13), some (aI x3_53)] [aI y3_152, aI r47, aI x2_13, aR (some (adM M 7))]) hw (fun y3_152 hw => ?_) (fun j_152 hj_152 hw => ?_)
          · skip
            refine g_iadd hE dX4_tracks_152 ?_
            obtain ⟨h50, hw⟩ := hw
            refine gm_iast hE hM hT 7 rfl h50 dX4_tracks_153 ?_
            have hw := hw _ rfl
            generalize uA A_53 7 x2_13 (r47 + y3_152) = A49 at hw ⊢
            refine g_ildn1 hE dX4_tracks_154 ?_
            refine jn0_walk (G E (wsM M F1 A49) (some z) 0 0 173 [some (aR (some (oM M))), some (aI x1_13), some (aI x2_13), some (aI x3_53)] []) hw (fun  hw => ?_) (fun j_173 hj_173 hw => ?_)
            · skip
              refine g_ildn2 hE dX4_tracks_173 ?_
              refine g_istn1 hE dX4_tracks_174 (by decide) rfl ?_
              refine g_kl3 ?_
              exact hj_175 _ _ hw
            · skip
              obtain ⟨h57, h58, hT59, hN60⟩ := hw
              refine g_if_lt hE (tgt := 173) dX4_tracks_155 (by decide) h57 (fun q => ?_) (fun q => ?_)
              · have hw := hT59 q
                exact hj_173  hw
              · have hw := hN60 q
                refine g_aldn0 hE dX4_tracks_158 ?_
                refine gm_geta hE hM hT 7 (by decide) rfl q2147 dX4_tracks_159 ?_
                refine g_ildn2 hE dX4_tracks_162 ?_
                obtain ⟨h51, hw⟩ := hw
                refine gm_iald hE hM hT 7 rfl h51 dX4_tracks_163 ?_
                refine g_aldn0 hE dX4_tracks_164 ?_
                refine gm_geta hE hM hT 7 (by decide) rfl q2147 dX4_tracks_165 ?_
                refine g_ildn1 hE dX4_tracks_168 ?_
                obtain ⟨h52, hw⟩ := hw
                refine gm_iald hE hM hT 7 rfl h52 dX4_tracks_169 ?_
                obtain ⟨h53, h54, hT55, hN56⟩ := hw
                refine g_icmp_lt hE (tgt := 175) dX4_tracks_170 (by decide) h53 h54 (fun q => ?_) (fun q => ?_)
                · have hw := hT55 q
                  refine g_kl3 ?_
                  exact hj_175 _ _ hw
                · have hw := hN56 q
                  exact hj_173  hw
          · skip
            obtain ⟨h63, h64, hT65, hN66⟩ := hw
            refine g_if_ge hE (tgt := 141) dX4_tracks_134 (by decide) h63 (fun q => ?_) (fun q => ?_)
            · have hw := hT65 q
              refine g_iconst hE dX4_tracks_137 ?_
              refine g_goto hE (tgt := 152) dX4_tracks_138 (by decide) ?_
              exact hj_152 _ hw
            · have hw := hN66 q
              refine g_aldn0 hE dX4_tracks_141 ?_
              refine gm_geta hE hM hT 7 (by decide) rfl q2147 dX4_tracks_142 ?_
              refine g_aldn0 hE dX4_tracks_145 ?_
              refine gm_geta hE hM hT 8 (by decide) rfl q2148 dX4_tracks_146 ?_
              refine g_ildn2 hE dX4_tracks_149 ?_
              obtain ⟨h61, hw⟩ := hw
              refine gm_iald hE hM hT 8 rfl h61 dX4_tracks_150 ?_
              obtain ⟨h62, hw⟩ := hw
              refine gm_iald hE hM hT 7 rfl h62 dX4_tracks_151 ?_
              exact hj_152 _ hw

/-- witnessOf(II)I -/
def w4_witnessOf (x1 : Int) (x2 : Int) (F : mF) (A : mA) (Q : Int → mF → mA → Prop) : Prop :=
  inR x1 ∧
  cIf (0 ≤ x1 ∧ x1 ≤ 5)
    (
    inR x2 ∧
    cIf (0 ≤ x2 ∧ x2 ≤ 3)
      (
      cLt x2 2
        (
        jn1 (fun (y0_54 : Int) => 
            Q y0_54 F A)
          (fun (j_54 : Int → Prop) =>
          cEq x2 0
            (
            ib (4 + x1) 354 ∧
            j_54 (A 0 (4 + x1)))
            (
            ib (4 + x1) 354 ∧
            j_54 (10 - (A 0 (4 + x1))))))
        (
        w4_tracks  F A (fun (F11 : mF) (A12 : mA) =>
        lq2 (fun (x3_64 : Int) (x4_64 : Int) (k_64 : Int → Int → Prop) =>
          cLt x4_64 (F11 14)
            (
            w4_told x4_64 2 F11 A12 (fun (r13 : Int) =>
            jn1 (fun (y1_90 : Int) => 
                k_64 (x3_64 + y1_90) (x4_64 + 1))
              (fun (j_90 : Int → Prop) =>
              cEq r13 x1
                (
                j_90 1)
                (
                j_90 0))))
            (
            lq2 (fun (x3_101 : Int) (x4_101 : Int) (k_101 : Int → Int → Prop) =>
              jn0 (
                  Q x3_101 F11 A12)
                (fun (j_145 : Prop) =>
                cLt x4_101 (F11 15)
                  (
                  cEq x2 3
                    (
                    ib x4_101 30 ∧
                    w4_told (A12 9 x4_101) 2 F11 A12 (fun (r19 : Int) =>
                    jn1 (fun (y1_137 : Int) => 
                        k_101 (x3_101 - y1_137) (x4_101 + 1))
                      (fun (j_137 : Int → Prop) =>
                      cEq r19 x1
                        (
                        j_137 1)
                        (
                        j_137 0))))
                    (
                    j_145))
                  (
                  j_145))) x3_64 0)) 0 0)))
      (
      Q ((-2)) F A))
    (
    Q ((-1)) F A)
theorem hd_X4_witnessOf : yX4_witnessOf.cls = RX4 ∧ yX4_witnessOf.cls ≠ "java/lang/invoke/MethodHandle" ∧ yX4_witnessOf.cls ≠ "java/lang/invoke/VarHandle" ∧ (parseMethodDescriptor yX4_witnessOf.desc).map (fun d => d.parameters.length) = some 2 := by decide +kernel
set_option maxHeartbeats 4000000 in
theorem t4_witnessOf (M : MT) (hM : OkM M) (z : Nat) {x1 : Int} {x2 : Int} {F : mF} {A : mA} {Q : Int → mF → mA → Prop} (hw : w4_witnessOf x1 x2 F A Q) : CtM M z yX4_witnessOf cX4_witnessOf 5 (some .int) (k2_rm 5 114) [aR (some (oM M)), aI x1, aI x2] F A (PMiFA M z Q) := by
  refine Ct.intro (by decide) (Nat.le_of_ble_eq_true rfl) (fun E hE hR hT => ?_)
  have hT : TM E M := hT
  have hE : OkE E RX4 cX4_witnessOf 5 (some .int) := hE
  show G E (wsM M F A) (some z) 0 0 0 [some (aR (some (oM M))), some (aI x1), some (aI x2), none, none] []
  unfold w4_witnessOf at hw
  refine g_ildn1 hE dX4_witnessOf_0 ?_
  refine g_iconst hE dX4_witnessOf_1 ?_
  refine g_iconst hE dX4_witnessOf_2 ?_
  obtain ⟨h1, hw⟩ := hw
  refine gm_cSi hE hR hM hT (As := [aI x1, aI 0, aI 5]) (t4_isIn M hM z (s4_isIn h1 (by decide) (by decide))) (lw_S q2257 q2258 q108 q2259) hd_X4_isIn ⟨by decide, by decide⟩ rfl (Nat.le_of_ble_eq_true rfl) dX4_witnessOf_3 rfl (fun r2 hr2 => ?_)
  subst hr2
  refine g_if_ne hE (tgt := 11) dX4_witnessOf_6 (by decide) bI_in (fun q => ?_) (fun q => ?_)
  · have hw := hw.2 (bI_eq0.mp q)
    refine g_iconst hE dX4_witnessOf_9 ?_
    exact g_iret hE hR dX4_witnessOf_10 (Nat.le_refl 0) (Nat.le_refl 0) rfl ⟨_, _, _, rfl, rfl, rfl, hw⟩
  · have hw := hw.1 (bI_ne0.mp q)
    refine g_ildn2 hE dX4_witnessOf_11 ?_
    refine g_iconst hE dX4_witnessOf_12 ?_
    refine g_iconst hE dX4_witnessOf_13 ?_
    obtain ⟨h3, hw⟩ := hw
    refine gm_cSi hE hR hM hT (As := [aI x2, aI 0, aI 3]) (t4_isIn M hM z (s4_isIn h3 (by decide) (by decide))) (lw_S q2257 q2258 q108 q2259) hd_X4_isIn ⟨by decide, by decide⟩ rfl (Nat.le_of_ble_eq_true rfl) dX4_witnessOf_14 rfl (fun r4 hr4 => ?_)
    subst hr4
    refine g_if_ne hE (tgt := 23) dX4_witnessOf_17 (by decide) bI_in (fun q => ?_) (fun q => ?_)
    · have hw := hw.2 (bI_eq0.mp q)
      refine g_bipush hE dX4_witnessOf_20 (by decide) ?_
      exact g_iret hE hR dX4_witnessOf_22 (Nat.le_refl 0) (Nat.le_refl 0) rfl ⟨_, _, _, rfl, rfl, rfl, hw⟩
    · have hw := hw.1 (bI_ne0.mp q)
      refine g_ildn2 hE dX4_witnessOf_23 ?_
      refine g_iconst hE dX4_witnessOf_24 ?_
      obtain ⟨h36, h37, hT38, hN39⟩ := hw
      refine g_icmp_ge hE (tgt := 55) dX4_witnessOf_25 (by decide) h36 h37 (fun q => ?_) (fun q => ?_)
      · have hw := hT38 q
        refine g_ildn2 hE dX4_witnessOf_28 ?_
        refine jn1_walk (fun (y0_54 : Int) => G E (wsM M F A) (some z) 0 0 54 [some (aR (some (oM M))), some (aI x1), some (aI x2), none, none] [aI y0_54]) hw (fun y0_54 hw => ?_) (fun j_54 hj_54 hw => ?_)
        · skip
          exact g_iret hE hR dX4_witnessOf_54 (Nat.le_refl 0) (Nat.le_refl 0) rfl ⟨_, _, _, rfl, rfl, rfl, hw⟩
        · skip
          obtain ⟨h7, h8, hT9, hN10⟩ := hw
          refine g_if_ne hE (tgt := 43) dX4_witnessOf_29 (by decide) h7 (fun q => ?_) (fun q => ?_)
          · have hw := hT9 q
            refine g_aldn0 hE dX4_witnessOf_32 ?_
            refine gm_geta hE hM hT 0 (by decide) rfl q2140 dX4_witnessOf_33 ?_
            refine g_iconst hE dX4_witnessOf_36 ?_
            refine g_ildn1 hE dX4_witnessOf_37 ?_
            refine g_iadd hE dX4_witnessOf_38 ?_
            obtain ⟨h5, hw⟩ := hw
            refine gm_iald hE hM hT 0 rfl h5 dX4_witnessOf_39 ?_
            refine g_goto hE (tgt := 54) dX4_witnessOf_40 (by decide) ?_
            exact hj_54 _ hw
          · have hw := hN10 q
            refine g_bipush hE dX4_witnessOf_43 (by decide) ?_
            refine g_aldn0 hE dX4_witnessOf_45 ?_
            refine gm_geta hE hM hT 0 (by decide) rfl q2140 dX4_witnessOf_46 ?_
            refine g_iconst hE dX4_witnessOf_49 ?_
            refine g_ildn1 hE dX4_witnessOf_50 ?_
            refine g_iadd hE dX4_witnessOf_51 ?_
            obtain ⟨h6, hw⟩ := hw
            refine gm_iald hE hM hT 0 rfl h6 dX4_witnessOf_52 ?_
            refine g_isub hE dX4_witnessOf_53 ?_
            exact hj_54 _ hw
      · have hw := hN39 q
        refine g_aldn0 hE dX4_witnessOf_55 ?_
        refine gm_cVvFA hE hR hM hT (As := []) (t4_tracks M hM z hw) (lw_V q2403 q2405 qs68 q108 q2406) hd_X4_tracks ⟨by decide, by decide⟩ rfl (Nat.le_of_ble_eq_true rfl) dX4_witnessOf_56 rfl (fun F11 A12 hw => ?_)
        refine g_iconst hE dX4_witnessOf_59 ?_
        refine g_istn3 hE dX4_witnessOf_60 (by decide) rfl ?_
        refine g_iconst hE dX4_witnessOf_61 ?_
        refine g_ist4 hE dX4_witnessOf_62 (by decide) rfl ?_
        refine lq2_walk (fun (x3_64 : Int) (x4_64 : Int) => G E (wsM M F11 A12) (some z) 0 0 64 [some (aR (some (oM M))), some (aI x1), some (aI x2), some (aI x3_64), some (aI x4_64)] []) (fun k_64 hk_64 x3_64 x4_64 hw => ?_) _ _ hw
        refine g_ild4 hE dX4_witnessOf_64 ?_
        refine g_aldn0 hE dX4_witnessOf_66 ?_
        refine gm_geti hE hM hT 14 (by decide) rfl q2154 dX4_witnessOf_67 ?_
        obtain ⟨h32, h33, hT34, hN35⟩ := hw
        refine g_icmp_ge hE (tgt := 98) dX4_witnessOf_70 (by decide) h32 h33 (fun q => ?_) (fun q => ?_)
        · have hw := hT34 q
          refine g_ildn3 hE dX4_witnessOf_73 ?_
          refine g_aldn0 hE dX4_witnessOf_74 ?_
          refine g_ild4 hE dX4_witnessOf_75 ?_
          refine g_iconst hE dX4_witnessOf_77 ?_
          refine gm_cVi hE hR hM hT (As := [aI x4_64, aI 2]) (t4_told M hM z hw) (lw_V q2274 q2276 qs49 q108 q2277) hd_X4_told ⟨by decide, by decide⟩ rfl (Nat.le_of_ble_eq_true rfl) dX4_witnessOf_78 rfl (fun r13 hw => ?_)
          refine g_ildn1 hE dX4_witnessOf_81 ?_
          refine jn1_walk (fun (y1_90 : Int) => G E (wsM M F11 A12) (some z) 0 0 90 [some (aR (some (oM M))), some (aI x1), some (aI x2), some (aI x3_64), some (aI x4_64)] [aI y1_90, aI x3_64]) hw (fun y1_90 hw => ?_) (fun j_90 hj_90 hw => ?_)
          · skip
            refine g_iadd hE dX4_witnessOf_90 ?_
            refine g_istn3 hE dX4_witnessOf_91 (by decide) rfl ?_
            refine g_iinc4 hE dX4_witnessOf_92 (by decide) rfl ?_
            refine g_goto hE (tgt := 64) dX4_witnessOf_95 (by decide) ?_
            exact hk_64 _ _ hw
          · skip
            obtain ⟨h14, h15, hT16, hN17⟩ := hw
            refine g_icmp_ne hE (tgt := 89) dX4_witnessOf_82 (by decide) h14 h15 (fun q => ?_) (fun q => ?_)
            · have hw := hT16 q
              refine g_iconst hE dX4_witnessOf_85 ?_
              refine g_goto hE (tgt := 90) dX4_witnessOf_86 (by decide) ?_
              exact hj_90 _ hw
            · have hw := hN17 q
              refine g_iconst hE dX4_witnessOf_89 ?_
              exact hj_90 _ hw
        · have hw := hN35 q
          refine g_iconst hE dX4_witnessOf_98 ?_
          refine g_ist4 hE dX4_witnessOf_99 (by decide) rfl ?_
          refine lq2_walk (fun (x3_101 : Int) (x4_101 : Int) => G E (wsM M F11 A12) (some z) 0 0 101 [some (aR (some (oM M))), some (aI x1), some (aI x2), some (aI x3_101), some (aI x4_101)] []) (fun k_101 hk_101 x3_101 x4_101 hw => ?_) _ _ hw
          refine g_ild4 hE dX4_witnessOf_101 ?_
          refine g_aldn0 hE dX4_witnessOf_103 ?_
          refine gm_geti hE hM hT 15 (by decide) rfl q2155 dX4_witnessOf_104 ?_
          refine jn0_walk (G E (wsM M F11 A12) (some z) 0 0 145 [some (aR (some (oM M))), some (aI x1), some (aI x2), some (aI x3_101), some (aI x4_101)] []) hw (fun  hw => ?_) (fun j_145 hj_145 hw => ?_)
          · skip
            refine g_ildn3 hE dX4_witnessOf_145 ?_
            exact g_iret hE hR dX4_witnessOf_146 (Nat.le_refl 0) (Nat.le_refl 0) rfl ⟨_, _, _, rfl, rfl, rfl, hw⟩
          · skip
            obtain ⟨h28, h29, hT30, hN31⟩ := hw
            refine g_icmp_ge hE (tgt := 145) dX4_witnessOf_107 (by decide) h28 h29 (fun q => ?_) (fun q => ?_)
            · have hw := hT30 q
              refine g_ildn2 hE dX4_witnessOf_110 ?_
              refine g_iconst hE dX4_witnessOf_111 ?_
              obtain ⟨h24, h25, hT26, hN27⟩ := hw
              refine g_icmp_ne hE (tgt := 145) dX4_witnessOf_112 (by decide) h24 h25 (fun q => ?_) (fun q => ?_)
              · have hw := hT26 q
                refine g_ildn3 hE dX4_witnessOf_115 ?_
                refine g_aldn0 hE dX4_witnessOf_116 ?_
                refine g_aldn0 hE dX4_witnessOf_117 ?_
                refine gm_geta hE hM hT 9 (by decide) rfl q2149 dX4_witnessOf_118 ?_
                refine g_ild4 hE dX4_witnessOf_121 ?_
                obtain ⟨h18, hw⟩ := hw
                refine gm_iald hE hM hT 9 rfl h18 dX4_witnessOf_123 ?_
                refine g_iconst hE dX4_witnessOf_124 ?_
                refine gm_cVi hE hR hM hT (As := [aI (A12 9 x4_101), aI 2]) (t4_told M hM z hw) (lw_V q2274 q2276 qs49 q108 q2277) hd_X4_told ⟨by decide, by decide⟩ rfl (Nat.le_of_ble_eq_true rfl) dX4_witnessOf_125 rfl (fun r19 hw => ?_)
                refine g_ildn1 hE dX4_witnessOf_128 ?_
                refine jn1_walk (fun (y1_137 : Int) => G E (wsM M F11 A12) (some z) 0 0 137 [some (aR (some (oM M))), some (aI x1), some (aI x2), some (aI x3_101), some (aI x4_101)] [aI y1_137, aI x3_101]) hw (fun y1_137 hw => ?_) (fun j_137 hj_137 hw => ?_)
                · skip
                  refine g_isub hE dX4_witnessOf_137 ?_
                  refine g_istn3 hE dX4_witnessOf_138 (by decide) rfl ?_
                  refine g_iinc4 hE dX4_witnessOf_139 (by decide) rfl ?_
                  refine g_goto hE (tgt := 101) dX4_witnessOf_142 (by decide) ?_
                  exact hk_101 _ _ hw
                · skip
                  obtain ⟨h20, h21, hT22, hN23⟩ := hw
                  refine g_icmp_ne hE (tgt := 136) dX4_witnessOf_129 (by decide) h20 h21 (fun q => ?_) (fun q => ?_)
                  · have hw := hT22 q
                    refine g_iconst hE dX4_witnessOf_132 ?_
                    refine g_goto hE (tgt := 137) dX4_witnessOf_133 (by decide) ?_
                    exact hj_137 _ hw
                  · have hw := hN23 q
                    refine g_iconst hE dX4_witnessOf_136 ?_
                    exact hj_137 _ hw
              · have hw := hN27 q
                exact hj_145  hw
            · have hw := hN31 q
              exact hj_145  hw

/-- listed(II)I -/
def w4_listed (x1 : Int) (x2 : Int) (F : mF) (A : mA) (Q : Int → mF → mA → Prop) : Prop :=
  w4_lists  F A (fun (F1 : mF) (A2 : mA) =>
  inR x1 ∧ inR ((F1 14) - 1) ∧
  cIf (0 ≤ x1 ∧ x1 ≤ ((F1 14) - 1))
    (
    inR x2 ∧
    cIf (0 ≤ x2 ∧ x2 ≤ 3)
      (
      jn1 (fun (y0_67 : Int) => 
          Q y0_67 F1 A2)
        (fun (j_67 : Int → Prop) =>
        cEq x2 0
          (
          ib x1 30 ∧
          j_67 (A2 4 x1))
          (
          cEq x2 1
            (
            ib x1 30 ∧
            j_67 (A2 5 x1))
            (
            w4_told x1 (x2 - 2) F1 A2 (fun (r10 : Int) =>
            j_67 r10)))))
      (
      Q ((-2)) F1 A2))
    (
    Q ((-1)) F1 A2))
theorem hd_X4_listed : yX4_listed.cls = RX4 ∧ yX4_listed.cls ≠ "java/lang/invoke/MethodHandle" ∧ yX4_listed.cls ≠ "java/lang/invoke/VarHandle" ∧ (parseMethodDescriptor yX4_listed.desc).map (fun d => d.parameters.length) = some 2 := by decide +kernel
set_option maxHeartbeats 4000000 in
theorem t4_listed (M : MT) (hM : OkM M) (z : Nat) {x1 : Int} {x2 : Int} {F : mF} {A : mA} {Q : Int → mF → mA → Prop} (hw : w4_listed x1 x2 F A Q) : CtM M z yX4_listed cX4_listed 3 (some .int) (k2_rm 3 67) [aR (some (oM M)), aI x1, aI x2] F A (PMiFA M z Q) := by
  refine Ct.intro (by decide) (Nat.le_of_ble_eq_true rfl) (fun E hE hR hT => ?_)
  have hT : TM E M := hT
  have hE : OkE E RX4 cX4_listed 3 (some .int) := hE
  show G E (wsM M F A) (some z) 0 0 0 [some (aR (some (oM M))), some (aI x1), some (aI x2)] []
  unfold w4_listed at hw
  refine g_aldn0 hE dX4_listed_0 ?_
  refine gm_cVvFA hE hR hM hT (As := []) (t4_lists M hM z hw) (lw_V q2264 q2266 qs48 q108 q2267) hd_X4_lists ⟨by decide, by decide⟩ rfl (Nat.le_of_ble_eq_true rfl) dX4_listed_1 rfl (fun F1 A2 hw => ?_)
  refine g_ildn1 hE dX4_listed_4 ?_
  refine g_iconst hE dX4_listed_5 ?_
  refine g_aldn0 hE dX4_listed_6 ?_
  refine gm_geti hE hM hT 14 (by decide) rfl q2154 dX4_listed_7 ?_
  refine g_iconst hE dX4_listed_10 ?_
  refine g_isub hE dX4_listed_11 ?_
  obtain ⟨h3, hw⟩ := hw
  obtain ⟨h4, hw⟩ := hw
  refine gm_cSi hE hR hM hT (As := [aI x1, aI 0, aI ((F1 14) - 1)]) (t4_isIn M hM z (s4_isIn h3 (by decide) h4)) (lw_S q2257 q2258 q108 q2259) hd_X4_isIn ⟨by decide, by decide⟩ rfl (Nat.le_of_ble_eq_true rfl) dX4_listed_12 rfl (fun r5 hr5 => ?_)
  subst hr5
  refine g_if_ne hE (tgt := 20) dX4_listed_15 (by decide) bI_in (fun q => ?_) (fun q => ?_)
  · have hw := hw.2 (bI_eq0.mp q)
    refine g_iconst hE dX4_listed_18 ?_
    exact g_iret hE hR dX4_listed_19 (Nat.le_refl 0) (Nat.le_refl 0) rfl ⟨_, _, _, rfl, rfl, rfl, hw⟩
  · have hw := hw.1 (bI_ne0.mp q)
    refine g_ildn2 hE dX4_listed_20 ?_
    refine g_iconst hE dX4_listed_21 ?_
    refine g_iconst hE dX4_listed_22 ?_
    obtain ⟨h6, hw⟩ := hw
    refine gm_cSi hE hR hM hT (As := [aI x2, aI 0, aI 3]) (t4_isIn M hM z (s4_isIn h6 (by decide) (by decide))) (lw_S q2257 q2258 q108 q2259) hd_X4_isIn ⟨by decide, by decide⟩ rfl (Nat.le_of_ble_eq_true rfl) dX4_listed_23 rfl (fun r7 hr7 => ?_)
    subst hr7
    refine g_if_ne hE (tgt := 32) dX4_listed_26 (by decide) bI_in (fun q => ?_) (fun q => ?_)
    · have hw := hw.2 (bI_eq0.mp q)
      refine g_bipush hE dX4_listed_29 (by decide) ?_
      exact g_iret hE hR dX4_listed_31 (Nat.le_refl 0) (Nat.le_refl 0) rfl ⟨_, _, _, rfl, rfl, rfl, hw⟩
    · have hw := hw.1 (bI_ne0.mp q)
      refine g_ildn2 hE dX4_listed_32 ?_
      refine jn1_walk (fun (y0_67 : Int) => G E (wsM M F1 A2) (some z) 0 0 67 [some (aR (some (oM M))), some (aI x1), some (aI x2)] [aI y0_67]) hw (fun y0_67 hw => ?_) (fun j_67 hj_67 hw => ?_)
      · skip
        exact g_iret hE hR dX4_listed_67 (Nat.le_refl 0) (Nat.le_refl 0) rfl ⟨_, _, _, rfl, rfl, rfl, hw⟩
      · skip
        obtain ⟨h15, h16, hT17, hN18⟩ := hw
        refine g_if_ne hE (tgt := 45) dX4_listed_33 (by decide) h15 (fun q => ?_) (fun q => ?_)
        · have hw := hT17 q
          refine g_aldn0 hE dX4_listed_36 ?_
          refine gm_geta hE hM hT 4 (by decide) rfl q2144 dX4_listed_37 ?_
          refine g_ildn1 hE dX4_listed_40 ?_
          obtain ⟨h8, hw⟩ := hw
          refine gm_iald hE hM hT 4 rfl h8 dX4_listed_41 ?_
          refine g_goto hE (tgt := 67) dX4_listed_42 (by decide) ?_
          exact hj_67 _ hw
        · have hw := hN18 q
          refine g_ildn2 hE dX4_listed_45 ?_
          refine g_iconst hE dX4_listed_46 ?_
          obtain ⟨h11, h12, hT13, hN14⟩ := hw
          refine g_icmp_ne hE (tgt := 59) dX4_listed_47 (by decide) h11 h12 (fun q => ?_) (fun q => ?_)
          · have hw := hT13 q
            refine g_aldn0 hE dX4_listed_50 ?_
            refine gm_geta hE hM hT 5 (by decide) rfl q2145 dX4_listed_51 ?_
            refine g_ildn1 hE dX4_listed_54 ?_
            obtain ⟨h9, hw⟩ := hw
            refine gm_iald hE hM hT 5 rfl h9 dX4_listed_55 ?_
            refine g_goto hE (tgt := 67) dX4_listed_56 (by decide) ?_
            exact hj_67 _ hw
          · have hw := hN14 q
            refine g_aldn0 hE dX4_listed_59 ?_
            refine g_ildn1 hE dX4_listed_60 ?_
            refine g_ildn2 hE dX4_listed_61 ?_
            refine g_iconst hE dX4_listed_62 ?_
            refine g_isub hE dX4_listed_63 ?_
            refine gm_cVi hE hR hM hT (As := [aI x1, aI (x2 - 2)]) (t4_told M hM z hw) (lw_V q2274 q2276 qs49 q108 q2277) hd_X4_told ⟨by decide, by decide⟩ rfl (Nat.le_of_ble_eq_true rfl) dX4_listed_64 rfl (fun r10 hw => ?_)
            exact hj_67 _ hw

/-- canBoth(II)I -/
def w4_canBoth (x1 : Int) (x2 : Int) (F : mF) (A : mA) (Q : Int → mF → mA → Prop) : Prop :=
  w4_measures  F A (fun (F1 : mF) (A2 : mA) =>
  inR x1 ∧ inR ((F1 14) - 1) ∧
  jn0 (
      Q ((-1)) F1 A2)
    (fun (j_32 : Prop) =>
    cIf (0 ≤ x1 ∧ x1 ≤ ((F1 14) - 1))
      (
      inR x2 ∧ inR ((F1 14) - 1) ∧
      cIf (0 ≤ x2 ∧ x2 ≤ ((F1 14) - 1))
        (
        w4_areBoth x1 x2 F1 A2 (fun (r9 : Int) =>
        jn1 (fun (y0_48 : Int) => 
            Q y0_48 F1 A2)
          (fun (j_48 : Int → Prop) =>
          cEq r9 0
            (
            j_48 0)
            (
            j_48 1))))
        (
        j_32))
      (
      j_32)))
theorem hd_X4_canBoth : yX4_canBoth.cls = RX4 ∧ yX4_canBoth.cls ≠ "java/lang/invoke/MethodHandle" ∧ yX4_canBoth.cls ≠ "java/lang/invoke/VarHandle" ∧ (parseMethodDescriptor yX4_canBoth.desc).map (fun d => d.parameters.length) = some 2 := by decide +kernel
set_option maxHeartbeats 4000000 in
theorem t4_canBoth (M : MT) (hM : OkM M) (z : Nat) {x1 : Int} {x2 : Int} {F : mF} {A : mA} {Q : Int → mF → mA → Prop} (hw : w4_canBoth x1 x2 F A Q) : CtM M z yX4_canBoth cX4_canBoth 3 (some .int) (k2_rm 4 91) [aR (some (oM M)), aI x1, aI x2] F A (PMiFA M z Q) := by
  refine Ct.intro (by decide) (Nat.le_of_ble_eq_true rfl) (fun E hE hR hT => ?_)
  have hT : TM E M := hT
  have hE : OkE E RX4 cX4_canBoth 3 (some .int) := hE
  show G E (wsM M F A) (some z) 0 0 0 [some (aR (some (oM M))), some (aI x1), some (aI x2)] []
  unfold w4_canBoth at hw
  refine g_aldn0 hE dX4_canBoth_0 ?_
  refine gm_cVvFA hE hR hM hT (As := []) (t4_measures M hM z hw) (lw_V q2407 q2409 qs69 q108 q2410) hd_X4_measures ⟨by decide, by decide⟩ rfl (Nat.le_of_ble_eq_true rfl) dX4_canBoth_1 rfl (fun F1 A2 hw => ?_)
  refine g_ildn1 hE dX4_canBoth_4 ?_
  refine g_iconst hE dX4_canBoth_5 ?_
  refine g_aldn0 hE dX4_canBoth_6 ?_
  refine gm_geti hE hM hT 14 (by decide) rfl q2154 dX4_canBoth_7 ?_
  refine g_iconst hE dX4_canBoth_10 ?_
  refine g_isub hE dX4_canBoth_11 ?_
  obtain ⟨h3, hw⟩ := hw
  obtain ⟨h4, hw⟩ := hw
  refine gm_cSi hE hR hM hT (As := [aI x1, aI 0, aI ((F1 14) - 1)]) (t4_isIn M hM z (s4_isIn h3 (by decide) h4)) (lw_S q2257 q2258 q108 q2259) hd_X4_isIn ⟨by decide, by decide⟩ rfl (Nat.le_of_ble_eq_true rfl) dX4_canBoth_12 rfl (fun r5 hr5 => ?_)
  subst hr5
  refine jn0_walk (G E (wsM M F1 A2) (some z) 0 0 32 [some (aR (some (oM M))), some (aI x1), some (aI x2)] []) hw (fun  hw => ?_) (fun j_32 hj_32 hw => ?_)
  · skip
    refine g_iconst hE dX4_canBoth_32 ?_
    exact g_iret hE hR dX4_canBoth_33 (Nat.le_refl 0) (Nat.le_refl 0) rfl ⟨_, _, _, rfl, rfl, rfl, hw⟩
  · skip
    refine g_if_eq hE (tgt := 32) dX4_canBoth_15 (by decide) bI_in (fun q => ?_) (fun q => ?_)
    · have hw := hw.2 (bI_eq0.mp q)
      exact hj_32  hw
    · have hw := hw.1 (bI_ne0.mp q)
      refine g_ildn2 hE dX4_canBoth_18 ?_
      refine g_iconst hE dX4_canBoth_19 ?_
      refine g_aldn0 hE dX4_canBoth_20 ?_
      refine gm_geti hE hM hT 14 (by decide) rfl q2154 dX4_canBoth_21 ?_
      refine g_iconst hE dX4_canBoth_24 ?_
      refine g_isub hE dX4_canBoth_25 ?_
      obtain ⟨h6, hw⟩ := hw
      obtain ⟨h7, hw⟩ := hw
      refine gm_cSi hE hR hM hT (As := [aI x2, aI 0, aI ((F1 14) - 1)]) (t4_isIn M hM z (s4_isIn h6 (by decide) h7)) (lw_S q2257 q2258 q108 q2259) hd_X4_isIn ⟨by decide, by decide⟩ rfl (Nat.le_of_ble_eq_true rfl) dX4_canBoth_26 rfl (fun r8 hr8 => ?_)
      subst hr8
      refine g_if_ne hE (tgt := 34) dX4_canBoth_29 (by decide) bI_in (fun q => ?_) (fun q => ?_)
      · have hw := hw.2 (bI_eq0.mp q)
        exact hj_32  hw
      · have hw := hw.1 (bI_ne0.mp q)
        refine g_aldn0 hE dX4_canBoth_34 ?_
        refine g_ildn1 hE dX4_canBoth_35 ?_
        refine g_ildn2 hE dX4_canBoth_36 ?_
        refine gm_cVi hE hR hM hT (As := [aI x1, aI x2]) (t4_areBoth M hM z hw) (lw_V q2411 q2413 qs70 q108 q2414) hd_X4_areBoth ⟨by decide, by decide⟩ rfl (Nat.le_of_ble_eq_true rfl) dX4_canBoth_37 rfl (fun r9 hw => ?_)
        refine jn1_walk (fun (y0_48 : Int) => G E (wsM M F1 A2) (some z) 0 0 48 [some (aR (some (oM M))), some (aI x1), some (aI x2)] [aI y0_48]) hw (fun y0_48 hw => ?_) (fun j_48 hj_48 hw => ?_)
        · skip
          exact g_iret hE hR dX4_canBoth_48 (Nat.le_refl 0) (Nat.le_refl 0) rfl ⟨_, _, _, rfl, rfl, rfl, hw⟩
        · skip
          obtain ⟨h10, h11, hT12, hN13⟩ := hw
          refine g_if_eq hE (tgt := 47) dX4_canBoth_40 (by decide) h10 (fun q => ?_) (fun q => ?_)
          · have hw := hT12 q
            refine g_iconst hE dX4_canBoth_47 ?_
            exact hj_48 _ hw
          · have hw := hN13 q
            refine g_iconst hE dX4_canBoth_43 ?_
            refine g_goto hE (tgt := 48) dX4_canBoth_44 (by decide) ?_
            exact hj_48 _ hw

/-- pairs()I -/
def w4_pairs  (F : mF) (A : mA) (Q : Int → mF → mA → Prop) : Prop :=
  w4_measures  F A (fun (F1 : mF) (A2 : mA) =>
  lq2 (fun (x2_8 : Int) (A_8 : mA) (k_8 : Int → mA → Prop) =>
    cLt x2_8 (F1 14)
      (
      ib x2_8 30 ∧ ∀ A3 : mA, A3 = uA A_8 10 x2_8 0 →
      k_8 (x2_8 + 1) A3)
      (
      lq3 (fun (x1_31 : Int) (x2_31 : Int) (A_31 : mA) (k_31 : Int → Int → mA → Prop) =>
        cLt x2_31 (F1 14)
          (
          lq3 (fun (x1_41 : Int) (x3_41 : Int) (A_41 : mA) (k_41 : Int → Int → mA → Prop) =>
            cLt x3_41 x2_31
              (
              w4_areBoth x2_31 x3_41 F1 A_41 (fun (r5 : Int) =>
              jn2 (fun (x1_81 : Int) (A_81 : mA) => 
                  k_41 x1_81 (x3_41 + 1) A_81)
                (fun (j_81 : Int → mA → Prop) =>
                cEq r5 0
                  (
                  ib x2_31 30 ∧
                  ib x2_31 30 ∧ ∀ A7 : mA, A7 = uA A_41 10 x2_31 ((A_41 10 x2_31) + 1) →
                  ib x3_41 30 ∧
                  ib x3_41 30 ∧ ∀ A10 : mA, A10 = uA A7 10 x3_41 ((A7 10 x3_41) + 1) →
                  j_81 (x1_41 + 1) A10)
                  (
                  j_81 x1_41 A_41))))
              (
              k_31 x1_41 (x2_31 + 1) A_41)) x1_31 0 A_31)
          (
          Q x1_31 F1 A_31)) 0 0 A_8)) 0 A2)
theorem hd_X4_pairs : yX4_pairs.cls = RX4 ∧ yX4_pairs.cls ≠ "java/lang/invoke/MethodHandle" ∧ yX4_pairs.cls ≠ "java/lang/invoke/VarHandle" ∧ (parseMethodDescriptor yX4_pairs.desc).map (fun d => d.parameters.length) = some 0 := by decide +kernel
set_option maxHeartbeats 4000000 in
theorem t4_pairs (M : MT) (hM : OkM M) (z : Nat)  {F : mF} {A : mA} {Q : Int → mF → mA → Prop} (hw : w4_pairs F A Q) : CtM M z yX4_pairs cX4_pairs 4 (some .int) (k2_rm 4 91) [aR (some (oM M))] F A (PMiFA M z Q) := by
  refine Ct.intro (by decide) (Nat.le_of_ble_eq_true rfl) (fun E hE hR hT => ?_)
  have hT : TM E M := hT
  have hE : OkE E RX4 cX4_pairs 4 (some .int) := hE
  show G E (wsM M F A) (some z) 0 0 0 [some (aR (some (oM M))), none, none, none] []
  unfold w4_pairs at hw
  refine g_aldn0 hE dX4_pairs_0 ?_
  refine gm_cVvFA hE hR hM hT (As := []) (t4_measures M hM z hw) (lw_V q2407 q2409 qs69 q108 q2410) hd_X4_measures ⟨by decide, by decide⟩ rfl (Nat.le_of_ble_eq_true rfl) dX4_pairs_1 rfl (fun F1 A2 hw => ?_)
  refine g_iconst hE dX4_pairs_4 ?_
  refine g_istn1 hE dX4_pairs_5 (by decide) rfl ?_
  refine g_iconst hE dX4_pairs_6 ?_
  refine g_istn2 hE dX4_pairs_7 (by decide) rfl ?_
  refine lq2_walk (fun (x2_8 : Int) (A_8 : mA) => G E (wsM M F1 A_8) (some z) 0 0 8 [some (aR (some (oM M))), some (aI 0), some (aI x2_8), none] []) (fun k_8 hk_8 x2_8 A_8 hw => ?_) _ _ hw
  refine g_ildn2 hE dX4_pairs_8 ?_
  refine g_aldn0 hE dX4_pairs_9 ?_
  refine gm_geti hE hM hT 14 (by decide) rfl q2154 dX4_pairs_10 ?_
  obtain ⟨h24, h25, hT26, hN27⟩ := hw
  refine g_icmp_ge hE (tgt := 29) dX4_pairs_13 (by decide) h24 h25 (fun q => ?_) (fun q => ?_)
  · have hw := hT26 q
    refine g_aldn0 hE dX4_pairs_16 ?_
    refine gm_geta hE hM hT 10 (by decide) rfl q2150 dX4_pairs_17 ?_
    refine g_ildn2 hE dX4_pairs_20 ?_
    refine g_iconst hE dX4_pairs_21 ?_
    obtain ⟨h4, hw⟩ := hw
    refine gm_iast hE hM hT 10 rfl h4 dX4_pairs_22 ?_
    have hw := hw _ rfl
    generalize uA A_8 10 x2_8 0 = A3 at hw ⊢
    refine g_iinc2 hE dX4_pairs_23 (by decide) rfl ?_
    refine g_goto hE (tgt := 8) dX4_pairs_26 (by decide) ?_
    exact hk_8 _ _ hw
  · have hw := hN27 q
    refine g_iconst hE dX4_pairs_29 ?_
    refine g_istn2 hE dX4_pairs_30 (by decide) rfl ?_
    refine lq3_walk (fun (x1_31 : Int) (x2_31 : Int) (A_31 : mA) => G E (wsM M F1 A_31) (some z) 0 0 31 [some (aR (some (oM M))), some (aI x1_31), some (aI x2_31), none] []) (fun k_31 hk_31 x1_31 x2_31 A_31 hw => ?_) _ _ _ hw
    refine g_ildn2 hE dX4_pairs_31 ?_
    refine g_aldn0 hE dX4_pairs_32 ?_
    refine gm_geti hE hM hT 14 (by decide) rfl q2154 dX4_pairs_33 ?_
    obtain ⟨h20, h21, hT22, hN23⟩ := hw
    refine g_icmp_ge hE (tgt := 93) dX4_pairs_36 (by decide) h20 h21 (fun q => ?_) (fun q => ?_)
    · have hw := hT22 q
      refine g_iconst hE dX4_pairs_39 ?_
      refine g_istn3 hE dX4_pairs_40 (by decide) rfl ?_
      refine lq3_walk (fun (x1_41 : Int) (x3_41 : Int) (A_41 : mA) => G E (wsM M F1 A_41) (some z) 0 0 41 [some (aR (some (oM M))), some (aI x1_41), some (aI x2_31), some (aI x3_41)] []) (fun k_41 hk_41 x1_41 x3_41 A_41 hw => ?_) _ _ _ hw
      refine g_ildn3 hE dX4_pairs_41 ?_
      refine g_ildn2 hE dX4_pairs_42 ?_
      obtain ⟨h16, h17, hT18, hN19⟩ := hw
      refine g_icmp_ge hE (tgt := 87) dX4_pairs_43 (by decide) h16 h17 (fun q => ?_) (fun q => ?_)
      · have hw := hT18 q
        refine g_aldn0 hE dX4_pairs_46 ?_
        refine g_ildn2 hE dX4_pairs_47 ?_
        refine g_ildn3 hE dX4_pairs_48 ?_
        refine gm_cVi hE hR hM hT (As := [aI x2_31, aI x3_41]) (t4_areBoth M hM z hw) (lw_V q2411 q2413 qs70 q108 q2414) hd_X4_areBoth ⟨by decide, by decide⟩ rfl (Nat.le_of_ble_eq_true rfl) dX4_pairs_49 rfl (fun r5 hw => ?_)
        refine jn2_walk (fun (x1_81 : Int) (A_81 : mA) => G E (wsM M F1 A_81) (some z) 0 0 81 [some (aR (some (oM M))), some (aI x1_81), some (aI x2_31), some (aI x3_41)] []) hw (fun x1_81 A_81 hw => ?_) (fun j_81 hj_81 hw => ?_)
        · skip
          refine g_iinc3 hE dX4_pairs_81 (by decide) rfl ?_
          refine g_goto hE (tgt := 41) dX4_pairs_84 (by decide) ?_
          exact hk_41 _ _ _ hw
        · skip
          obtain ⟨h12, h13, hT14, hN15⟩ := hw
          refine g_if_eq hE (tgt := 58) dX4_pairs_52 (by decide) h12 (fun q => ?_) (fun q => ?_)
          · have hw := hT14 q
            refine g_iinc1 hE dX4_pairs_58 (by decide) rfl ?_
            refine g_aldn0 hE dX4_pairs_61 ?_
            refine gm_geta hE hM hT 10 (by decide) rfl q2150 dX4_pairs_62 ?_
            refine g_ildn2 hE dX4_pairs_65 ?_
            refine g_dup2 hE dX4_pairs_66 rfl rfl ?_
            obtain ⟨h6, hw⟩ := hw
            refine gm_iald hE hM hT 10 rfl h6 dX4_pairs_67 ?_
            refine g_iconst hE dX4_pairs_68 ?_
            refine g_iadd hE dX4_pairs_69 ?_
            obtain ⟨h8, hw⟩ := hw
            refine gm_iast hE hM hT 10 rfl h8 dX4_pairs_70 ?_
            have hw := hw _ rfl
            generalize uA A_41 10 x2_31 ((A_41 10 x2_31) + 1) = A7 at hw ⊢
            refine g_aldn0 hE dX4_pairs_71 ?_
            refine gm_geta hE hM hT 10 (by decide) rfl q2150 dX4_pairs_72 ?_
            refine g_ildn3 hE dX4_pairs_75 ?_
            refine g_dup2 hE dX4_pairs_76 rfl rfl ?_
            obtain ⟨h9, hw⟩ := hw
            refine gm_iald hE hM hT 10 rfl h9 dX4_pairs_77 ?_
            refine g_iconst hE dX4_pairs_78 ?_
            refine g_iadd hE dX4_pairs_79 ?_
            obtain ⟨h11, hw⟩ := hw
            refine gm_iast hE hM hT 10 rfl h11 dX4_pairs_80 ?_
            have hw := hw _ rfl
            generalize uA A7 10 x3_41 ((A7 10 x3_41) + 1) = A10 at hw ⊢
            exact hj_81 _ _ hw
          · have hw := hN15 q
            refine g_goto hE (tgt := 81) dX4_pairs_55 (by decide) ?_
            exact hj_81 _ _ hw
      · have hw := hN19 q
        refine g_iinc2 hE dX4_pairs_87 (by decide) rfl ?_
        refine g_goto hE (tgt := 31) dX4_pairs_90 (by decide) ?_
        refine g_kl3 ?_
        exact hk_31 _ _ _ hw
    · have hw := hN23 q
      refine g_ildn1 hE dX4_pairs_93 ?_
      exact g_iret hE hR dX4_pairs_94 (Nat.le_refl 0) (Nat.le_refl 0) rfl ⟨_, _, _, rfl, rfl, rfl, hw⟩

/-- conflicts()I -/
def w4_conflicts  (F : mF) (A : mA) (Q : Int → mF → mA → Prop) : Prop :=
  w4_pairs  F A (fun (r1 : Int) (F2 : mF) (A3 : mA) =>
  Q r1 F2 A3)
theorem hd_X4_conflicts : yX4_conflicts.cls = RX4 ∧ yX4_conflicts.cls ≠ "java/lang/invoke/MethodHandle" ∧ yX4_conflicts.cls ≠ "java/lang/invoke/VarHandle" ∧ (parseMethodDescriptor yX4_conflicts.desc).map (fun d => d.parameters.length) = some 0 := by decide +kernel
set_option maxHeartbeats 4000000 in
theorem t4_conflicts (M : MT) (hM : OkM M) (z : Nat)  {F : mF} {A : mA} {Q : Int → mF → mA → Prop} (hw : w4_conflicts F A Q) : CtM M z yX4_conflicts cX4_conflicts 1 (some .int) (k2_rm 5 114) [aR (some (oM M))] F A (PMiFA M z Q) := by
  refine Ct.intro (by decide) (Nat.le_of_ble_eq_true rfl) (fun E hE hR hT => ?_)
  have hT : TM E M := hT
  have hE : OkE E RX4 cX4_conflicts 1 (some .int) := hE
  show G E (wsM M F A) (some z) 0 0 0 [some (aR (some (oM M)))] []
  unfold w4_conflicts at hw
  refine g_aldn0 hE dX4_conflicts_0 ?_
  refine gm_cViFA hE hR hM hT (As := []) (t4_pairs M hM z hw) (lw_V q2431 q2433 qs72 q108 q2434) hd_X4_pairs ⟨by decide, by decide⟩ rfl (Nat.le_of_ble_eq_true rfl) dX4_conflicts_1 rfl (fun r1 F2 A3 hw => ?_)
  exact g_iret hE hR dX4_conflicts_4 (Nat.le_refl 0) (Nat.le_refl 0) rfl ⟨_, _, _, rfl, rfl, rfl, hw⟩

/-- worst()I -/
def w4_worst  (F : mF) (A : mA) (Q : Int → mF → mA → Prop) : Prop :=
  w4_pairs  F A (fun (r1 : Int) (F2 : mF) (A3 : mA) =>
  cEq r1 0
    (
    Q ((-5)) F2 A3)
    (
    lq2 (fun (x1_14 : Int) (x2_14 : Int) (k_14 : Int → Int → Prop) =>
      cLt x2_14 (F2 14)
        (
        ib x2_14 30 ∧
        ib x1_14 30 ∧
        jn1 (fun (y0_42 : Int) => 
            k_14 y0_42 (x2_14 + 1))
          (fun (j_42 : Int → Prop) =>
          cLt (A3 10 x1_14) (A3 10 x2_14)
            (
            j_42 x2_14)
            (
            j_42 x1_14)))
        (
        Q x1_14 F2 A3)) 0 1))
theorem hd_X4_worst : yX4_worst.cls = RX4 ∧ yX4_worst.cls ≠ "java/lang/invoke/MethodHandle" ∧ yX4_worst.cls ≠ "java/lang/invoke/VarHandle" ∧ (parseMethodDescriptor yX4_worst.desc).map (fun d => d.parameters.length) = some 0 := by decide +kernel
set_option maxHeartbeats 4000000 in
theorem t4_worst (M : MT) (hM : OkM M) (z : Nat)  {F : mF} {A : mA} {Q : Int → mF → mA → Prop} (hw : w4_worst F A Q) : CtM M z yX4_worst cX4_worst 3 (some .int) (k2_rm 5 114) [aR (some (oM M))] F A (PMiFA M z Q) := by
  refine Ct.intro (by decide) (Nat.le_of_ble_eq_true rfl) (fun E hE hR hT => ?_)
  have hT : TM E M := hT
  have hE : OkE E RX4 cX4_worst 3 (some .int) := hE
  show G E (wsM M F A) (some z) 0 0 0 [some (aR (some (oM M))), none, none] []
  unfold w4_worst at hw
  refine g_aldn0 hE dX4_worst_0 ?_
  refine gm_cViFA hE hR hM hT (As := []) (t4_pairs M hM z hw) (lw_V q2431 q2433 qs72 q108 q2434) hd_X4_pairs ⟨by decide, by decide⟩ rfl (Nat.le_of_ble_eq_true rfl) dX4_worst_1 rfl (fun r1 F2 A3 hw => ?_)
  obtain ⟨h14, h15, hT16, hN17⟩ := hw
  refine g_if_ne hE (tgt := 10) dX4_worst_4 (by decide) h14 (fun q => ?_) (fun q => ?_)
  · have hw := hT16 q
    refine g_bipush hE dX4_worst_7 (by decide) ?_
    exact g_iret hE hR dX4_worst_9 (Nat.le_refl 0) (Nat.le_refl 0) rfl ⟨_, _, _, rfl, rfl, rfl, hw⟩
  · have hw := hN17 q
    refine g_iconst hE dX4_worst_10 ?_
    refine g_istn1 hE dX4_worst_11 (by decide) rfl ?_
    refine g_iconst hE dX4_worst_12 ?_
    refine g_istn2 hE dX4_worst_13 (by decide) rfl ?_
    refine lq2_walk (fun (x1_14 : Int) (x2_14 : Int) => G E (wsM M F2 A3) (some z) 0 0 14 [some (aR (some (oM M))), some (aI x1_14), some (aI x2_14)] []) (fun k_14 hk_14 x1_14 x2_14 hw => ?_) _ _ hw
    refine g_ildn2 hE dX4_worst_14 ?_
    refine g_aldn0 hE dX4_worst_15 ?_
    refine gm_geti hE hM hT 14 (by decide) rfl q2154 dX4_worst_16 ?_
    obtain ⟨h10, h11, hT12, hN13⟩ := hw
    refine g_icmp_ge hE (tgt := 49) dX4_worst_19 (by decide) h10 h11 (fun q => ?_) (fun q => ?_)
    · have hw := hT12 q
      refine g_aldn0 hE dX4_worst_22 ?_
      refine gm_geta hE hM hT 10 (by decide) rfl q2150 dX4_worst_23 ?_
      refine g_ildn2 hE dX4_worst_26 ?_
      obtain ⟨h4, hw⟩ := hw
      refine gm_iald hE hM hT 10 rfl h4 dX4_worst_27 ?_
      refine g_aldn0 hE dX4_worst_28 ?_
      refine gm_geta hE hM hT 10 (by decide) rfl q2150 dX4_worst_29 ?_
      refine g_ildn1 hE dX4_worst_32 ?_
      obtain ⟨h5, hw⟩ := hw
      refine gm_iald hE hM hT 10 rfl h5 dX4_worst_33 ?_
      refine jn1_walk (fun (y0_42 : Int) => G E (wsM M F2 A3) (some z) 0 0 42 [some (aR (some (oM M))), some (aI x1_14), some (aI x2_14)] [aI y0_42]) hw (fun y0_42 hw => ?_) (fun j_42 hj_42 hw => ?_)
      · skip
        refine g_istn1 hE dX4_worst_42 (by decide) rfl ?_
        refine g_iinc2 hE dX4_worst_43 (by decide) rfl ?_
        refine g_goto hE (tgt := 14) dX4_worst_46 (by decide) ?_
        exact hk_14 _ _ hw
      · skip
        obtain ⟨h6, h7, hT8, hN9⟩ := hw
        refine g_icmp_le hE (tgt := 41) dX4_worst_34 (by decide) h7 h6 (fun q => ?_) (fun q => ?_)
        · have hw := hT8 q
          refine g_ildn2 hE dX4_worst_37 ?_
          refine g_goto hE (tgt := 42) dX4_worst_38 (by decide) ?_
          exact hj_42 _ hw
        · have hw := hN9 q
          refine g_ildn1 hE dX4_worst_41 ?_
          exact hj_42 _ hw
    · have hw := hN13 q
      refine g_ildn1 hE dX4_worst_49 ?_
      exact g_iret hE hR dX4_worst_50 (Nat.le_refl 0) (Nat.le_refl 0) rfl ⟨_, _, _, rfl, rfl, rfl, hw⟩

/-- crossings()I -/
def w4_crossings  (F : mF) (A : mA) (Q : Int → mF → mA → Prop) : Prop :=
  w4_crossed  F A (fun (r1 : Int) (F2 : mF) (A3 : mA) =>
  Q r1 F2 A3)
theorem hd_X4_crossings : yX4_crossings.cls = RX4 ∧ yX4_crossings.cls ≠ "java/lang/invoke/MethodHandle" ∧ yX4_crossings.cls ≠ "java/lang/invoke/VarHandle" ∧ (parseMethodDescriptor yX4_crossings.desc).map (fun d => d.parameters.length) = some 0 := by decide +kernel
set_option maxHeartbeats 4000000 in
theorem t4_crossings (M : MT) (hM : OkM M) (z : Nat)  {F : mF} {A : mA} {Q : Int → mF → mA → Prop} (hw : w4_crossings F A Q) : CtM M z yX4_crossings cX4_crossings 1 (some .int) (k2_rm 4 90) [aR (some (oM M))] F A (PMiFA M z Q) := by
  refine Ct.intro (by decide) (Nat.le_of_ble_eq_true rfl) (fun E hE hR hT => ?_)
  have hT : TM E M := hT
  have hE : OkE E RX4 cX4_crossings 1 (some .int) := hE
  show G E (wsM M F A) (some z) 0 0 0 [some (aR (some (oM M)))] []
  unfold w4_crossings at hw
  refine g_aldn0 hE dX4_crossings_0 ?_
  refine gm_cViFA hE hR hM hT (As := []) (t4_crossed M hM z hw) (lw_V q2339 q2341 qs59 q108 q2342) hd_X4_crossed ⟨by decide, by decide⟩ rfl (Nat.le_of_ble_eq_true rfl) dX4_crossings_1 rfl (fun r1 F2 A3 hw => ?_)
  exact g_iret hE hR dX4_crossings_4 (Nat.le_refl 0) (Nat.le_refl 0) rfl ⟨_, _, _, rfl, rfl, rfl, hw⟩

/-- crossingsAgain()I -/
def w4_crossingsAgain  (F : mF) (A : mA) (Q : Int → mF → mA → Prop) : Prop :=
  w4_crossed  F A (fun (r1 : Int) (F2 : mF) (A3 : mA) =>
  Q r1 F2 A3)
theorem hd_X4_crossingsAgain : yX4_crossingsAgain.cls = RX4 ∧ yX4_crossingsAgain.cls ≠ "java/lang/invoke/MethodHandle" ∧ yX4_crossingsAgain.cls ≠ "java/lang/invoke/VarHandle" ∧ (parseMethodDescriptor yX4_crossingsAgain.desc).map (fun d => d.parameters.length) = some 0 := by decide +kernel
set_option maxHeartbeats 4000000 in
theorem t4_crossingsAgain (M : MT) (hM : OkM M) (z : Nat)  {F : mF} {A : mA} {Q : Int → mF → mA → Prop} (hw : w4_crossingsAgain F A Q) : CtM M z yX4_crossingsAgain cX4_crossingsAgain 1 (some .int) (k2_rm 4 90) [aR (some (oM M))] F A (PMiFA M z Q) := by
  refine Ct.intro (by decide) (Nat.le_of_ble_eq_true rfl) (fun E hE hR hT => ?_)
  have hT : TM E M := hT
  have hE : OkE E RX4 cX4_crossingsAgain 1 (some .int) := hE
  show G E (wsM M F A) (some z) 0 0 0 [some (aR (some (oM M)))] []
  unfold w4_crossingsAgain at hw
  refine g_aldn0 hE dX4_crossingsAgain_0 ?_
  refine gm_cViFA hE hR hM hT (As := []) (t4_crossed M hM z hw) (lw_V q2339 q2341 qs59 q108 q2342) hd_X4_crossed ⟨by decide, by decide⟩ rfl (Nat.le_of_ble_eq_true rfl) dX4_crossingsAgain_1 rfl (fun r1 F2 A3 hw => ?_)
  exact g_iret hE hR dX4_crossingsAgain_4 (Nat.le_refl 0) (Nat.le_refl 0) rfl ⟨_, _, _, rfl, rfl, rfl, hw⟩

/-- track(I)I -/
def w4_track (x1 : Int) (F : mF) (A : mA) (Q : Int → mF → mA → Prop) : Prop :=
  inR x1 ∧
  cIf (0 ≤ x1 ∧ x1 ≤ 2)
    (
    w4_tracks  F A (fun (F3 : mF) (A4 : mA) =>
    lq2 (fun (x2_20 : Int) (x3_20 : Int) (k_20 : Int → Int → Prop) =>
      cLt x3_20 (F3 15)
        (
        ib (x3_20 - 1) 30 ∧
        ib x3_20 30 ∧
        ib ((30 * (A4 9 (x3_20 - 1))) + (A4 9 x3_20)) 900 ∧
        k_20 (x2_20 + (A4 6 ((30 * (A4 9 (x3_20 - 1))) + (A4 9 x3_20)))) (x3_20 + 1))
        (
        jn1 (fun (y0_84 : Int) => 
            Q y0_84 F3 A4)
          (fun (j_84 : Int → Prop) =>
          cEq x1 0
            (
            j_84 (F3 16))
            (
            cEq x1 1
              (
              j_84 (F3 15))
              (
              j_84 x2_20))))) 0 1))
    (
    Q ((-2)) F A)
theorem hd_X4_track : yX4_track.cls = RX4 ∧ yX4_track.cls ≠ "java/lang/invoke/MethodHandle" ∧ yX4_track.cls ≠ "java/lang/invoke/VarHandle" ∧ (parseMethodDescriptor yX4_track.desc).map (fun d => d.parameters.length) = some 1 := by decide +kernel
set_option maxHeartbeats 4000000 in
theorem t4_track (M : MT) (hM : OkM M) (z : Nat) {x1 : Int} {F : mF} {A : mA} {Q : Int → mF → mA → Prop} (hw : w4_track x1 F A Q) : CtM M z yX4_track cX4_track 4 (some .int) (k2_rm 5 114) [aR (some (oM M)), aI x1] F A (PMiFA M z Q) := by
  refine Ct.intro (by decide) (Nat.le_of_ble_eq_true rfl) (fun E hE hR hT => ?_)
  have hT : TM E M := hT
  have hE : OkE E RX4 cX4_track 4 (some .int) := hE
  show G E (wsM M F A) (some z) 0 0 0 [some (aR (some (oM M))), some (aI x1), none, none] []
  unfold w4_track at hw
  refine g_ildn1 hE dX4_track_0 ?_
  refine g_iconst hE dX4_track_1 ?_
  refine g_iconst hE dX4_track_2 ?_
  obtain ⟨h1, hw⟩ := hw
  refine gm_cSi hE hR hM hT (As := [aI x1, aI 0, aI 2]) (t4_isIn M hM z (s4_isIn h1 (by decide) (by decide))) (lw_S q2257 q2258 q108 q2259) hd_X4_isIn ⟨by decide, by decide⟩ rfl (Nat.le_of_ble_eq_true rfl) dX4_track_3 rfl (fun r2 hr2 => ?_)
  subst hr2
  refine g_if_ne hE (tgt := 12) dX4_track_6 (by decide) bI_in (fun q => ?_) (fun q => ?_)
  · have hw := hw.2 (bI_eq0.mp q)
    refine g_bipush hE dX4_track_9 (by decide) ?_
    exact g_iret hE hR dX4_track_11 (Nat.le_refl 0) (Nat.le_refl 0) rfl ⟨_, _, _, rfl, rfl, rfl, hw⟩
  · have hw := hw.1 (bI_ne0.mp q)
    refine g_aldn0 hE dX4_track_12 ?_
    refine gm_cVvFA hE hR hM hT (As := []) (t4_tracks M hM z hw) (lw_V q2403 q2405 qs68 q108 q2406) hd_X4_tracks ⟨by decide, by decide⟩ rfl (Nat.le_of_ble_eq_true rfl) dX4_track_13 rfl (fun F3 A4 hw => ?_)
    refine g_iconst hE dX4_track_16 ?_
    refine g_istn2 hE dX4_track_17 (by decide) rfl ?_
    refine g_iconst hE dX4_track_18 ?_
    refine g_istn3 hE dX4_track_19 (by decide) rfl ?_
    refine lq2_walk (fun (x2_20 : Int) (x3_20 : Int) => G E (wsM M F3 A4) (some z) 0 0 20 [some (aR (some (oM M))), some (aI x1), some (aI x2_20), some (aI x3_20)] []) (fun k_20 hk_20 x2_20 x3_20 hw => ?_) _ _ hw
    refine g_ildn3 hE dX4_track_20 ?_
    refine g_aldn0 hE dX4_track_21 ?_
    refine gm_geti hE hM hT 15 (by decide) rfl q2155 dX4_track_22 ?_
    obtain ⟨h16, h17, hT18, hN19⟩ := hw
    refine g_icmp_ge hE (tgt := 60) dX4_track_25 (by decide) h16 h17 (fun q => ?_) (fun q => ?_)
    · have hw := hT18 q
      refine g_ildn2 hE dX4_track_28 ?_
      refine g_aldn0 hE dX4_track_29 ?_
      refine gm_geta hE hM hT 6 (by decide) rfl q2146 dX4_track_30 ?_
      refine g_bipush hE dX4_track_33 (by decide) ?_
      refine g_aldn0 hE dX4_track_35 ?_
      refine gm_geta hE hM hT 9 (by decide) rfl q2149 dX4_track_36 ?_
      refine g_ildn3 hE dX4_track_39 ?_
      refine g_iconst hE dX4_track_40 ?_
      refine g_isub hE dX4_track_41 ?_
      obtain ⟨h5, hw⟩ := hw
      refine gm_iald hE hM hT 9 rfl h5 dX4_track_42 ?_
      refine g_imul hE dX4_track_43 ?_
      refine g_aldn0 hE dX4_track_44 ?_
      refine gm_geta hE hM hT 9 (by decide) rfl q2149 dX4_track_45 ?_
      refine g_ildn3 hE dX4_track_48 ?_
      obtain ⟨h6, hw⟩ := hw
      refine gm_iald hE hM hT 9 rfl h6 dX4_track_49 ?_
      refine g_iadd hE dX4_track_50 ?_
      obtain ⟨h7, hw⟩ := hw
      refine gm_iald hE hM hT 6 rfl h7 dX4_track_51 ?_
      refine g_iadd hE dX4_track_52 ?_
      refine g_istn2 hE dX4_track_53 (by decide) rfl ?_
      refine g_iinc3 hE dX4_track_54 (by decide) rfl ?_
      refine g_goto hE (tgt := 20) dX4_track_57 (by decide) ?_
      exact hk_20 _ _ hw
    · have hw := hN19 q
      refine g_ildn1 hE dX4_track_60 ?_
      refine jn1_walk (fun (y0_84 : Int) => G E (wsM M F3 A4) (some z) 0 0 84 [some (aR (some (oM M))), some (aI x1), some (aI x2_20), some (aI x3_20)] [aI y0_84]) hw (fun y0_84 hw => ?_) (fun j_84 hj_84 hw => ?_)
      · skip
        exact g_iret hE hR dX4_track_84 (Nat.le_refl 0) (Nat.le_refl 0) rfl ⟨_, _, _, rfl, rfl, rfl, hw⟩
      · skip
        obtain ⟨h12, h13, hT14, hN15⟩ := hw
        refine g_if_ne hE (tgt := 71) dX4_track_61 (by decide) h12 (fun q => ?_) (fun q => ?_)
        · have hw := hT14 q
          refine g_aldn0 hE dX4_track_64 ?_
          refine gm_geti hE hM hT 16 (by decide) rfl q2156 dX4_track_65 ?_
          refine g_goto hE (tgt := 84) dX4_track_68 (by decide) ?_
          exact hj_84 _ hw
        · have hw := hN15 q
          refine g_ildn1 hE dX4_track_71 ?_
          refine g_iconst hE dX4_track_72 ?_
          obtain ⟨h8, h9, hT10, hN11⟩ := hw
          refine g_icmp_ne hE (tgt := 83) dX4_track_73 (by decide) h8 h9 (fun q => ?_) (fun q => ?_)
          · have hw := hT10 q
            refine g_aldn0 hE dX4_track_76 ?_
            refine gm_geti hE hM hT 15 (by decide) rfl q2155 dX4_track_77 ?_
            refine g_goto hE (tgt := 84) dX4_track_80 (by decide) ?_
            exact hj_84 _ hw
          · have hw := hN11 q
            refine g_ildn2 hE dX4_track_83 ?_
            exact hj_84 _ hw

/-- trackAt(I)I -/
def w4_trackAt (x1 : Int) (F : mF) (A : mA) (Q : Int → mF → mA → Prop) : Prop :=
  w4_tracks  F A (fun (F1 : mF) (A2 : mA) =>
  inR x1 ∧ inR ((F1 15) - 1) ∧
  jn1 (fun (y0_28 : Int) => 
      Q y0_28 F1 A2)
    (fun (j_28 : Int → Prop) =>
    cIf (0 ≤ x1 ∧ x1 ≤ ((F1 15) - 1))
      (
      ib x1 30 ∧
      j_28 (A2 9 x1))
      (
      j_28 ((-1)))))
theorem hd_X4_trackAt : yX4_trackAt.cls = RX4 ∧ yX4_trackAt.cls ≠ "java/lang/invoke/MethodHandle" ∧ yX4_trackAt.cls ≠ "java/lang/invoke/VarHandle" ∧ (parseMethodDescriptor yX4_trackAt.desc).map (fun d => d.parameters.length) = some 1 := by decide +kernel
set_option maxHeartbeats 4000000 in
theorem t4_trackAt (M : MT) (hM : OkM M) (z : Nat) {x1 : Int} {F : mF} {A : mA} {Q : Int → mF → mA → Prop} (hw : w4_trackAt x1 F A Q) : CtM M z yX4_trackAt cX4_trackAt 2 (some .int) (k2_rm 5 114) [aR (some (oM M)), aI x1] F A (PMiFA M z Q) := by
  refine Ct.intro (by decide) (Nat.le_of_ble_eq_true rfl) (fun E hE hR hT => ?_)
  have hT : TM E M := hT
  have hE : OkE E RX4 cX4_trackAt 2 (some .int) := hE
  show G E (wsM M F A) (some z) 0 0 0 [some (aR (some (oM M))), some (aI x1)] []
  unfold w4_trackAt at hw
  refine g_aldn0 hE dX4_trackAt_0 ?_
  refine gm_cVvFA hE hR hM hT (As := []) (t4_tracks M hM z hw) (lw_V q2403 q2405 qs68 q108 q2406) hd_X4_tracks ⟨by decide, by decide⟩ rfl (Nat.le_of_ble_eq_true rfl) dX4_trackAt_1 rfl (fun F1 A2 hw => ?_)
  refine g_ildn1 hE dX4_trackAt_4 ?_
  refine g_iconst hE dX4_trackAt_5 ?_
  refine g_aldn0 hE dX4_trackAt_6 ?_
  refine gm_geti hE hM hT 15 (by decide) rfl q2155 dX4_trackAt_7 ?_
  refine g_iconst hE dX4_trackAt_10 ?_
  refine g_isub hE dX4_trackAt_11 ?_
  obtain ⟨h3, hw⟩ := hw
  obtain ⟨h4, hw⟩ := hw
  refine gm_cSi hE hR hM hT (As := [aI x1, aI 0, aI ((F1 15) - 1)]) (t4_isIn M hM z (s4_isIn h3 (by decide) h4)) (lw_S q2257 q2258 q108 q2259) hd_X4_isIn ⟨by decide, by decide⟩ rfl (Nat.le_of_ble_eq_true rfl) dX4_trackAt_12 rfl (fun r5 hr5 => ?_)
  subst hr5
  refine jn1_walk (fun (y0_28 : Int) => G E (wsM M F1 A2) (some z) 0 0 28 [some (aR (some (oM M))), some (aI x1)] [aI y0_28]) hw (fun y0_28 hw => ?_) (fun j_28 hj_28 hw => ?_)
  · skip
    exact g_iret hE hR dX4_trackAt_28 (Nat.le_refl 0) (Nat.le_refl 0) rfl ⟨_, _, _, rfl, rfl, rfl, hw⟩
  · skip
    refine g_if_eq hE (tgt := 27) dX4_trackAt_15 (by decide) bI_in (fun q => ?_) (fun q => ?_)
    · have hw := hw.2 (bI_eq0.mp q)
      refine g_iconst hE dX4_trackAt_27 ?_
      exact hj_28 _ hw
    · have hw := hw.1 (bI_ne0.mp q)
      refine g_aldn0 hE dX4_trackAt_18 ?_
      refine gm_geta hE hM hT 9 (by decide) rfl q2149 dX4_trackAt_19 ?_
      refine g_ildn1 hE dX4_trackAt_22 ?_
      obtain ⟨h6, hw⟩ := hw
      refine gm_iald hE hM hT 9 rfl h6 dX4_trackAt_23 ?_
      refine g_goto hE (tgt := 28) dX4_trackAt_24 (by decide) ?_
      exact hj_28 _ hw

/-- weightAgain()I -/
def w4_weightAgain  (F : mF) (A : mA) (Q : Int → mF → mA → Prop) : Prop :=
  w4_tracks  F A (fun (F1 : mF) (A2 : mA) =>
  jn1 (fun (y0_22 : Int) => 
      Q y0_22 F1 A2)
    (fun (j_22 : Int → Prop) =>
    cLt 10 (F1 14)
      (
      j_22 ((-3)))
      (
      j_22 (F1 16))))
theorem hd_X4_weightAgain : yX4_weightAgain.cls = RX4 ∧ yX4_weightAgain.cls ≠ "java/lang/invoke/MethodHandle" ∧ yX4_weightAgain.cls ≠ "java/lang/invoke/VarHandle" ∧ (parseMethodDescriptor yX4_weightAgain.desc).map (fun d => d.parameters.length) = some 0 := by decide +kernel
set_option maxHeartbeats 4000000 in
theorem t4_weightAgain (M : MT) (hM : OkM M) (z : Nat)  {F : mF} {A : mA} {Q : Int → mF → mA → Prop} (hw : w4_weightAgain F A Q) : CtM M z yX4_weightAgain cX4_weightAgain 1 (some .int) (k2_rm 5 114) [aR (some (oM M))] F A (PMiFA M z Q) := by
  refine Ct.intro (by decide) (Nat.le_of_ble_eq_true rfl) (fun E hE hR hT => ?_)
  have hT : TM E M := hT
  have hE : OkE E RX4 cX4_weightAgain 1 (some .int) := hE
  show G E (wsM M F A) (some z) 0 0 0 [some (aR (some (oM M)))] []
  unfold w4_weightAgain at hw
  refine g_aldn0 hE dX4_weightAgain_0 ?_
  refine gm_cVvFA hE hR hM hT (As := []) (t4_tracks M hM z hw) (lw_V q2403 q2405 qs68 q108 q2406) hd_X4_tracks ⟨by decide, by decide⟩ rfl (Nat.le_of_ble_eq_true rfl) dX4_weightAgain_1 rfl (fun F1 A2 hw => ?_)
  refine g_aldn0 hE dX4_weightAgain_4 ?_
  refine gm_geti hE hM hT 14 (by decide) rfl q2154 dX4_weightAgain_5 ?_
  refine g_bipush hE dX4_weightAgain_8 (by decide) ?_
  refine jn1_walk (fun (y0_22 : Int) => G E (wsM M F1 A2) (some z) 0 0 22 [some (aR (some (oM M)))] [aI y0_22]) hw (fun y0_22 hw => ?_) (fun j_22 hj_22 hw => ?_)
  · skip
    exact g_iret hE hR dX4_weightAgain_22 (Nat.le_refl 0) (Nat.le_refl 0) rfl ⟨_, _, _, rfl, rfl, rfl, hw⟩
  · skip
    obtain ⟨h3, h4, hT5, hN6⟩ := hw
    refine g_icmp_le hE (tgt := 18) dX4_weightAgain_10 (by decide) h4 h3 (fun q => ?_) (fun q => ?_)
    · have hw := hT5 q
      refine g_bipush hE dX4_weightAgain_13 (by decide) ?_
      refine g_goto hE (tgt := 22) dX4_weightAgain_15 (by decide) ?_
      exact hj_22 _ hw
    · have hw := hN6 q
      refine g_aldn0 hE dX4_weightAgain_18 ?_
      refine gm_geti hE hM hT 16 (by decide) rfl q2156 dX4_weightAgain_19 ?_
      exact hj_22 _ hw

/-- reaches([III)V -/
def w4_reaches (x1 : Nat) (x2 : Int) (x3 : Int) (F : mF) (A : mA) (Q : mA → Prop) : Prop :=
  jn2 (fun (x4_51 : Int) (A_51 : mA) => 
      lq2 (fun (x5_54 : Int) (A_54 : mA) (k_54 : Int → mA → Prop) =>
        cLt x5_54 192
          (
          ib (12 + x5_54) 354 ∧
          jn1 (fun (y2_112 : Int) => 
              ib x5_54 (mlen x1) ∧ ∀ A2 : mA, A2 = uA A_54 x1 x5_54 y2_112 →
              k_54 (x5_54 + 1) A2)
            (fun (j_112 : Int → Prop) =>
            jn0 (
                j_112 0)
              (fun (j_111 : Prop) =>
              cEq (A_54 0 (12 + x5_54)) 0
                (
                jn0 (
                    j_112 1)
                  (fun (j_107 : Prop) =>
                  cLt x2 0
                    (
                    j_107)
                    (
                    ib x5_54 192 ∧
                    cLt (A_54 11 x5_54) 9999
                      (
                      ib x5_54 192 ∧
                      cLt x4_51 (A_54 11 x5_54)
                        (
                        j_111)
                        (
                        j_107))
                      (
                      j_111))))
                (
                j_111))))
          (
          Q A_54)) 0 A_51)
    (fun (j_51 : Int → mA → Prop) =>
    cLt x2 0
      (
      j_51 9999 A)
      (
      w4_told x2 0 F A (fun (r26 : Int) =>
      jn1 (fun (y1_38 : Int) => 
          w4_told x2 1 F A (fun (r27 : Int) =>
          w4_goes r27 F A (fun (A28 : mA) =>
          j_51 ((A 0 0) * y1_38) A28)))
        (fun (j_38 : Int → Prop) =>
        cLt (r26 - x3) 0
          (
          j_38 (-(r26 - x3)))
          (
          j_38 (r26 - x3))))))
theorem hd_X4_reaches : yX4_reaches.cls = RX4 ∧ yX4_reaches.cls ≠ "java/lang/invoke/MethodHandle" ∧ yX4_reaches.cls ≠ "java/lang/invoke/VarHandle" ∧ (parseMethodDescriptor yX4_reaches.desc).map (fun d => d.parameters.length) = some 3 := by decide +kernel
set_option maxHeartbeats 4000000 in
theorem t4_reaches (M : MT) (hM : OkM M) (z : Nat) {x1 : Nat} {x2 : Int} {x3 : Int} {F : mF} {A : mA} {Q : mA → Prop} (hx1 : mIs x1 = true) (hw : w4_reaches x1 x2 x3 F A Q) : CtM M z yX4_reaches cX4_reaches 6 none (k2_rm 3 69) [aR (some (oM M)), aR (some (adM M x1)), aI x2, aI x3] F A (PMvA M z F Q) := by
  refine Ct.intro (by decide) (Nat.le_of_ble_eq_true rfl) (fun E hE hR hT => ?_)
  have hT : TM E M := hT
  have hE : OkE E RX4 cX4_reaches 6 none := hE
  show G E (wsM M F A) (some z) 0 0 0 [some (aR (some (oM M))), some (aR (some (adM M x1))), some (aI x2), some (aI x3), none, none] []
  unfold w4_reaches at hw
  refine g_sipush hE dX4_reaches_0 (by decide) ?_
  refine g_ist4 hE dX4_reaches_3 (by decide) rfl ?_
  refine g_ildn2 hE dX4_reaches_5 ?_
  refine jn2_walk (fun (x4_51 : Int) (A_51 : mA) => G E (wsM M F A_51) (some z) 0 0 51 [some (aR (some (oM M))), some (aR (some (adM M x1))), some (aI x2), some (aI x3), some (aI x4_51), none] []) hw (fun x4_51 A_51 hw => ?_) (fun j_51 hj_51 hw => ?_)
  · skip
    refine g_iconst hE dX4_reaches_51 ?_
    refine g_ist5 hE dX4_reaches_52 (by decide) rfl ?_
    refine lq2_walk (fun (x5_54 : Int) (A_54 : mA) => G E (wsM M F A_54) (some z) 0 0 54 [some (aR (some (oM M))), some (aR (some (adM M x1))), some (aI x2), some (aI x3), some (aI x4_51), some (aI x5_54)] []) (fun k_54 hk_54 x5_54 A_54 hw => ?_) _ _ hw
    refine g_ild5 hE dX4_reaches_54 ?_
    refine g_sipush hE dX4_reaches_56 (by decide) ?_
    obtain ⟨h22, h23, hT24, hN25⟩ := hw
    refine g_icmp_ge hE (tgt := 119) dX4_reaches_59 (by decide) h22 h23 (fun q => ?_) (fun q => ?_)
    · have hw := hT24 q
      refine g_aldn1 hE dX4_reaches_62 ?_
      refine g_ild5 hE dX4_reaches_63 ?_
      refine g_aldn0 hE dX4_reaches_65 ?_
      refine gm_geta hE hM hT 0 (by decide) rfl q2140 dX4_reaches_66 ?_
      refine g_bipush hE dX4_reaches_69 (by decide) ?_
      refine g_ild5 hE dX4_reaches_71 ?_
      refine g_iadd hE dX4_reaches_73 ?_
      obtain ⟨h1, hw⟩ := hw
      refine gm_iald hE hM hT 0 rfl h1 dX4_reaches_74 ?_
      refine jn1_walk (fun (y2_112 : Int) => G E (wsM M F A_54) (some z) 0 0 112 [some (aR (some (oM M))), some (aR (some (adM M x1))), some (aI x2), some (aI x3), some (aI x4_51), some (aI x5_54)] [aI y2_112, aI x5_54, aR (some (adM M x1))]) hw (fun y2_112 hw => ?_) (fun j_112 hj_112 hw => ?_)
      · skip
        obtain ⟨h3, hw⟩ := hw
        refine gm_iast hE hM hT x1 hx1 h3 dX4_reaches_112 ?_
        have hw := hw _ rfl
        generalize uA A_54 x1 x5_54 y2_112 = A2 at hw ⊢
        refine g_iinc5 hE dX4_reaches_113 (by decide) rfl ?_
        refine g_goto hE (tgt := 54) dX4_reaches_116 (by decide) ?_
        exact hk_54 _ _ hw
      · skip
        refine jn0_walk (G E (wsM M F A_54) (some z) 0 0 111 [some (aR (some (oM M))), some (aR (some (adM M x1))), some (aI x2), some (aI x3), some (aI x4_51), some (aI x5_54)] [aI x5_54, aR (some (adM M x1))]) hw (fun  hw => ?_) (fun j_111 hj_111 hw => ?_)
        · skip
          refine g_iconst hE dX4_reaches_111 ?_
          exact hj_112 _ hw
        · skip
          obtain ⟨h18, h19, hT20, hN21⟩ := hw
          refine g_if_ne hE (tgt := 111) dX4_reaches_75 (by decide) h18 (fun q => ?_) (fun q => ?_)
          · have hw := hT20 q
            refine g_ildn2 hE dX4_reaches_78 ?_
            refine jn0_walk (G E (wsM M F A_54) (some z) 0 0 107 [some (aR (some (oM M))), some (aR (some (adM M x1))), some (aI x2), some (aI x3), some (aI x4_51), some (aI x5_54)] [aI x5_54, aR (some (adM M x1))]) hw (fun  hw => ?_) (fun j_107 hj_107 hw => ?_)
            · skip
              refine g_iconst hE dX4_reaches_107 ?_
              refine g_goto hE (tgt := 112) dX4_reaches_108 (by decide) ?_
              exact hj_112 _ hw
            · skip
              obtain ⟨h14, h15, hT16, hN17⟩ := hw
              refine g_if_lt hE (tgt := 107) dX4_reaches_79 (by decide) h14 (fun q => ?_) (fun q => ?_)
              · have hw := hT16 q
                exact hj_107  hw
              · have hw := hN17 q
                refine g_aldn0 hE dX4_reaches_82 ?_
                refine gm_geta hE hM hT 11 (by decide) rfl q2151 dX4_reaches_83 ?_
                refine g_ild5 hE dX4_reaches_86 ?_
                obtain ⟨h4, hw⟩ := hw
                refine gm_iald hE hM hT 11 rfl h4 dX4_reaches_88 ?_
                refine g_sipush hE dX4_reaches_89 (by decide) ?_
                obtain ⟨h10, h11, hT12, hN13⟩ := hw
                refine g_icmp_ge hE (tgt := 111) dX4_reaches_92 (by decide) h10 h11 (fun q => ?_) (fun q => ?_)
                · have hw := hT12 q
                  refine g_aldn0 hE dX4_reaches_95 ?_
                  refine gm_geta hE hM hT 11 (by decide) rfl q2151 dX4_reaches_96 ?_
                  refine g_ild5 hE dX4_reaches_99 ?_
                  obtain ⟨h5, hw⟩ := hw
                  refine gm_iald hE hM hT 11 rfl h5 dX4_reaches_101 ?_
                  refine g_ild4 hE dX4_reaches_102 ?_
                  obtain ⟨h6, h7, hT8, hN9⟩ := hw
                  refine g_icmp_gt hE (tgt := 111) dX4_reaches_104 (by decide) h7 h6 (fun q => ?_) (fun q => ?_)
                  · have hw := hT8 q
                    exact hj_111  hw
                  · have hw := hN9 q
                    exact hj_107  hw
                · have hw := hN13 q
                  exact hj_111  hw
          · have hw := hN21 q
            exact hj_111  hw
    · have hw := hN25 q
      exact g_vret hE hR dX4_reaches_119 (Nat.le_refl 0) (Nat.le_refl 0) ⟨_, rfl, rfl, rfl, hw⟩
  · skip
    obtain ⟨h33, h34, hT35, hN36⟩ := hw
    refine g_if_lt hE (tgt := 51) dX4_reaches_6 (by decide) h33 (fun q => ?_) (fun q => ?_)
    · have hw := hT35 q
      exact hj_51 _ _ hw
    · have hw := hN36 q
      refine g_aldn0 hE dX4_reaches_9 ?_
      refine g_ildn2 hE dX4_reaches_10 ?_
      refine g_iconst hE dX4_reaches_11 ?_
      refine gm_cVi hE hR hM hT (As := [aI x2, aI 0]) (t4_told M hM z hw) (lw_V q2274 q2276 qs49 q108 q2277) hd_X4_told ⟨by decide, by decide⟩ rfl (Nat.le_of_ble_eq_true rfl) dX4_reaches_12 rfl (fun r26 hw => ?_)
      refine g_ildn3 hE dX4_reaches_15 ?_
      refine g_isub hE dX4_reaches_16 ?_
      refine g_ist5 hE dX4_reaches_17 (by decide) rfl ?_
      refine g_aldn0 hE dX4_reaches_19 ?_
      refine gm_geta hE hM hT 0 (by decide) rfl q2140 dX4_reaches_20 ?_
      refine g_iconst hE dX4_reaches_23 ?_
      refine gm_iald hE hM hT 0 rfl (by decide) dX4_reaches_24 ?_
      refine g_ild5 hE dX4_reaches_25 ?_
      refine jn1_walk (fun (y1_38 : Int) => G E (wsM M F A) (some z) 0 0 38 [some (aR (some (oM M))), some (aR (some (adM M x1))), some (aI x2), some (aI x3), some (aI 9999), some (aI (r26 - x3))] [aI y1_38, aI (A 0 0)]) hw (fun y1_38 hw => ?_) (fun j_38 hj_38 hw => ?_)
      · skip
        refine g_imul hE dX4_reaches_38 ?_
        refine g_ist4 hE dX4_reaches_39 (by decide) rfl ?_
        refine g_aldn0 hE dX4_reaches_41 ?_
        refine g_aldn0 hE dX4_reaches_42 ?_
        refine g_ildn2 hE dX4_reaches_43 ?_
        refine g_iconst hE dX4_reaches_44 ?_
        refine gm_cVi hE hR hM hT (As := [aI x2, aI 1]) (t4_told M hM z hw) (lw_V q2274 q2276 qs49 q108 q2277) hd_X4_told ⟨by decide, by decide⟩ rfl (Nat.le_of_ble_eq_true rfl) dX4_reaches_45 rfl (fun r27 hw => ?_)
        refine gm_cVvA hE hR hM hT (As := [aI r27]) (t4_goes M hM z hw) (lw_V q2298 q2300 qs53 q108 q2301) hd_X4_goes ⟨by decide, by decide⟩ rfl (Nat.le_of_ble_eq_true rfl) dX4_reaches_48 rfl (fun A28 hw => ?_)
        refine g_kl5 ?_
        exact hj_51 _ _ hw
      · skip
        obtain ⟨h29, h30, hT31, hN32⟩ := hw
        refine g_if_ge hE (tgt := 36) dX4_reaches_27 (by decide) h29 (fun q => ?_) (fun q => ?_)
        · have hw := hT31 q
          refine g_ild5 hE dX4_reaches_30 ?_
          refine g_ineg hE dX4_reaches_32 ?_
          refine g_goto hE (tgt := 38) dX4_reaches_33 (by decide) ?_
          exact hj_38 _ hw
        · have hw := hN32 q
          refine g_ild5 hE dX4_reaches_36 ?_
          exact hj_38 _ hw

/-- charts(I)V -/
def w4_charts (x1 : Int) (F : mF) (A : mA) (Q : mF → mA → Prop) : Prop :=
  w4_tracks  F A (fun (F1 : mF) (A2 : mA) =>
  lq3 (fun (x2_11 : Int) (x3_11 : Int) (x4_11 : Int) (k_11 : Int → Int → Int → Prop) =>
    cLt x4_11 (F1 15)
      (
      ib x4_11 30 ∧
      w4_told (A2 9 x4_11) 0 F1 A2 (fun (r4 : Int) =>
      jn1 (fun (x2_44 : Int) => 
          jn1 (fun (x3_72 : Int) => 
              k_11 x2_44 x3_72 (x4_11 + 1))
            (fun (j_72 : Int → Prop) =>
            cLt x3_11 0
              (
              ib x4_11 30 ∧
              w4_told (A2 9 x4_11) 0 F1 A2 (fun (r6 : Int) =>
              cLt r6 x1
                (
                j_72 x3_11)
                (
                ib x4_11 30 ∧
                j_72 (A2 9 x4_11))))
              (
              j_72 x3_11)))
        (fun (j_44 : Int → Prop) =>
        cLt x1 r4
          (
          j_44 x2_11)
          (
          ib x4_11 30 ∧
          j_44 (A2 9 x4_11)))))
      (
      w4_reaches 21 x2_11 x1 F1 A2 (fun (A21 : mA) =>
      w4_reaches 22 x3_11 x1 F1 A21 (fun (A22 : mA) =>
      Q F1 A22)))) ((-1)) ((-1)) 0)
theorem hd_X4_charts : yX4_charts.cls = RX4 ∧ yX4_charts.cls ≠ "java/lang/invoke/MethodHandle" ∧ yX4_charts.cls ≠ "java/lang/invoke/VarHandle" ∧ (parseMethodDescriptor yX4_charts.desc).map (fun d => d.parameters.length) = some 1 := by decide +kernel
set_option maxHeartbeats 4000000 in
theorem t4_charts (M : MT) (hM : OkM M) (z : Nat) {x1 : Int} {F : mF} {A : mA} {Q : mF → mA → Prop} (hw : w4_charts x1 F A Q) : CtM M z yX4_charts cX4_charts 5 none (k2_rm 5 114) [aR (some (oM M)), aI x1] F A (PMvFA M z Q) := by
  refine Ct.intro (by decide) (Nat.le_of_ble_eq_true rfl) (fun E hE hR hT => ?_)
  have hT : TM E M := hT
  have hE : OkE E RX4 cX4_charts 5 none := hE
  show G E (wsM M F A) (some z) 0 0 0 [some (aR (some (oM M))), some (aI x1), none, none, none] []
  unfold w4_charts at hw
  refine g_aldn0 hE dX4_charts_0 ?_
  refine gm_cVvFA hE hR hM hT (As := []) (t4_tracks M hM z hw) (lw_V q2403 q2405 qs68 q108 q2406) hd_X4_tracks ⟨by decide, by decide⟩ rfl (Nat.le_of_ble_eq_true rfl) dX4_charts_1 rfl (fun F1 A2 hw => ?_)
  refine g_iconst hE dX4_charts_4 ?_
  refine g_istn2 hE dX4_charts_5 (by decide) rfl ?_
  refine g_iconst hE dX4_charts_6 ?_
  refine g_istn3 hE dX4_charts_7 (by decide) rfl ?_
  refine g_iconst hE dX4_charts_8 ?_
  refine g_ist4 hE dX4_charts_9 (by decide) rfl ?_
  refine lq3_walk (fun (x2_11 : Int) (x3_11 : Int) (x4_11 : Int) => G E (wsM M F1 A2) (some z) 0 0 11 [some (aR (some (oM M))), some (aI x1), some (aI x2_11), some (aI x3_11), some (aI x4_11)] []) (fun k_11 hk_11 x2_11 x3_11 x4_11 hw => ?_) _ _ _ hw
  refine g_ild4 hE dX4_charts_11 ?_
  refine g_aldn0 hE dX4_charts_13 ?_
  refine gm_geti hE hM hT 15 (by decide) rfl q2155 dX4_charts_14 ?_
  obtain ⟨h23, h24, hT25, hN26⟩ := hw
  refine g_icmp_ge hE (tgt := 78) dX4_charts_17 (by decide) h23 h24 (fun q => ?_) (fun q => ?_)
  · have hw := hT25 q
    refine g_aldn0 hE dX4_charts_20 ?_
    refine g_aldn0 hE dX4_charts_21 ?_
    refine gm_geta hE hM hT 9 (by decide) rfl q2149 dX4_charts_22 ?_
    refine g_ild4 hE dX4_charts_25 ?_
    obtain ⟨h3, hw⟩ := hw
    refine gm_iald hE hM hT 9 rfl h3 dX4_charts_27 ?_
    refine g_iconst hE dX4_charts_28 ?_
    refine gm_cVi hE hR hM hT (As := [aI (A2 9 x4_11), aI 0]) (t4_told M hM z hw) (lw_V q2274 q2276 qs49 q108 q2277) hd_X4_told ⟨by decide, by decide⟩ rfl (Nat.le_of_ble_eq_true rfl) dX4_charts_29 rfl (fun r4 hw => ?_)
    refine g_ildn1 hE dX4_charts_32 ?_
    refine jn1_walk (fun (x2_44 : Int) => G E (wsM M F1 A2) (some z) 0 0 44 [some (aR (some (oM M))), some (aI x1), some (aI x2_44), some (aI x3_11), some (aI x4_11)] []) hw (fun x2_44 hw => ?_) (fun j_44 hj_44 hw => ?_)
    · skip
      refine g_ildn3 hE dX4_charts_44 ?_
      refine jn1_walk (fun (x3_72 : Int) => G E (wsM M F1 A2) (some z) 0 0 72 [some (aR (some (oM M))), some (aI x1), some (aI x2_44), some (aI x3_72), some (aI x4_11)] []) hw (fun x3_72 hw => ?_) (fun j_72 hj_72 hw => ?_)
      · skip
        refine g_iinc4 hE dX4_charts_72 (by decide) rfl ?_
        refine g_goto hE (tgt := 11) dX4_charts_75 (by decide) ?_
        exact hk_11 _ _ _ hw
      · skip
        obtain ⟨h12, h13, hT14, hN15⟩ := hw
        refine g_if_ge hE (tgt := 72) dX4_charts_45 (by decide) h12 (fun q => ?_) (fun q => ?_)
        · have hw := hT14 q
          refine g_aldn0 hE dX4_charts_48 ?_
          refine g_aldn0 hE dX4_charts_49 ?_
          refine gm_geta hE hM hT 9 (by decide) rfl q2149 dX4_charts_50 ?_
          refine g_ild4 hE dX4_charts_53 ?_
          obtain ⟨h5, hw⟩ := hw
          refine gm_iald hE hM hT 9 rfl h5 dX4_charts_55 ?_
          refine g_iconst hE dX4_charts_56 ?_
          refine gm_cVi hE hR hM hT (As := [aI (A2 9 x4_11), aI 0]) (t4_told M hM z hw) (lw_V q2274 q2276 qs49 q108 q2277) hd_X4_told ⟨by decide, by decide⟩ rfl (Nat.le_of_ble_eq_true rfl) dX4_charts_57 rfl (fun r6 hw => ?_)
          refine g_ildn1 hE dX4_charts_60 ?_
          obtain ⟨h8, h9, hT10, hN11⟩ := hw
          refine g_icmp_lt hE (tgt := 72) dX4_charts_61 (by decide) h8 h9 (fun q => ?_) (fun q => ?_)
          · have hw := hT10 q
            exact hj_72 _ hw
          · have hw := hN11 q
            refine g_aldn0 hE dX4_charts_64 ?_
            refine gm_geta hE hM hT 9 (by decide) rfl q2149 dX4_charts_65 ?_
            refine g_ild4 hE dX4_charts_68 ?_
            obtain ⟨h7, hw⟩ := hw
            refine gm_iald hE hM hT 9 rfl h7 dX4_charts_70 ?_
            refine g_istn3 hE dX4_charts_71 (by decide) rfl ?_
            exact hj_72 _ hw
        · have hw := hN15 q
          exact hj_72 _ hw
    · skip
      obtain ⟨h17, h18, hT19, hN20⟩ := hw
      refine g_icmp_gt hE (tgt := 44) dX4_charts_33 (by decide) h18 h17 (fun q => ?_) (fun q => ?_)
      · have hw := hT19 q
        exact hj_44 _ hw
      · have hw := hN20 q
        refine g_aldn0 hE dX4_charts_36 ?_
        refine gm_geta hE hM hT 9 (by decide) rfl q2149 dX4_charts_37 ?_
        refine g_ild4 hE dX4_charts_40 ?_
        obtain ⟨h16, hw⟩ := hw
        refine gm_iald hE hM hT 9 rfl h16 dX4_charts_42 ?_
        refine g_istn2 hE dX4_charts_43 (by decide) rfl ?_
        exact hj_44 _ hw
  · have hw := hN26 q
    refine g_aldn0 hE dX4_charts_78 ?_
    refine g_aldn0 hE dX4_charts_79 ?_
    refine gm_geta hE hM hT 21 (by decide) rfl q2161 dX4_charts_80 ?_
    refine g_ildn2 hE dX4_charts_83 ?_
    refine g_ildn1 hE dX4_charts_84 ?_
    refine gm_cVvA hE hR hM hT (As := [aR (some (adM M 21)), aI x2_11, aI x1]) (t4_reaches M hM z rfl hw) (lw_V q2467 q2469 qs74 q108 q2470) hd_X4_reaches ⟨by decide, by decide⟩ rfl (Nat.le_of_ble_eq_true rfl) dX4_charts_85 rfl (fun A21 hw => ?_)
    refine g_aldn0 hE dX4_charts_88 ?_
    refine g_aldn0 hE dX4_charts_89 ?_
    refine gm_geta hE hM hT 22 (by decide) rfl q2162 dX4_charts_90 ?_
    refine g_ildn3 hE dX4_charts_93 ?_
    refine g_ildn1 hE dX4_charts_94 ?_
    refine gm_cVvA hE hR hM hT (As := [aR (some (adM M 22)), aI x3_11, aI x1]) (t4_reaches M hM z rfl hw) (lw_V q2467 q2469 qs74 q108 q2470) hd_X4_reaches ⟨by decide, by decide⟩ rfl (Nat.le_of_ble_eq_true rfl) dX4_charts_95 rfl (fun A22 hw => ?_)
    exact g_vret hE hR dX4_charts_98 (Nat.le_refl 0) (Nat.le_refl 0) ⟨_, _, rfl, rfl, rfl, hw⟩

/-- could(II)I -/
def w4_could (x1 : Int) (x2 : Int) (F : mF) (A : mA) (Q : Int → mF → mA → Prop) : Prop :=
  inR x2 ∧
  cIf (0 ≤ x2 ∧ x2 ≤ 191)
    (
    inR x1 ∧
    cIf (0 ≤ x1 ∧ x1 ≤ 999)
      (
      w4_charts x1 F A (fun (F5 : mF) (A6 : mA) =>
      ib x2 192 ∧
      ib x2 192 ∧
      Q ((A6 21 x2) * (A6 22 x2)) F5 A6))
      (
      Q ((-2)) F A))
    (
    Q ((-1)) F A)
theorem hd_X4_could : yX4_could.cls = RX4 ∧ yX4_could.cls ≠ "java/lang/invoke/MethodHandle" ∧ yX4_could.cls ≠ "java/lang/invoke/VarHandle" ∧ (parseMethodDescriptor yX4_could.desc).map (fun d => d.parameters.length) = some 2 := by decide +kernel
set_option maxHeartbeats 4000000 in
theorem t4_could (M : MT) (hM : OkM M) (z : Nat) {x1 : Int} {x2 : Int} {F : mF} {A : mA} {Q : Int → mF → mA → Prop} (hw : w4_could x1 x2 F A Q) : CtM M z yX4_could cX4_could 3 (some .int) (k2_rm 6 138) [aR (some (oM M)), aI x1, aI x2] F A (PMiFA M z Q) := by
  refine Ct.intro (by decide) (Nat.le_of_ble_eq_true rfl) (fun E hE hR hT => ?_)
  have hT : TM E M := hT
  have hE : OkE E RX4 cX4_could 3 (some .int) := hE
  show G E (wsM M F A) (some z) 0 0 0 [some (aR (some (oM M))), some (aI x1), some (aI x2)] []
  unfold w4_could at hw
  refine g_ildn2 hE dX4_could_0 ?_
  obtain ⟨h1, hw⟩ := hw
  refine gm_cSi hE hR hM hT (As := [aI x2]) (t4_isCell M hM z (s4_isCell h1)) (lw_S q2254 q2255 q108 q2256) hd_X4_isCell ⟨by decide, by decide⟩ rfl (Nat.le_of_ble_eq_true rfl) dX4_could_1 rfl (fun r2 hr2 => ?_)
  subst hr2
  refine g_if_ne hE (tgt := 9) dX4_could_4 (by decide) bI_in (fun q => ?_) (fun q => ?_)
  · have hw := hw.2 (bI_eq0.mp q)
    refine g_iconst hE dX4_could_7 ?_
    exact g_iret hE hR dX4_could_8 (Nat.le_refl 0) (Nat.le_refl 0) rfl ⟨_, _, _, rfl, rfl, rfl, hw⟩
  · have hw := hw.1 (bI_ne0.mp q)
    refine g_ildn1 hE dX4_could_9 ?_
    refine g_iconst hE dX4_could_10 ?_
    refine g_sipush hE dX4_could_11 (by decide) ?_
    obtain ⟨h3, hw⟩ := hw
    refine gm_cSi hE hR hM hT (As := [aI x1, aI 0, aI 999]) (t4_isIn M hM z (s4_isIn h3 (by decide) (by decide))) (lw_S q2257 q2258 q108 q2259) hd_X4_isIn ⟨by decide, by decide⟩ rfl (Nat.le_of_ble_eq_true rfl) dX4_could_14 rfl (fun r4 hr4 => ?_)
    subst hr4
    refine g_if_ne hE (tgt := 23) dX4_could_17 (by decide) bI_in (fun q => ?_) (fun q => ?_)
    · have hw := hw.2 (bI_eq0.mp q)
      refine g_bipush hE dX4_could_20 (by decide) ?_
      exact g_iret hE hR dX4_could_22 (Nat.le_refl 0) (Nat.le_refl 0) rfl ⟨_, _, _, rfl, rfl, rfl, hw⟩
    · have hw := hw.1 (bI_ne0.mp q)
      refine g_aldn0 hE dX4_could_23 ?_
      refine g_ildn1 hE dX4_could_24 ?_
      refine gm_cVvFA hE hR hM hT (As := [aI x1]) (t4_charts M hM z hw) (lw_V q2463 q2465 qs73 q108 q2466) hd_X4_charts ⟨by decide, by decide⟩ rfl (Nat.le_of_ble_eq_true rfl) dX4_could_25 rfl (fun F5 A6 hw => ?_)
      refine g_aldn0 hE dX4_could_28 ?_
      refine gm_geta hE hM hT 21 (by decide) rfl q2161 dX4_could_29 ?_
      refine g_ildn2 hE dX4_could_32 ?_
      obtain ⟨h7, hw⟩ := hw
      refine gm_iald hE hM hT 21 rfl h7 dX4_could_33 ?_
      refine g_aldn0 hE dX4_could_34 ?_
      refine gm_geta hE hM hT 22 (by decide) rfl q2162 dX4_could_35 ?_
      refine g_ildn2 hE dX4_could_38 ?_
      obtain ⟨h8, hw⟩ := hw
      refine gm_iald hE hM hT 22 rfl h8 dX4_could_39 ?_
      refine g_imul hE dX4_could_40 ?_
      exact g_iret hE hR dX4_could_41 (Nat.le_refl 0) (Nat.le_refl 0) rfl ⟨_, _, _, rfl, rfl, rfl, hw⟩

/-- chart(I)I -/
def w4_chart (x1 : Int) (F : mF) (A : mA) (Q : Int → mF → mA → Prop) : Prop :=
  inR x1 ∧
  cIf (0 ≤ x1 ∧ x1 ≤ 999)
    (
    w4_charts x1 F A (fun (F3 : mF) (A4 : mA) =>
    lq2 (fun (x2_23 : Int) (x3_23 : Int) (k_23 : Int → Int → Prop) =>
      cLt x3_23 192
        (
        ib x3_23 192 ∧
        ib x3_23 192 ∧
        k_23 (x2_23 + ((A4 21 x3_23) * (A4 22 x3_23))) (x3_23 + 1))
        (
        Q x2_23 F3 A4)) 0 0))
    (
    Q ((-2)) F A)
theorem hd_X4_chart : yX4_chart.cls = RX4 ∧ yX4_chart.cls ≠ "java/lang/invoke/MethodHandle" ∧ yX4_chart.cls ≠ "java/lang/invoke/VarHandle" ∧ (parseMethodDescriptor yX4_chart.desc).map (fun d => d.parameters.length) = some 1 := by decide +kernel
set_option maxHeartbeats 4000000 in
theorem t4_chart (M : MT) (hM : OkM M) (z : Nat) {x1 : Int} {F : mF} {A : mA} {Q : Int → mF → mA → Prop} (hw : w4_chart x1 F A Q) : CtM M z yX4_chart cX4_chart 4 (some .int) (k2_rm 6 138) [aR (some (oM M)), aI x1] F A (PMiFA M z Q) := by
  refine Ct.intro (by decide) (Nat.le_of_ble_eq_true rfl) (fun E hE hR hT => ?_)
  have hT : TM E M := hT
  have hE : OkE E RX4 cX4_chart 4 (some .int) := hE
  show G E (wsM M F A) (some z) 0 0 0 [some (aR (some (oM M))), some (aI x1), none, none] []
  unfold w4_chart at hw
  refine g_ildn1 hE dX4_chart_0 ?_
  refine g_iconst hE dX4_chart_1 ?_
  refine g_sipush hE dX4_chart_2 (by decide) ?_
  obtain ⟨h1, hw⟩ := hw
  refine gm_cSi hE hR hM hT (As := [aI x1, aI 0, aI 999]) (t4_isIn M hM z (s4_isIn h1 (by decide) (by decide))) (lw_S q2257 q2258 q108 q2259) hd_X4_isIn ⟨by decide, by decide⟩ rfl (Nat.le_of_ble_eq_true rfl) dX4_chart_5 rfl (fun r2 hr2 => ?_)
  subst hr2
  refine g_if_ne hE (tgt := 14) dX4_chart_8 (by decide) bI_in (fun q => ?_) (fun q => ?_)
  · have hw := hw.2 (bI_eq0.mp q)
    refine g_bipush hE dX4_chart_11 (by decide) ?_
    exact g_iret hE hR dX4_chart_13 (Nat.le_refl 0) (Nat.le_refl 0) rfl ⟨_, _, _, rfl, rfl, rfl, hw⟩
  · have hw := hw.1 (bI_ne0.mp q)
    refine g_aldn0 hE dX4_chart_14 ?_
    refine g_ildn1 hE dX4_chart_15 ?_
    refine gm_cVvFA hE hR hM hT (As := [aI x1]) (t4_charts M hM z hw) (lw_V q2463 q2465 qs73 q108 q2466) hd_X4_charts ⟨by decide, by decide⟩ rfl (Nat.le_of_ble_eq_true rfl) dX4_chart_16 rfl (fun F3 A4 hw => ?_)
    refine g_iconst hE dX4_chart_19 ?_
    refine g_istn2 hE dX4_chart_20 (by decide) rfl ?_
    refine g_iconst hE dX4_chart_21 ?_
    refine g_istn3 hE dX4_chart_22 (by decide) rfl ?_
    refine lq2_walk (fun (x2_23 : Int) (x3_23 : Int) => G E (wsM M F3 A4) (some z) 0 0 23 [some (aR (some (oM M))), some (aI x1), some (aI x2_23), some (aI x3_23)] []) (fun k_23 hk_23 x2_23 x3_23 hw => ?_) _ _ hw
    refine g_ildn3 hE dX4_chart_23 ?_
    refine g_sipush hE dX4_chart_24 (by decide) ?_
    obtain ⟨h7, h8, hT9, hN10⟩ := hw
    refine g_icmp_ge hE (tgt := 52) dX4_chart_27 (by decide) h7 h8 (fun q => ?_) (fun q => ?_)
    · have hw := hT9 q
      refine g_ildn2 hE dX4_chart_30 ?_
      refine g_aldn0 hE dX4_chart_31 ?_
      refine gm_geta hE hM hT 21 (by decide) rfl q2161 dX4_chart_32 ?_
      refine g_ildn3 hE dX4_chart_35 ?_
      obtain ⟨h5, hw⟩ := hw
      refine gm_iald hE hM hT 21 rfl h5 dX4_chart_36 ?_
      refine g_aldn0 hE dX4_chart_37 ?_
      refine gm_geta hE hM hT 22 (by decide) rfl q2162 dX4_chart_38 ?_
      refine g_ildn3 hE dX4_chart_41 ?_
      obtain ⟨h6, hw⟩ := hw
      refine gm_iald hE hM hT 22 rfl h6 dX4_chart_42 ?_
      refine g_imul hE dX4_chart_43 ?_
      refine g_iadd hE dX4_chart_44 ?_
      refine g_istn2 hE dX4_chart_45 (by decide) rfl ?_
      refine g_iinc3 hE dX4_chart_46 (by decide) rfl ?_
      refine g_goto hE (tgt := 23) dX4_chart_49 (by decide) ?_
      exact hk_23 _ _ hw
    · have hw := hN10 q
      refine g_ildn2 hE dX4_chart_52 ?_
      exact g_iret hE hR dX4_chart_53 (Nat.le_refl 0) (Nat.le_refl 0) rfl ⟨_, _, _, rfl, rfl, rfl, hw⟩

/-- append(I)I -/
def w4_append (x1 : Int) (F : mF) (A : mA) (Q : Int → mF → mA → Prop) : Prop :=
  inR x1 ∧
  cIf (32 ≤ x1 ∧ x1 ≤ 126)
    (
    cEq (F 27) 70
      (
      Q ((-3)) F A)
      (
      ib (F 27) 70 ∧ ∀ A3 : mA, A3 = uA A 23 (F 27) x1 →
      ∀ F5 : mF, F5 = uF F 27 ((F 27) + 1) →
      Q (F5 27) F5 A3))
    (
    Q ((-2)) F A)
theorem hd_X4_append : yX4_append.cls = RX4 ∧ yX4_append.cls ≠ "java/lang/invoke/MethodHandle" ∧ yX4_append.cls ≠ "java/lang/invoke/VarHandle" ∧ (parseMethodDescriptor yX4_append.desc).map (fun d => d.parameters.length) = some 1 := by decide +kernel
set_option maxHeartbeats 4000000 in
theorem t4_append (M : MT) (hM : OkM M) (z : Nat) {x1 : Int} {F : mF} {A : mA} {Q : Int → mF → mA → Prop} (hw : w4_append x1 F A Q) : CtM M z yX4_append cX4_append 2 (some .int) (k2_rm 1 22) [aR (some (oM M)), aI x1] F A (PMiFA M z Q) := by
  refine Ct.intro (by decide) (Nat.le_of_ble_eq_true rfl) (fun E hE hR hT => ?_)
  have hT : TM E M := hT
  have hE : OkE E RX4 cX4_append 2 (some .int) := hE
  show G E (wsM M F A) (some z) 0 0 0 [some (aR (some (oM M))), some (aI x1)] []
  unfold w4_append at hw
  refine g_ildn1 hE dX4_append_0 ?_
  refine g_bipush hE dX4_append_1 (by decide) ?_
  refine g_bipush hE dX4_append_3 (by decide) ?_
  obtain ⟨h1, hw⟩ := hw
  refine gm_cSi hE hR hM hT (As := [aI x1, aI 32, aI 126]) (t4_isIn M hM z (s4_isIn h1 (by decide) (by decide))) (lw_S q2257 q2258 q108 q2259) hd_X4_isIn ⟨by decide, by decide⟩ rfl (Nat.le_of_ble_eq_true rfl) dX4_append_5 rfl (fun r2 hr2 => ?_)
  subst hr2
  refine g_if_ne hE (tgt := 14) dX4_append_8 (by decide) bI_in (fun q => ?_) (fun q => ?_)
  · have hw := hw.2 (bI_eq0.mp q)
    refine g_bipush hE dX4_append_11 (by decide) ?_
    exact g_iret hE hR dX4_append_13 (Nat.le_refl 0) (Nat.le_refl 0) rfl ⟨_, _, _, rfl, rfl, rfl, hw⟩
  · have hw := hw.1 (bI_ne0.mp q)
    refine g_aldn0 hE dX4_append_14 ?_
    refine gm_geti hE hM hT 27 (by decide) rfl q2167 dX4_append_15 ?_
    refine g_bipush hE dX4_append_18 (by decide) ?_
    obtain ⟨h6, h7, hT8, hN9⟩ := hw
    refine g_icmp_ne hE (tgt := 26) dX4_append_20 (by decide) h6 h7 (fun q => ?_) (fun q => ?_)
    · have hw := hT8 q
      refine g_bipush hE dX4_append_23 (by decide) ?_
      exact g_iret hE hR dX4_append_25 (Nat.le_refl 0) (Nat.le_refl 0) rfl ⟨_, _, _, rfl, rfl, rfl, hw⟩
    · have hw := hN9 q
      refine g_aldn0 hE dX4_append_26 ?_
      refine gm_geta hE hM hT 23 (by decide) rfl q2163 dX4_append_27 ?_
      refine g_aldn0 hE dX4_append_30 ?_
      refine gm_geti hE hM hT 27 (by decide) rfl q2167 dX4_append_31 ?_
      refine g_ildn1 hE dX4_append_34 ?_
      obtain ⟨h4, hw⟩ := hw
      refine gm_iast hE hM hT 23 rfl h4 dX4_append_35 ?_
      have hw := hw _ rfl
      generalize uA A 23 (F 27) x1 = A3 at hw ⊢
      refine g_aldn0 hE dX4_append_36 ?_
      refine g_dup hE dX4_append_37 rfl ?_
      refine gm_geti hE hM hT 27 (by decide) rfl q2167 dX4_append_38 ?_
      refine g_iconst hE dX4_append_41 ?_
      refine g_iadd hE dX4_append_42 ?_
      refine gm_put hE hM hT 27 (by decide) rfl q2167 rfl (ty := .int) (by decide +kernel) rfl rfl dX4_append_43 ?_
      have hw := hw _ rfl
      generalize uF F 27 ((F 27) + 1) = F5 at hw ⊢
      refine g_aldn0 hE dX4_append_46 ?_
      refine gm_geti hE hM hT 27 (by decide) rfl q2167 dX4_append_47 ?_
      exact g_iret hE hR dX4_append_50 (Nat.le_refl 0) (Nat.le_refl 0) rfl ⟨_, _, _, rfl, rfl, rfl, hw⟩

/-- sign()I -/
def w4_sign  (F : mF) (A : mA) (Q : Int → Prop) : Prop :=
  jn1 (fun (y0_24 : Int) => 
      Q y0_24)
    (fun (j_24 : Int → Prop) =>
    cLt (F 28) (F 27)
      (
      ib (F 28) 70 ∧
      j_24 (A 23 (F 28)))
      (
      j_24 ((-1))))
theorem hd_X4_sign : yX4_sign.cls = RX4 ∧ yX4_sign.cls ≠ "java/lang/invoke/MethodHandle" ∧ yX4_sign.cls ≠ "java/lang/invoke/VarHandle" ∧ (parseMethodDescriptor yX4_sign.desc).map (fun d => d.parameters.length) = some 0 := by decide +kernel
set_option maxHeartbeats 4000000 in
theorem t4_sign (M : MT) (hM : OkM M) (z : Nat)  {F : mF} {A : mA} {Q : Int → Prop} (hw : w4_sign F A Q) : CtM M z yX4_sign cX4_sign 1 (some .int) (k2_rm 0 0) [aR (some (oM M))] F A (PMi M z F A Q) := by
  refine Ct.intro (by decide) (Nat.le_of_ble_eq_true rfl) (fun E hE hR hT => ?_)
  have hT : TM E M := hT
  have hE : OkE E RX4 cX4_sign 1 (some .int) := hE
  show G E (wsM M F A) (some z) 0 0 0 [some (aR (some (oM M)))] []
  unfold w4_sign at hw
  refine g_aldn0 hE dX4_sign_0 ?_
  refine gm_geti hE hM hT 28 (by decide) rfl q2168 dX4_sign_1 ?_
  refine g_aldn0 hE dX4_sign_4 ?_
  refine gm_geti hE hM hT 27 (by decide) rfl q2167 dX4_sign_5 ?_
  refine jn1_walk (fun (y0_24 : Int) => G E (wsM M F A) (some z) 0 0 24 [some (aR (some (oM M)))] [aI y0_24]) hw (fun y0_24 hw => ?_) (fun j_24 hj_24 hw => ?_)
  · skip
    exact g_iret hE hR dX4_sign_24 (Nat.le_refl 0) (Nat.le_refl 0) rfl ⟨_, rfl, rfl, rfl, hw⟩
  · skip
    obtain ⟨h2, h3, hT4, hN5⟩ := hw
    refine g_icmp_ge hE (tgt := 23) dX4_sign_8 (by decide) h2 h3 (fun q => ?_) (fun q => ?_)
    · have hw := hT4 q
      refine g_aldn0 hE dX4_sign_11 ?_
      refine gm_geta hE hM hT 23 (by decide) rfl q2163 dX4_sign_12 ?_
      refine g_aldn0 hE dX4_sign_15 ?_
      refine gm_geti hE hM hT 28 (by decide) rfl q2168 dX4_sign_16 ?_
      obtain ⟨h1, hw⟩ := hw
      refine gm_iald hE hM hT 23 rfl h1 dX4_sign_19 ?_
      refine g_goto hE (tgt := 24) dX4_sign_20 (by decide) ?_
      exact hj_24 _ hw
    · have hw := hN5 q
      refine g_iconst hE dX4_sign_23 ?_
      exact hj_24 _ hw

/-- word()I -/
def w4_word  (F : mF) (A : mA) (Q : Int → mF → Prop) : Prop :=
  lq1 (fun (F_5 : mF) (k_5 : mF → Prop) =>
    w4_sign  F_5 A (fun (r1 : Int) =>
    inR r1 ∧
    cIf (97 ≤ r1 ∧ r1 ≤ 122)
      (
      ∀ F4 : mF, F4 = uF F_5 28 ((F_5 28) + 1) →
      k_5 F4)
      (
      lq1 (fun (x3_41 : Int) (k_41 : Int → Prop) =>
        cLt x3_41 8
          (
          jn1 (fun (y0_62 : Int) => 
              lq2 (fun (x4_67 : Int) (x5_67 : Int) (k_67 : Int → Int → Prop) =>
                jn0 (
                    cEq x4_67 0
                      (
                      k_41 (x3_41 + 1))
                      (
                      Q x3_41 F_5))
                  (fun (j_127 : Prop) =>
                  cLt x5_67 6
                    (
                    cEq x4_67 0
                      (
                      j_127)
                      (
                      jn1 (fun (y0_99 : Int) => 
                          ib ((6 * x3_41) + x5_67) 48 ∧
                          jn1 (fun (y0_119 : Int) => 
                              k_67 y0_119 (x5_67 + 1))
                            (fun (j_119 : Int → Prop) =>
                            cEq y0_99 (A 25 ((6 * x3_41) + x5_67))
                              (
                              j_119 1)
                              (
                              j_119 0)))
                        (fun (j_99 : Int → Prop) =>
                        cLt x5_67 ((F_5 28) - (F 28))
                          (
                          ib ((F 28) + x5_67) 70 ∧
                          j_99 (A 23 ((F 28) + x5_67)))
                          (
                          j_99 32))))
                    (
                    j_127))) y0_62 0)
            (fun (j_62 : Int → Prop) =>
            jn0 (
                j_62 0)
              (fun (j_61 : Prop) =>
              cLt 0 ((F_5 28) - (F 28))
                (
                cLt 6 ((F_5 28) - (F 28))
                  (
                  j_61)
                  (
                  j_62 1))
                (
                j_61))))
          (
          ∀ F35 : mF, F35 = uF F_5 30 1 →
          ∀ F36 : mF, F36 = uF F35 28 (F 28) →
          Q ((-1)) F36)) 0))) F
theorem hd_X4_word : yX4_word.cls = RX4 ∧ yX4_word.cls ≠ "java/lang/invoke/MethodHandle" ∧ yX4_word.cls ≠ "java/lang/invoke/VarHandle" ∧ (parseMethodDescriptor yX4_word.desc).map (fun d => d.parameters.length) = some 0 := by decide +kernel
set_option maxHeartbeats 4000000 in
theorem t4_word (M : MT) (hM : OkM M) (z : Nat)  {F : mF} {A : mA} {Q : Int → mF → Prop} (hw : w4_word F A Q) : CtM M z yX4_word cX4_word 6 (some .int) (k2_rm 1 22) [aR (some (oM M))] F A (PMiF M z A Q) := by
  refine Ct.intro (by decide) (Nat.le_of_ble_eq_true rfl) (fun E hE hR hT => ?_)
  have hT : TM E M := hT
  have hE : OkE E RX4 cX4_word 6 (some .int) := hE
  show G E (wsM M F A) (some z) 0 0 0 [some (aR (some (oM M))), none, none, none, none, none] []
  unfold w4_word at hw
  refine g_aldn0 hE dX4_word_0 ?_
  refine gm_geti hE hM hT 28 (by decide) rfl q2168 dX4_word_1 ?_
  refine g_istn1 hE dX4_word_4 (by decide) rfl ?_
  refine lq1_walk (fun (F_5 : mF) => G E (wsM M F_5 A) (some z) 0 0 5 [some (aR (some (oM M))), some (aI (F 28)), none, none, none, none] []) (fun k_5 hk_5 F_5 hw => ?_) _ hw
  refine g_aldn0 hE dX4_word_5 ?_
  refine gm_cVi hE hR hM hT (As := []) (t4_sign M hM z hw) (lw_V q2495 q2497 qs78 q108 q2498) hd_X4_sign ⟨by decide, by decide⟩ rfl (Nat.le_of_ble_eq_true rfl) dX4_word_6 rfl (fun r1 hw => ?_)
  refine g_bipush hE dX4_word_9 (by decide) ?_
  refine g_bipush hE dX4_word_11 (by decide) ?_
  obtain ⟨h2, hw⟩ := hw
  refine gm_cSi hE hR hM hT (As := [aI r1, aI 97, aI 122]) (t4_isIn M hM z (s4_isIn h2 (by decide) (by decide))) (lw_S q2257 q2258 q108 q2259) hd_X4_isIn ⟨by decide, by decide⟩ rfl (Nat.le_of_ble_eq_true rfl) dX4_word_13 rfl (fun r3 hr3 => ?_)
  subst hr3
  refine g_if_eq hE (tgt := 32) dX4_word_16 (by decide) bI_in (fun q => ?_) (fun q => ?_)
  · have hw := hw.2 (bI_eq0.mp q)
    refine g_aldn0 hE dX4_word_32 ?_
    refine gm_geti hE hM hT 28 (by decide) rfl q2168 dX4_word_33 ?_
    refine g_ildn1 hE dX4_word_36 ?_
    refine g_isub hE dX4_word_37 ?_
    refine g_istn2 hE dX4_word_38 (by decide) rfl ?_
    refine g_iconst hE dX4_word_39 ?_
    refine g_istn3 hE dX4_word_40 (by decide) rfl ?_
    refine lq1_walk (fun (x3_41 : Int) => G E (wsM M F_5 A) (some z) 0 0 41 [some (aR (some (oM M))), some (aI (F 28)), some (aI ((F_5 28) - (F 28))), some (aI x3_41), none, none] []) (fun k_41 hk_41 x3_41 hw => ?_) _ hw
    refine g_ildn3 hE dX4_word_41 ?_
    refine g_bipush hE dX4_word_42 (by decide) ?_
    obtain ⟨h37, h38, hT39, hN40⟩ := hw
    refine g_icmp_ge hE (tgt := 140) dX4_word_44 (by decide) h37 h38 (fun q => ?_) (fun q => ?_)
    · have hw := hT39 q
      refine g_ildn2 hE dX4_word_47 ?_
      refine jn1_walk (fun (y0_62 : Int) => G E (wsM M F_5 A) (some z) 0 0 62 [some (aR (some (oM M))), some (aI (F 28)), some (aI ((F_5 28) - (F 28))), some (aI x3_41), none, none] [aI y0_62]) hw (fun y0_62 hw => ?_) (fun j_62 hj_62 hw => ?_)
      · skip
        refine g_ist4 hE dX4_word_62 (by decide) rfl ?_
        refine g_iconst hE dX4_word_64 ?_
        refine g_ist5 hE dX4_word_65 (by decide) rfl ?_
        refine lq2_walk (fun (x4_67 : Int) (x5_67 : Int) => G E (wsM M F_5 A) (some z) 0 0 67 [some (aR (some (oM M))), some (aI (F 28)), some (aI ((F_5 28) - (F 28))), some (aI x3_41), some (aI x4_67), some (aI x5_67)] []) (fun k_67 hk_67 x4_67 x5_67 hw => ?_) _ _ hw
        refine g_ild5 hE dX4_word_67 ?_
        refine g_bipush hE dX4_word_69 (by decide) ?_
        refine jn0_walk (G E (wsM M F_5 A) (some z) 0 0 127 [some (aR (some (oM M))), some (aI (F 28)), some (aI ((F_5 28) - (F 28))), some (aI x3_41), some (aI x4_67), some (aI x5_67)] []) hw (fun  hw => ?_) (fun j_127 hj_127 hw => ?_)
        · skip
          refine g_ild4 hE dX4_word_127 ?_
          obtain ⟨h5, h6, hT7, hN8⟩ := hw
          refine g_if_eq hE (tgt := 134) dX4_word_129 (by decide) h5 (fun q => ?_) (fun q => ?_)
          · have hw := hT7 q
            refine g_iinc3 hE dX4_word_134 (by decide) rfl ?_
            refine g_goto hE (tgt := 41) dX4_word_137 (by decide) ?_
            refine g_kl4 ?_
            refine g_kl5 ?_
            exact hk_41 _ hw
          · have hw := hN8 q
            refine g_ildn3 hE dX4_word_132 ?_
            exact g_iret hE hR dX4_word_133 (Nat.le_refl 0) (Nat.le_refl 0) rfl ⟨_, _, rfl, rfl, rfl, hw⟩
        · skip
          obtain ⟨h23, h24, hT25, hN26⟩ := hw
          refine g_icmp_ge hE (tgt := 127) dX4_word_71 (by decide) h23 h24 (fun q => ?_) (fun q => ?_)
          · have hw := hT25 q
            refine g_ild4 hE dX4_word_74 ?_
            obtain ⟨h19, h20, hT21, hN22⟩ := hw
            refine g_if_eq hE (tgt := 127) dX4_word_76 (by decide) h19 (fun q => ?_) (fun q => ?_)
            · have hw := hT21 q
              exact hj_127  hw
            · have hw := hN22 q
              refine g_ild5 hE dX4_word_79 ?_
              refine g_ildn2 hE dX4_word_81 ?_
              refine jn1_walk (fun (y0_99 : Int) => G E (wsM M F_5 A) (some z) 0 0 99 [some (aR (some (oM M))), some (aI (F 28)), some (aI ((F_5 28) - (F 28))), some (aI x3_41), some (aI x4_67), some (aI x5_67)] [aI y0_99]) hw (fun y0_99 hw => ?_) (fun j_99 hj_99 hw => ?_)
              · skip
                refine g_aldn0 hE dX4_word_99 ?_
                refine gm_geta hE hM hT 25 (by decide) rfl q2165 dX4_word_100 ?_
                refine g_bipush hE dX4_word_103 (by decide) ?_
                refine g_ildn3 hE dX4_word_105 ?_
                refine g_imul hE dX4_word_106 ?_
                refine g_ild5 hE dX4_word_107 ?_
                refine g_iadd hE dX4_word_109 ?_
                obtain ⟨h9, hw⟩ := hw
                refine gm_iald hE hM hT 25 rfl h9 dX4_word_110 ?_
                refine jn1_walk (fun (y0_119 : Int) => G E (wsM M F_5 A) (some z) 0 0 119 [some (aR (some (oM M))), some (aI (F 28)), some (aI ((F_5 28) - (F 28))), some (aI x3_41), some (aI x4_67), some (aI x5_67)] [aI y0_119]) hw (fun y0_119 hw => ?_) (fun j_119 hj_119 hw => ?_)
                · skip
                  refine g_ist4 hE dX4_word_119 (by decide) rfl ?_
                  refine g_iinc5 hE dX4_word_121 (by decide) rfl ?_
                  refine g_goto hE (tgt := 67) dX4_word_124 (by decide) ?_
                  exact hk_67 _ _ hw
                · skip
                  obtain ⟨h10, h11, hT12, hN13⟩ := hw
                  refine g_icmp_ne hE (tgt := 118) dX4_word_111 (by decide) h10 h11 (fun q => ?_) (fun q => ?_)
                  · have hw := hT12 q
                    refine g_iconst hE dX4_word_114 ?_
                    refine g_goto hE (tgt := 119) dX4_word_115 (by decide) ?_
                    exact hj_119 _ hw
                  · have hw := hN13 q
                    refine g_iconst hE dX4_word_118 ?_
                    exact hj_119 _ hw
              · skip
                obtain ⟨h15, h16, hT17, hN18⟩ := hw
                refine g_icmp_ge hE (tgt := 97) dX4_word_82 (by decide) h15 h16 (fun q => ?_) (fun q => ?_)
                · have hw := hT17 q
                  refine g_aldn0 hE dX4_word_85 ?_
                  refine gm_geta hE hM hT 23 (by decide) rfl q2163 dX4_word_86 ?_
                  refine g_ildn1 hE dX4_word_89 ?_
                  refine g_ild5 hE dX4_word_90 ?_
                  refine g_iadd hE dX4_word_92 ?_
                  obtain ⟨h14, hw⟩ := hw
                  refine gm_iald hE hM hT 23 rfl h14 dX4_word_93 ?_
                  refine g_goto hE (tgt := 99) dX4_word_94 (by decide) ?_
                  exact hj_99 _ hw
                · have hw := hN18 q
                  refine g_bipush hE dX4_word_97 (by decide) ?_
                  exact hj_99 _ hw
          · have hw := hN26 q
            exact hj_127  hw
      · skip
        refine jn0_walk (G E (wsM M F_5 A) (some z) 0 0 61 [some (aR (some (oM M))), some (aI (F 28)), some (aI ((F_5 28) - (F 28))), some (aI x3_41), none, none] []) hw (fun  hw => ?_) (fun j_61 hj_61 hw => ?_)
        · skip
          refine g_iconst hE dX4_word_61 ?_
          exact hj_62 _ hw
        · skip
          obtain ⟨h31, h32, hT33, hN34⟩ := hw
          refine g_if_le hE (tgt := 61) dX4_word_48 (by decide) h32 (fun q => ?_) (fun q => ?_)
          · have hw := hT33 q
            refine g_ildn2 hE dX4_word_51 ?_
            refine g_bipush hE dX4_word_52 (by decide) ?_
            obtain ⟨h27, h28, hT29, hN30⟩ := hw
            refine g_icmp_gt hE (tgt := 61) dX4_word_54 (by decide) h28 h27 (fun q => ?_) (fun q => ?_)
            · have hw := hT29 q
              exact hj_61  hw
            · have hw := hN30 q
              refine g_iconst hE dX4_word_57 ?_
              refine g_goto hE (tgt := 62) dX4_word_58 (by decide) ?_
              exact hj_62 _ hw
          · have hw := hN34 q
            exact hj_61  hw
    · have hw := hN40 q
      refine g_aldn0 hE dX4_word_140 ?_
      refine g_iconst hE dX4_word_141 ?_
      refine gm_put hE hM hT 30 (by decide) rfl q2170 rfl (ty := .boolean) (by decide +kernel) (narrow_bl (by decide)) (fits_bl (by decide)) dX4_word_142 ?_
      have hw := hw _ rfl
      generalize uF F_5 30 1 = F35 at hw ⊢
      refine g_aldn0 hE dX4_word_145 ?_
      refine g_ildn1 hE dX4_word_146 ?_
      refine gm_put hE hM hT 28 (by decide) rfl q2168 rfl (ty := .int) (by decide +kernel) rfl rfl dX4_word_147 ?_
      have hw := hw _ rfl
      generalize uF F35 28 (F 28) = F36 at hw ⊢
      refine g_iconst hE dX4_word_150 ?_
      exact g_iret hE hR dX4_word_151 (Nat.le_refl 0) (Nat.le_refl 0) rfl ⟨_, _, rfl, rfl, rfl, hw⟩
  · have hw := hw.1 (bI_ne0.mp q)
    refine g_aldn0 hE dX4_word_19 ?_
    refine g_dup hE dX4_word_20 rfl ?_
    refine gm_geti hE hM hT 28 (by decide) rfl q2168 dX4_word_21 ?_
    refine g_iconst hE dX4_word_24 ?_
    refine g_iadd hE dX4_word_25 ?_
    refine gm_put hE hM hT 28 (by decide) rfl q2168 rfl (ty := .int) (by decide +kernel) rfl rfl dX4_word_26 ?_
    have hw := hw _ rfl
    generalize uF F_5 28 ((F_5 28) + 1) = F4 at hw ⊢
    refine g_goto hE (tgt := 5) dX4_word_29 (by decide) ?_
    exact hk_5 _ hw

/-- takes(I)V -/
def w4_takes (x1 : Int) (F : mF) (A : mA) (Q : mF → Prop) : Prop :=
  cEq (F 30) 0
    (
    w4_sign  F A (fun (r1 : Int) =>
    jn1 (fun (y1_22 : Int) => 
        bl y1_22 ∧ ∀ F2 : mF, F2 = uF F 30 y1_22 →
        jn1 (fun (y2_42 : Int) => 
            ∀ F4 : mF, F4 = uF F2 28 ((F2 28) + y2_42) →
            Q F4)
          (fun (j_42 : Int → Prop) =>
          cEq (F2 30) 0
            (
            j_42 1)
            (
            j_42 0)))
      (fun (j_22 : Int → Prop) =>
      cEq r1 x1
        (
        j_22 0)
        (
        j_22 1))))
    (
    Q F)
theorem hd_X4_takes : yX4_takes.cls = RX4 ∧ yX4_takes.cls ≠ "java/lang/invoke/MethodHandle" ∧ yX4_takes.cls ≠ "java/lang/invoke/VarHandle" ∧ (parseMethodDescriptor yX4_takes.desc).map (fun d => d.parameters.length) = some 1 := by decide +kernel
set_option maxHeartbeats 4000000 in
theorem t4_takes (M : MT) (hM : OkM M) (z : Nat) {x1 : Int} {F : mF} {A : mA} {Q : mF → Prop} (hw : w4_takes x1 F A Q) : CtM M z yX4_takes cX4_takes 2 none (k2_rm 1 20) [aR (some (oM M)), aI x1] F A (PMvF M z A Q) := by
  refine Ct.intro (by decide) (Nat.le_of_ble_eq_true rfl) (fun E hE hR hT => ?_)
  have hT : TM E M := hT
  have hE : OkE E RX4 cX4_takes 2 none := hE
  show G E (wsM M F A) (some z) 0 0 0 [some (aR (some (oM M))), some (aI x1)] []
  unfold w4_takes at hw
  refine g_aldn0 hE dX4_takes_0 ?_
  refine gm_geti hE hM hT 30 (by decide) rfl q2170 dX4_takes_1 ?_
  obtain ⟨h13, h14, hT15, hN16⟩ := hw
  refine g_if_eq hE (tgt := 8) dX4_takes_4 (by decide) h13 (fun q => ?_) (fun q => ?_)
  · have hw := hT15 q
    refine g_aldn0 hE dX4_takes_8 ?_
    refine g_aldn0 hE dX4_takes_9 ?_
    refine gm_cVi hE hR hM hT (As := []) (t4_sign M hM z hw) (lw_V q2495 q2497 qs78 q108 q2498) hd_X4_sign ⟨by decide, by decide⟩ rfl (Nat.le_of_ble_eq_true rfl) dX4_takes_10 rfl (fun r1 hw => ?_)
    refine g_ildn1 hE dX4_takes_13 ?_
    refine jn1_walk (fun (y1_22 : Int) => G E (wsM M F A) (some z) 0 0 22 [some (aR (some (oM M))), some (aI x1)] [aI y1_22, aR (some (oM M))]) hw (fun y1_22 hw => ?_) (fun j_22 hj_22 hw => ?_)
    · skip
      obtain ⟨h3, hw⟩ := hw
      refine gm_put hE hM hT 30 (by decide) rfl q2170 rfl (ty := .boolean) (by decide +kernel) (narrow_bl h3) (fits_bl h3) dX4_takes_22 ?_
      have hw := hw _ rfl
      generalize uF F 30 y1_22 = F2 at hw ⊢
      refine g_aldn0 hE dX4_takes_25 ?_
      refine g_dup hE dX4_takes_26 rfl ?_
      refine gm_geti hE hM hT 28 (by decide) rfl q2168 dX4_takes_27 ?_
      refine g_aldn0 hE dX4_takes_30 ?_
      refine gm_geti hE hM hT 30 (by decide) rfl q2170 dX4_takes_31 ?_
      refine jn1_walk (fun (y2_42 : Int) => G E (wsM M F2 A) (some z) 0 0 42 [some (aR (some (oM M))), some (aI x1)] [aI y2_42, aI (F2 28), aR (some (oM M))]) hw (fun y2_42 hw => ?_) (fun j_42 hj_42 hw => ?_)
      · skip
        refine g_iadd hE dX4_takes_42 ?_
        refine gm_put hE hM hT 28 (by decide) rfl q2168 rfl (ty := .int) (by decide +kernel) rfl rfl dX4_takes_43 ?_
        have hw := hw _ rfl
        generalize uF F2 28 ((F2 28) + y2_42) = F4 at hw ⊢
        exact g_vret hE hR dX4_takes_46 (Nat.le_refl 0) (Nat.le_refl 0) ⟨_, rfl, rfl, rfl, hw⟩
      · skip
        obtain ⟨h5, h6, hT7, hN8⟩ := hw
        refine g_if_eq hE (tgt := 41) dX4_takes_34 (by decide) h5 (fun q => ?_) (fun q => ?_)
        · have hw := hT7 q
          refine g_iconst hE dX4_takes_41 ?_
          exact hj_42 _ hw
        · have hw := hN8 q
          refine g_iconst hE dX4_takes_37 ?_
          refine g_goto hE (tgt := 42) dX4_takes_38 (by decide) ?_
          exact hj_42 _ hw
    · skip
      obtain ⟨h9, h10, hT11, hN12⟩ := hw
      refine g_icmp_eq hE (tgt := 21) dX4_takes_14 (by decide) h9 h10 (fun q => ?_) (fun q => ?_)
      · have hw := hT11 q
        refine g_iconst hE dX4_takes_21 ?_
        exact hj_22 _ hw
      · have hw := hN12 q
        refine g_iconst hE dX4_takes_17 ?_
        refine g_goto hE (tgt := 22) dX4_takes_18 (by decide) ?_
        exact hj_22 _ hw
  · have hw := hN16 q
    exact g_vret hE hR dX4_takes_7 (Nat.le_refl 0) (Nat.le_refl 0) ⟨_, rfl, rfl, rfl, hw⟩

/-- tells(I)V -/
def w4_tells (x1 : Int) (F : mF) (A : mA) (Q : mF → mA → Prop) : Prop :=
  ib (F 29) 5 ∧ ∀ A1 : mA, A1 = uA A 24 (F 29) x1 →
  ∀ F3 : mF, F3 = uF F 29 ((F 29) + 1) →
  Q F3 A1
theorem hd_X4_tells : yX4_tells.cls = RX4 ∧ yX4_tells.cls ≠ "java/lang/invoke/MethodHandle" ∧ yX4_tells.cls ≠ "java/lang/invoke/VarHandle" ∧ (parseMethodDescriptor yX4_tells.desc).map (fun d => d.parameters.length) = some 1 := by decide +kernel
set_option maxHeartbeats 4000000 in
theorem t4_tells (M : MT) (hM : OkM M) (z : Nat) {x1 : Int} {F : mF} {A : mA} {Q : mF → mA → Prop} (hw : w4_tells x1 F A Q) : CtM M z yX4_tells cX4_tells 2 none (k2_rm 0 0) [aR (some (oM M)), aI x1] F A (PMvFA M z Q) := by
  refine Ct.intro (by decide) (Nat.le_of_ble_eq_true rfl) (fun E hE hR hT => ?_)
  have hT : TM E M := hT
  have hE : OkE E RX4 cX4_tells 2 none := hE
  show G E (wsM M F A) (some z) 0 0 0 [some (aR (some (oM M))), some (aI x1)] []
  unfold w4_tells at hw
  refine g_aldn0 hE dX4_tells_0 ?_
  refine gm_geta hE hM hT 24 (by decide) rfl q2164 dX4_tells_1 ?_
  refine g_aldn0 hE dX4_tells_4 ?_
  refine gm_geti hE hM hT 29 (by decide) rfl q2169 dX4_tells_5 ?_
  refine g_ildn1 hE dX4_tells_8 ?_
  obtain ⟨h2, hw⟩ := hw
  refine gm_iast hE hM hT 24 rfl h2 dX4_tells_9 ?_
  have hw := hw _ rfl
  generalize uA A 24 (F 29) x1 = A1 at hw ⊢
  refine g_aldn0 hE dX4_tells_10 ?_
  refine g_dup hE dX4_tells_11 rfl ?_
  refine gm_geti hE hM hT 29 (by decide) rfl q2169 dX4_tells_12 ?_
  refine g_iconst hE dX4_tells_15 ?_
  refine g_iadd hE dX4_tells_16 ?_
  refine gm_put hE hM hT 29 (by decide) rfl q2169 rfl (ty := .int) (by decide +kernel) rfl rfl dX4_tells_17 ?_
  have hw := hw _ rfl
  generalize uF F 29 ((F 29) + 1) = F3 at hw ⊢
  exact g_vret hE hR dX4_tells_20 (Nat.le_refl 0) (Nat.le_refl 0) ⟨_, _, rfl, rfl, rfl, hw⟩

/-- digits(I)I -/
def w4_digits (x1 : Int) (F : mF) (A : mA) (Q : Int → mF → Prop) : Prop :=
  w4_sign  F A (fun (r1 : Int) =>
  inR r1 ∧
  jn1 (fun (y2_24 : Int) => 
      bl (bOr (F 30) y2_24) ∧ ∀ F4 : mF, F4 = uF F 30 (bOr (F 30) y2_24) →
      lq3 (fun (x2_32 : Int) (x3_32 : Int) (F_32 : mF) (k_32 : Int → Int → mF → Prop) =>
        jn0 (
            Q x2_32 F_32)
          (fun (j_87 : Prop) =>
          cLt x3_32 x1
            (
            cEq (F_32 30) 0
              (
              w4_sign  F_32 A (fun (r6 : Int) =>
              inR r6 ∧
              cIf (48 ≤ r6 ∧ r6 ≤ 57)
                (
                w4_sign  F_32 A (fun (r9 : Int) =>
                ∀ F10 : mF, F10 = uF F_32 28 ((F_32 28) + 1) →
                k_32 (((10 * x2_32) + r9) - 48) (x3_32 + 1) F10))
                (
                j_87)))
              (
              j_87))
            (
            j_87))) 0 0 F4)
    (fun (j_24 : Int → Prop) =>
    cIf (48 ≤ r1 ∧ r1 ≤ 57)
      (
      j_24 0)
      (
      j_24 1)))
theorem hd_X4_digits : yX4_digits.cls = RX4 ∧ yX4_digits.cls ≠ "java/lang/invoke/MethodHandle" ∧ yX4_digits.cls ≠ "java/lang/invoke/VarHandle" ∧ (parseMethodDescriptor yX4_digits.desc).map (fun d => d.parameters.length) = some 1 := by decide +kernel
set_option maxHeartbeats 4000000 in
theorem t4_digits (M : MT) (hM : OkM M) (z : Nat) {x1 : Int} {F : mF} {A : mA} {Q : Int → mF → Prop} (hw : w4_digits x1 F A Q) : CtM M z yX4_digits cX4_digits 4 (some .int) (k2_rm 1 22) [aR (some (oM M)), aI x1] F A (PMiF M z A Q) := by
  refine Ct.intro (by decide) (Nat.le_of_ble_eq_true rfl) (fun E hE hR hT => ?_)
  have hT : TM E M := hT
  have hE : OkE E RX4 cX4_digits 4 (some .int) := hE
  show G E (wsM M F A) (some z) 0 0 0 [some (aR (some (oM M))), some (aI x1), none, none] []
  unfold w4_digits at hw
  refine g_aldn0 hE dX4_digits_0 ?_
  refine g_dup hE dX4_digits_1 rfl ?_
  refine gm_geti hE hM hT 30 (by decide) rfl q2170 dX4_digits_2 ?_
  refine g_aldn0 hE dX4_digits_5 ?_
  refine gm_cVi hE hR hM hT (As := []) (t4_sign M hM z hw) (lw_V q2495 q2497 qs78 q108 q2498) hd_X4_sign ⟨by decide, by decide⟩ rfl (Nat.le_of_ble_eq_true rfl) dX4_digits_6 rfl (fun r1 hw => ?_)
  refine g_bipush hE dX4_digits_9 (by decide) ?_
  refine g_bipush hE dX4_digits_11 (by decide) ?_
  obtain ⟨h2, hw⟩ := hw
  refine gm_cSi hE hR hM hT (As := [aI r1, aI 48, aI 57]) (t4_isIn M hM z (s4_isIn h2 (by decide) (by decide))) (lw_S q2257 q2258 q108 q2259) hd_X4_isIn ⟨by decide, by decide⟩ rfl (Nat.le_of_ble_eq_true rfl) dX4_digits_13 rfl (fun r3 hr3 => ?_)
  subst hr3
  refine jn1_walk (fun (y2_24 : Int) => G E (wsM M F A) (some z) 0 0 24 [some (aR (some (oM M))), some (aI x1), none, none] [aI y2_24, aI (F 30), aR (some (oM M))]) hw (fun y2_24 hw => ?_) (fun j_24 hj_24 hw => ?_)
  · skip
    refine g_ior hE dX4_digits_24 ?_
    obtain ⟨h5, hw⟩ := hw
    refine gm_put hE hM hT 30 (by decide) rfl q2170 rfl (ty := .boolean) (by decide +kernel) (narrow_bl h5) (fits_bl h5) dX4_digits_25 ?_
    have hw := hw _ rfl
    generalize uF F 30 (bOr (F 30) y2_24) = F4 at hw ⊢
    refine g_iconst hE dX4_digits_28 ?_
    refine g_istn2 hE dX4_digits_29 (by decide) rfl ?_
    refine g_iconst hE dX4_digits_30 ?_
    refine g_istn3 hE dX4_digits_31 (by decide) rfl ?_
    refine lq3_walk (fun (x2_32 : Int) (x3_32 : Int) (F_32 : mF) => G E (wsM M F_32 A) (some z) 0 0 32 [some (aR (some (oM M))), some (aI x1), some (aI x2_32), some (aI x3_32)] []) (fun k_32 hk_32 x2_32 x3_32 F_32 hw => ?_) _ _ _ hw
    refine g_ildn3 hE dX4_digits_32 ?_
    refine g_ildn1 hE dX4_digits_33 ?_
    refine jn0_walk (G E (wsM M F_32 A) (some z) 0 0 87 [some (aR (some (oM M))), some (aI x1), some (aI x2_32), some (aI x3_32)] []) hw (fun  hw => ?_) (fun j_87 hj_87 hw => ?_)
    · skip
      refine g_ildn2 hE dX4_digits_87 ?_
      exact g_iret hE hR dX4_digits_88 (Nat.le_refl 0) (Nat.le_refl 0) rfl ⟨_, _, rfl, rfl, rfl, hw⟩
    · skip
      obtain ⟨h15, h16, hT17, hN18⟩ := hw
      refine g_icmp_ge hE (tgt := 87) dX4_digits_34 (by decide) h15 h16 (fun q => ?_) (fun q => ?_)
      · have hw := hT17 q
        refine g_aldn0 hE dX4_digits_37 ?_
        refine gm_geti hE hM hT 30 (by decide) rfl q2170 dX4_digits_38 ?_
        obtain ⟨h11, h12, hT13, hN14⟩ := hw
        refine g_if_ne hE (tgt := 87) dX4_digits_41 (by decide) h11 (fun q => ?_) (fun q => ?_)
        · have hw := hT13 q
          refine g_aldn0 hE dX4_digits_44 ?_
          refine gm_cVi hE hR hM hT (As := []) (t4_sign M hM z hw) (lw_V q2495 q2497 qs78 q108 q2498) hd_X4_sign ⟨by decide, by decide⟩ rfl (Nat.le_of_ble_eq_true rfl) dX4_digits_45 rfl (fun r6 hw => ?_)
          refine g_bipush hE dX4_digits_48 (by decide) ?_
          refine g_bipush hE dX4_digits_50 (by decide) ?_
          obtain ⟨h7, hw⟩ := hw
          refine gm_cSi hE hR hM hT (As := [aI r6, aI 48, aI 57]) (t4_isIn M hM z (s4_isIn h7 (by decide) (by decide))) (lw_S q2257 q2258 q108 q2259) hd_X4_isIn ⟨by decide, by decide⟩ rfl (Nat.le_of_ble_eq_true rfl) dX4_digits_52 rfl (fun r8 hr8 => ?_)
          subst hr8
          refine g_if_eq hE (tgt := 87) dX4_digits_55 (by decide) bI_in (fun q => ?_) (fun q => ?_)
          · have hw := hw.2 (bI_eq0.mp q)
            exact hj_87  hw
          · have hw := hw.1 (bI_ne0.mp q)
            refine g_bipush hE dX4_digits_58 (by decide) ?_
            refine g_ildn2 hE dX4_digits_60 ?_
            refine g_imul hE dX4_digits_61 ?_
            refine g_aldn0 hE dX4_digits_62 ?_
            refine gm_cVi hE hR hM hT (As := []) (t4_sign M hM z hw) (lw_V q2495 q2497 qs78 q108 q2498) hd_X4_sign ⟨by decide, by decide⟩ rfl (Nat.le_of_ble_eq_true rfl) dX4_digits_63 rfl (fun r9 hw => ?_)
            refine g_iadd hE dX4_digits_66 ?_
            refine g_bipush hE dX4_digits_67 (by decide) ?_
            refine g_isub hE dX4_digits_69 ?_
            refine g_istn2 hE dX4_digits_70 (by decide) rfl ?_
            refine g_aldn0 hE dX4_digits_71 ?_
            refine g_dup hE dX4_digits_72 rfl ?_
            refine gm_geti hE hM hT 28 (by decide) rfl q2168 dX4_digits_73 ?_
            refine g_iconst hE dX4_digits_76 ?_
            refine g_iadd hE dX4_digits_77 ?_
            refine gm_put hE hM hT 28 (by decide) rfl q2168 rfl (ty := .int) (by decide +kernel) rfl rfl dX4_digits_78 ?_
            have hw := hw _ rfl
            generalize uF F_32 28 ((F_32 28) + 1) = F10 at hw ⊢
            refine g_iinc3 hE dX4_digits_81 (by decide) rfl ?_
            refine g_goto hE (tgt := 32) dX4_digits_84 (by decide) ?_
            exact hk_32 _ _ _ hw
        · have hw := hN14 q
          exact hj_87  hw
      · have hw := hN18 q
        exact hj_87  hw
  · skip
    refine g_if_ne hE (tgt := 23) dX4_digits_16 (by decide) bI_in (fun q => ?_) (fun q => ?_)
    · have hw := hw.2 (bI_eq0.mp q)
      refine g_iconst hE dX4_digits_19 ?_
      refine g_goto hE (tgt := 24) dX4_digits_20 (by decide) ?_
      exact hj_24 _ hw
    · have hw := hw.1 (bI_ne0.mp q)
      refine g_iconst hE dX4_digits_23 ?_
      exact hj_24 _ hw

/-- part(I)V -/
def w4_part (x1 : Int) (F : mF) (A : mA) (Q : mF → mA → Prop) : Prop :=
  jn2 (fun (F_66 : mF) (A_66 : mA) => 
      jn2 (fun (F_102 : mF) (A_102 : mA) => 
          Q F_102 A_102)
        (fun (j_102 : mF → mA → Prop) =>
        cEq (F_66 30) 0
          (
          jn1 (fun (y2_96 : Int) => 
              w4_digits y2_96 F_66 A_66 (fun (r1 : Int) (F2 : mF) =>
              w4_tells r1 F2 A_66 (fun (F3 : mF) (A4 : mA) =>
              j_102 F3 A4)))
            (fun (j_96 : Int → Prop) =>
            cEq x1 100
              (
              j_96 1)
              (
              cEq x1 99
                (
                j_96 2)
                (
                j_96 3))))
          (
          j_102 F_66 A_66)))
    (fun (j_66 : mF → mA → Prop) =>
    cEq x1 99
      (
      w4_sign  F A (fun (r17 : Int) =>
      inR r17 ∧
      jn1 (fun (y2_30 : Int) => 
          bl (bOr (F 30) y2_30) ∧ ∀ F20 : mF, F20 = uF F 30 (bOr (F 30) y2_30) →
          w4_sign  F20 A (fun (r22 : Int) =>
          w4_tells (r22 - 97) F20 A (fun (F23 : mF) (A24 : mA) =>
          jn1 (fun (y2_62 : Int) => 
              ∀ F25 : mF, F25 = uF F23 28 ((F23 28) + y2_62) →
              j_66 F25 A24)
            (fun (j_62 : Int → Prop) =>
            cEq (F23 30) 0
              (
              j_62 1)
              (
              j_62 0)))))
        (fun (j_30 : Int → Prop) =>
        cIf (97 ≤ r17 ∧ r17 ≤ 112)
          (
          j_30 0)
          (
          j_30 1))))
      (
      j_66 F A))
theorem hd_X4_part : yX4_part.cls = RX4 ∧ yX4_part.cls ≠ "java/lang/invoke/MethodHandle" ∧ yX4_part.cls ≠ "java/lang/invoke/VarHandle" ∧ (parseMethodDescriptor yX4_part.desc).map (fun d => d.parameters.length) = some 1 := by decide +kernel
set_option maxHeartbeats 4000000 in
theorem t4_part (M : MT) (hM : OkM M) (z : Nat) {x1 : Int} {F : mF} {A : mA} {Q : mF → mA → Prop} (hw : w4_part x1 F A Q) : CtM M z yX4_part cX4_part 2 none (k2_rm 2 45) [aR (some (oM M)), aI x1] F A (PMvFA M z Q) := by
  refine Ct.intro (by decide) (Nat.le_of_ble_eq_true rfl) (fun E hE hR hT => ?_)
  have hT : TM E M := hT
  have hE : OkE E RX4 cX4_part 2 none := hE
  show G E (wsM M F A) (some z) 0 0 0 [some (aR (some (oM M))), some (aI x1)] []
  unfold w4_part at hw
  refine g_ildn1 hE dX4_part_0 ?_
  refine g_bipush hE dX4_part_1 (by decide) ?_
  refine jn2_walk (fun (F_66 : mF) (A_66 : mA) => G E (wsM M F_66 A_66) (some z) 0 0 66 [some (aR (some (oM M))), some (aI x1)] []) hw (fun F_66 A_66 hw => ?_) (fun j_66 hj_66 hw => ?_)
  · skip
    refine g_aldn0 hE dX4_part_66 ?_
    refine gm_geti hE hM hT 30 (by decide) rfl q2170 dX4_part_67 ?_
    refine jn2_walk (fun (F_102 : mF) (A_102 : mA) => G E (wsM M F_102 A_102) (some z) 0 0 102 [some (aR (some (oM M))), some (aI x1)] []) hw (fun F_102 A_102 hw => ?_) (fun j_102 hj_102 hw => ?_)
    · skip
      exact g_vret hE hR dX4_part_102 (Nat.le_refl 0) (Nat.le_refl 0) ⟨_, _, rfl, rfl, rfl, hw⟩
    · skip
      obtain ⟨h13, h14, hT15, hN16⟩ := hw
      refine g_if_ne hE (tgt := 102) dX4_part_70 (by decide) h13 (fun q => ?_) (fun q => ?_)
      · have hw := hT15 q
        refine g_aldn0 hE dX4_part_73 ?_
        refine g_aldn0 hE dX4_part_74 ?_
        refine g_ildn1 hE dX4_part_75 ?_
        refine g_bipush hE dX4_part_76 (by decide) ?_
        refine jn1_walk (fun (y2_96 : Int) => G E (wsM M F_66 A_66) (some z) 0 0 96 [some (aR (some (oM M))), some (aI x1)] [aI y2_96, aR (some (oM M)), aR (some (oM M))]) hw (fun y2_96 hw => ?_) (fun j_96 hj_96 hw => ?_)
        · skip
          refine gm_cViF hE hR hM hT (As := [aI y2_96]) (t4_digits M hM z hw) (lw_V q2511 q2513 qs82 q108 q2514) hd_X4_digits ⟨by decide, by decide⟩ rfl (Nat.le_of_ble_eq_true rfl) dX4_part_96 rfl (fun r1 F2 hw => ?_)
          refine gm_cVvFA hE hR hM hT (As := [aI r1]) (t4_tells M hM z hw) (lw_V q2507 q2509 qs81 q108 q2510) hd_X4_tells ⟨by decide, by decide⟩ rfl (Nat.le_of_ble_eq_true rfl) dX4_part_99 rfl (fun F3 A4 hw => ?_)
          exact hj_102 _ _ hw
        · skip
          obtain ⟨h9, h10, hT11, hN12⟩ := hw
          refine g_icmp_ne hE (tgt := 85) dX4_part_78 (by decide) h9 h10 (fun q => ?_) (fun q => ?_)
          · have hw := hT11 q
            refine g_iconst hE dX4_part_81 ?_
            refine g_goto hE (tgt := 96) dX4_part_82 (by decide) ?_
            exact hj_96 _ hw
          · have hw := hN12 q
            refine g_ildn1 hE dX4_part_85 ?_
            refine g_bipush hE dX4_part_86 (by decide) ?_
            obtain ⟨h5, h6, hT7, hN8⟩ := hw
            refine g_icmp_ne hE (tgt := 95) dX4_part_88 (by decide) h5 h6 (fun q => ?_) (fun q => ?_)
            · have hw := hT7 q
              refine g_iconst hE dX4_part_91 ?_
              refine g_goto hE (tgt := 96) dX4_part_92 (by decide) ?_
              exact hj_96 _ hw
            · have hw := hN8 q
              refine g_iconst hE dX4_part_95 ?_
              exact hj_96 _ hw
      · have hw := hN16 q
        exact hj_102 _ _ hw
  · skip
    obtain ⟨h30, h31, hT32, hN33⟩ := hw
    refine g_icmp_ne hE (tgt := 66) dX4_part_3 (by decide) h30 h31 (fun q => ?_) (fun q => ?_)
    · have hw := hT32 q
      refine g_aldn0 hE dX4_part_6 ?_
      refine g_dup hE dX4_part_7 rfl ?_
      refine gm_geti hE hM hT 30 (by decide) rfl q2170 dX4_part_8 ?_
      refine g_aldn0 hE dX4_part_11 ?_
      refine gm_cVi hE hR hM hT (As := []) (t4_sign M hM z hw) (lw_V q2495 q2497 qs78 q108 q2498) hd_X4_sign ⟨by decide, by decide⟩ rfl (Nat.le_of_ble_eq_true rfl) dX4_part_12 rfl (fun r17 hw => ?_)
      refine g_bipush hE dX4_part_15 (by decide) ?_
      refine g_bipush hE dX4_part_17 (by decide) ?_
      obtain ⟨h18, hw⟩ := hw
      refine gm_cSi hE hR hM hT (As := [aI r17, aI 97, aI 112]) (t4_isIn M hM z (s4_isIn h18 (by decide) (by decide))) (lw_S q2257 q2258 q108 q2259) hd_X4_isIn ⟨by decide, by decide⟩ rfl (Nat.le_of_ble_eq_true rfl) dX4_part_19 rfl (fun r19 hr19 => ?_)
      subst hr19
      refine jn1_walk (fun (y2_30 : Int) => G E (wsM M F A) (some z) 0 0 30 [some (aR (some (oM M))), some (aI x1)] [aI y2_30, aI (F 30), aR (some (oM M))]) hw (fun y2_30 hw => ?_) (fun j_30 hj_30 hw => ?_)
      · skip
        refine g_ior hE dX4_part_30 ?_
        obtain ⟨h21, hw⟩ := hw
        refine gm_put hE hM hT 30 (by decide) rfl q2170 rfl (ty := .boolean) (by decide +kernel) (narrow_bl h21) (fits_bl h21) dX4_part_31 ?_
        have hw := hw _ rfl
        generalize uF F 30 (bOr (F 30) y2_30) = F20 at hw ⊢
        refine g_aldn0 hE dX4_part_34 ?_
        refine g_aldn0 hE dX4_part_35 ?_
        refine gm_cVi hE hR hM hT (As := []) (t4_sign M hM z hw) (lw_V q2495 q2497 qs78 q108 q2498) hd_X4_sign ⟨by decide, by decide⟩ rfl (Nat.le_of_ble_eq_true rfl) dX4_part_36 rfl (fun r22 hw => ?_)
        refine g_bipush hE dX4_part_39 (by decide) ?_
        refine g_isub hE dX4_part_41 ?_
        refine gm_cVvFA hE hR hM hT (As := [aI (r22 - 97)]) (t4_tells M hM z hw) (lw_V q2507 q2509 qs81 q108 q2510) hd_X4_tells ⟨by decide, by decide⟩ rfl (Nat.le_of_ble_eq_true rfl) dX4_part_42 rfl (fun F23 A24 hw => ?_)
        refine g_aldn0 hE dX4_part_45 ?_
        refine g_dup hE dX4_part_46 rfl ?_
        refine gm_geti hE hM hT 28 (by decide) rfl q2168 dX4_part_47 ?_
        refine g_aldn0 hE dX4_part_50 ?_
        refine gm_geti hE hM hT 30 (by decide) rfl q2170 dX4_part_51 ?_
        refine jn1_walk (fun (y2_62 : Int) => G E (wsM M F23 A24) (some z) 0 0 62 [some (aR (some (oM M))), some (aI x1)] [aI y2_62, aI (F23 28), aR (some (oM M))]) hw (fun y2_62 hw => ?_) (fun j_62 hj_62 hw => ?_)
        · skip
          refine g_iadd hE dX4_part_62 ?_
          refine gm_put hE hM hT 28 (by decide) rfl q2168 rfl (ty := .int) (by decide +kernel) rfl rfl dX4_part_63 ?_
          have hw := hw _ rfl
          generalize uF F23 28 ((F23 28) + y2_62) = F25 at hw ⊢
          exact hj_66 _ _ hw
        · skip
          obtain ⟨h26, h27, hT28, hN29⟩ := hw
          refine g_if_eq hE (tgt := 61) dX4_part_54 (by decide) h26 (fun q => ?_) (fun q => ?_)
          · have hw := hT28 q
            refine g_iconst hE dX4_part_61 ?_
            exact hj_62 _ hw
          · have hw := hN29 q
            refine g_iconst hE dX4_part_57 ?_
            refine g_goto hE (tgt := 62) dX4_part_58 (by decide) ?_
            exact hj_62 _ hw
      · skip
        refine g_if_ne hE (tgt := 29) dX4_part_22 (by decide) bI_in (fun q => ?_) (fun q => ?_)
        · have hw := hw.2 (bI_eq0.mp q)
          refine g_iconst hE dX4_part_25 ?_
          refine g_goto hE (tgt := 30) dX4_part_26 (by decide) ?_
          exact hj_30 _ hw
        · have hw := hw.1 (bI_ne0.mp q)
          refine g_iconst hE dX4_part_29 ?_
          exact hj_30 _ hw
    · have hw := hN33 q
      exact hj_66 _ _ hw

/-- cellTold(I)I -/
def w4_cellTold (x1 : Int) (F : mF) (A : mA) (Q : Int → Prop) : Prop :=
  ib (x1 + 1) 5 ∧
  ib x1 5 ∧
  Q ((16 * (A 24 (x1 + 1))) + (A 24 x1))
theorem hd_X4_cellTold : yX4_cellTold.cls = RX4 ∧ yX4_cellTold.cls ≠ "java/lang/invoke/MethodHandle" ∧ yX4_cellTold.cls ≠ "java/lang/invoke/VarHandle" ∧ (parseMethodDescriptor yX4_cellTold.desc).map (fun d => d.parameters.length) = some 1 := by decide +kernel
set_option maxHeartbeats 4000000 in
theorem t4_cellTold (M : MT) (hM : OkM M) (z : Nat) {x1 : Int} {F : mF} {A : mA} {Q : Int → Prop} (hw : w4_cellTold x1 F A Q) : CtM M z yX4_cellTold cX4_cellTold 2 (some .int) (k2_rm 0 0) [aR (some (oM M)), aI x1] F A (PMi M z F A Q) := by
  refine Ct.intro (by decide) (Nat.le_of_ble_eq_true rfl) (fun E hE hR hT => ?_)
  have hT : TM E M := hT
  have hE : OkE E RX4 cX4_cellTold 2 (some .int) := hE
  show G E (wsM M F A) (some z) 0 0 0 [some (aR (some (oM M))), some (aI x1)] []
  unfold w4_cellTold at hw
  refine g_bipush hE dX4_cellTold_0 (by decide) ?_
  refine g_aldn0 hE dX4_cellTold_2 ?_
  refine gm_geta hE hM hT 24 (by decide) rfl q2164 dX4_cellTold_3 ?_
  refine g_ildn1 hE dX4_cellTold_6 ?_
  refine g_iconst hE dX4_cellTold_7 ?_
  refine g_iadd hE dX4_cellTold_8 ?_
  obtain ⟨h1, hw⟩ := hw
  refine gm_iald hE hM hT 24 rfl h1 dX4_cellTold_9 ?_
  refine g_imul hE dX4_cellTold_10 ?_
  refine g_aldn0 hE dX4_cellTold_11 ?_
  refine gm_geta hE hM hT 24 (by decide) rfl q2164 dX4_cellTold_12 ?_
  refine g_ildn1 hE dX4_cellTold_15 ?_
  obtain ⟨h2, hw⟩ := hw
  refine gm_iald hE hM hT 24 rfl h2 dX4_cellTold_16 ?_
  refine g_iadd hE dX4_cellTold_17 ?_
  exact g_iret hE hR dX4_cellTold_18 (Nat.le_refl 0) (Nat.le_refl 0) rfl ⟨_, rfl, rfl, rfl, hw⟩

/-- lies(I)I -/
def w4_lies (x1 : Int) (F : mF) (A : mA) (Q : Int → mF → mA → Prop) : Prop :=
  jn3 (fun (y0_44 : Int) (F_44 : mF) (A_44 : mA) => 
      Q y0_44 F_44 A_44)
    (fun (j_44 : Int → mF → mA → Prop) =>
    cLt 11 (A 24 1)
      (
      w4_refuses 8 (A 24 1) F A (fun (r1 : Int) (F2 : mF) =>
      j_44 r1 F2 A))
      (
      w4_cellTold 0 F A (fun (r3 : Int) =>
      jn1 (fun (y2_41 : Int) => 
          w4_lands r3 y2_41 F A (fun (r4 : Int) (F5 : mF) (A6 : mA) =>
          j_44 r4 F5 A6))
        (fun (j_41 : Int → Prop) =>
        cEq x1 0
          (
          j_41 1)
          (
          j_41 0)))))
theorem hd_X4_lies : yX4_lies.cls = RX4 ∧ yX4_lies.cls ≠ "java/lang/invoke/MethodHandle" ∧ yX4_lies.cls ≠ "java/lang/invoke/VarHandle" ∧ (parseMethodDescriptor yX4_lies.desc).map (fun d => d.parameters.length) = some 1 := by decide +kernel
set_option maxHeartbeats 4000000 in
theorem t4_lies (M : MT) (hM : OkM M) (z : Nat) {x1 : Int} {F : mF} {A : mA} {Q : Int → mF → mA → Prop} (hw : w4_lies x1 F A Q) : CtM M z yX4_lies cX4_lies 2 (some .int) (k2_rm 4 90) [aR (some (oM M)), aI x1] F A (PMiFA M z Q) := by
  refine Ct.intro (by decide) (Nat.le_of_ble_eq_true rfl) (fun E hE hR hT => ?_)
  have hT : TM E M := hT
  have hE : OkE E RX4 cX4_lies 2 (some .int) := hE
  show G E (wsM M F A) (some z) 0 0 0 [some (aR (some (oM M))), some (aI x1)] []
  unfold w4_lies at hw
  refine g_aldn0 hE dX4_lies_0 ?_
  refine gm_geta hE hM hT 24 (by decide) rfl q2164 dX4_lies_1 ?_
  refine g_iconst hE dX4_lies_4 ?_
  refine gm_iald hE hM hT 24 rfl (by decide) dX4_lies_5 ?_
  refine g_bipush hE dX4_lies_6 (by decide) ?_
  refine jn3_walk (fun (y0_44 : Int) (F_44 : mF) (A_44 : mA) => G E (wsM M F_44 A_44) (some z) 0 0 44 [some (aR (some (oM M))), some (aI x1)] [aI y0_44]) hw (fun y0_44 F_44 A_44 hw => ?_) (fun j_44 hj_44 hw => ?_)
  · skip
    exact g_iret hE hR dX4_lies_44 (Nat.le_refl 0) (Nat.le_refl 0) rfl ⟨_, _, _, rfl, rfl, rfl, hw⟩
  · skip
    obtain ⟨h11, h12, hT13, hN14⟩ := hw
    refine g_icmp_le hE (tgt := 26) dX4_lies_8 (by decide) h12 h11 (fun q => ?_) (fun q => ?_)
    · have hw := hT13 q
      refine g_aldn0 hE dX4_lies_11 ?_
      refine g_bipush hE dX4_lies_12 (by decide) ?_
      refine g_aldn0 hE dX4_lies_14 ?_
      refine gm_geta hE hM hT 24 (by decide) rfl q2164 dX4_lies_15 ?_
      refine g_iconst hE dX4_lies_18 ?_
      refine gm_iald hE hM hT 24 rfl (by decide) dX4_lies_19 ?_
      refine gm_cViF hE hR hM hT (As := [aI 8, aI (A 24 1)]) (t4_refuses M hM z hw) (lw_V q2278 q2280 qs50 q108 q2281) hd_X4_refuses ⟨by decide, by decide⟩ rfl (Nat.le_of_ble_eq_true rfl) dX4_lies_20 rfl (fun r1 F2 hw => ?_)
      refine g_goto hE (tgt := 44) dX4_lies_23 (by decide) ?_
      exact hj_44 _ _ _ hw
    · have hw := hN14 q
      refine g_aldn0 hE dX4_lies_26 ?_
      refine g_aldn0 hE dX4_lies_27 ?_
      refine g_iconst hE dX4_lies_28 ?_
      refine gm_cVi hE hR hM hT (As := [aI 0]) (t4_cellTold M hM z hw) (lw_V q2523 q2525 qs85 q108 q2526) hd_X4_cellTold ⟨by decide, by decide⟩ rfl (Nat.le_of_ble_eq_true rfl) dX4_lies_29 rfl (fun r3 hw => ?_)
      refine g_ildn1 hE dX4_lies_32 ?_
      refine jn1_walk (fun (y2_41 : Int) => G E (wsM M F A) (some z) 0 0 41 [some (aR (some (oM M))), some (aI x1)] [aI y2_41, aI r3, aR (some (oM M))]) hw (fun y2_41 hw => ?_) (fun j_41 hj_41 hw => ?_)
      · skip
        refine gm_cViFA hE hR hM hT (As := [aI r3, aI y2_41]) (t4_lands M hM z hw) (lw_V q2260 q2262 qs47 q108 q2263) hd_X4_lands ⟨by decide, by decide⟩ rfl (Nat.le_of_ble_eq_true rfl) dX4_lies_41 rfl (fun r4 F5 A6 hw => ?_)
        exact hj_44 _ _ _ hw
      · skip
        obtain ⟨h7, h8, hT9, hN10⟩ := hw
        refine g_if_ne hE (tgt := 40) dX4_lies_33 (by decide) h7 (fun q => ?_) (fun q => ?_)
        · have hw := hT9 q
          refine g_iconst hE dX4_lies_36 ?_
          refine g_goto hE (tgt := 41) dX4_lies_37 (by decide) ?_
          exact hj_41 _ hw
        · have hw := hN10 q
          refine g_iconst hE dX4_lies_40 ?_
          exact hj_41 _ hw

/-- speeds()I -/
def w4_speeds  (F : mF) (A : mA) (Q : Int → mF → mA → Prop) : Prop :=
  inR (A 24 0) ∧
  cIf (1 ≤ (A 24 0) ∧ (A 24 0) ≤ 9)
    (
    ∀ A3 : mA, A3 = uA A 0 0 (A 24 0) →
    Q 0 F A3)
    (
    w4_refuses 8 (A 24 0) F A (fun (r4 : Int) (F5 : mF) =>
    Q r4 F5 A))
theorem hd_X4_speeds : yX4_speeds.cls = RX4 ∧ yX4_speeds.cls ≠ "java/lang/invoke/MethodHandle" ∧ yX4_speeds.cls ≠ "java/lang/invoke/VarHandle" ∧ (parseMethodDescriptor yX4_speeds.desc).map (fun d => d.parameters.length) = some 0 := by decide +kernel
set_option maxHeartbeats 4000000 in
theorem t4_speeds (M : MT) (hM : OkM M) (z : Nat)  {F : mF} {A : mA} {Q : Int → mF → mA → Prop} (hw : w4_speeds F A Q) : CtM M z yX4_speeds cX4_speeds 1 (some .int) (k2_rm 1 22) [aR (some (oM M))] F A (PMiFA M z Q) := by
  refine Ct.intro (by decide) (Nat.le_of_ble_eq_true rfl) (fun E hE hR hT => ?_)
  have hT : TM E M := hT
  have hE : OkE E RX4 cX4_speeds 1 (some .int) := hE
  show G E (wsM M F A) (some z) 0 0 0 [some (aR (some (oM M)))] []
  unfold w4_speeds at hw
  refine g_aldn0 hE dX4_speeds_0 ?_
  refine gm_geta hE hM hT 24 (by decide) rfl q2164 dX4_speeds_1 ?_
  refine g_iconst hE dX4_speeds_4 ?_
  refine gm_iald hE hM hT 24 rfl (by decide) dX4_speeds_5 ?_
  refine g_iconst hE dX4_speeds_6 ?_
  refine g_bipush hE dX4_speeds_7 (by decide) ?_
  obtain ⟨h1, hw⟩ := hw
  refine gm_cSi hE hR hM hT (As := [aI (A 24 0), aI 1, aI 9]) (t4_isIn M hM z (s4_isIn h1 (by decide) (by decide))) (lw_S q2257 q2258 q108 q2259) hd_X4_isIn ⟨by decide, by decide⟩ rfl (Nat.le_of_ble_eq_true rfl) dX4_speeds_9 rfl (fun r2 hr2 => ?_)
  subst hr2
  refine g_if_ne hE (tgt := 28) dX4_speeds_12 (by decide) bI_in (fun q => ?_) (fun q => ?_)
  · have hw := hw.2 (bI_eq0.mp q)
    refine g_aldn0 hE dX4_speeds_15 ?_
    refine g_bipush hE dX4_speeds_16 (by decide) ?_
    refine g_aldn0 hE dX4_speeds_18 ?_
    refine gm_geta hE hM hT 24 (by decide) rfl q2164 dX4_speeds_19 ?_
    refine g_iconst hE dX4_speeds_22 ?_
    refine gm_iald hE hM hT 24 rfl (by decide) dX4_speeds_23 ?_
    refine gm_cViF hE hR hM hT (As := [aI 8, aI (A 24 0)]) (t4_refuses M hM z hw) (lw_V q2278 q2280 qs50 q108 q2281) hd_X4_refuses ⟨by decide, by decide⟩ rfl (Nat.le_of_ble_eq_true rfl) dX4_speeds_24 rfl (fun r4 F5 hw => ?_)
    exact g_iret hE hR dX4_speeds_27 (Nat.le_refl 0) (Nat.le_refl 0) rfl ⟨_, _, _, rfl, rfl, rfl, hw⟩
  · have hw := hw.1 (bI_ne0.mp q)
    refine g_aldn0 hE dX4_speeds_28 ?_
    refine gm_geta hE hM hT 0 (by decide) rfl q2140 dX4_speeds_29 ?_
    refine g_iconst hE dX4_speeds_32 ?_
    refine g_aldn0 hE dX4_speeds_33 ?_
    refine gm_geta hE hM hT 24 (by decide) rfl q2164 dX4_speeds_34 ?_
    refine g_iconst hE dX4_speeds_37 ?_
    refine gm_iald hE hM hT 24 rfl (by decide) dX4_speeds_38 ?_
    refine gm_iast hE hM hT 0 rfl (by decide) dX4_speeds_39 ?_
    have hw := hw _ rfl
    generalize uA A 0 0 (A 24 0) = A3 at hw ⊢
    refine g_iconst hE dX4_speeds_40 ?_
    exact g_iret hE hR dX4_speeds_41 (Nat.le_refl 0) (Nat.le_refl 0) rfl ⟨_, _, _, rfl, rfl, rfl, hw⟩

/-- pagesTold()I -/
def w4_pagesTold  (F : mF) (A : mA) (Q : Int → mF → mA → Prop) : Prop :=
  cLt 2 (A 24 0)
    (
    w4_refuses 8 (A 24 0) F A (fun (r1 : Int) (F2 : mF) =>
    Q r1 F2 A))
    (
    jn3 (fun (y0_65 : Int) (F_65 : mF) (A_65 : mA) => 
        Q y0_65 F_65 A_65)
      (fun (j_65 : Int → mF → mA → Prop) =>
      cLt 99 (A 24 1)
        (
        w4_refuses 8 (A 24 1) F A (fun (r3 : Int) (F4 : mF) =>
        j_65 r3 F4 A))
        (
        w4_comes (A 24 0) (A 24 1) F A (fun (r5 : Int) (F6 : mF) (A7 : mA) =>
        j_65 r5 F6 A7))))
theorem hd_X4_pagesTold : yX4_pagesTold.cls = RX4 ∧ yX4_pagesTold.cls ≠ "java/lang/invoke/MethodHandle" ∧ yX4_pagesTold.cls ≠ "java/lang/invoke/VarHandle" ∧ (parseMethodDescriptor yX4_pagesTold.desc).map (fun d => d.parameters.length) = some 0 := by decide +kernel
set_option maxHeartbeats 4000000 in
theorem t4_pagesTold (M : MT) (hM : OkM M) (z : Nat)  {F : mF} {A : mA} {Q : Int → mF → mA → Prop} (hw : w4_pagesTold F A Q) : CtM M z yX4_pagesTold cX4_pagesTold 1 (some .int) (k2_rm 2 46) [aR (some (oM M))] F A (PMiFA M z Q) := by
  refine Ct.intro (by decide) (Nat.le_of_ble_eq_true rfl) (fun E hE hR hT => ?_)
  have hT : TM E M := hT
  have hE : OkE E RX4 cX4_pagesTold 1 (some .int) := hE
  show G E (wsM M F A) (some z) 0 0 0 [some (aR (some (oM M)))] []
  unfold w4_pagesTold at hw
  refine g_aldn0 hE dX4_pagesTold_0 ?_
  refine gm_geta hE hM hT 24 (by decide) rfl q2164 dX4_pagesTold_1 ?_
  refine g_iconst hE dX4_pagesTold_4 ?_
  refine gm_iald hE hM hT 24 rfl (by decide) dX4_pagesTold_5 ?_
  refine g_iconst hE dX4_pagesTold_6 ?_
  obtain ⟨h12, h13, hT14, hN15⟩ := hw
  refine g_icmp_le hE (tgt := 23) dX4_pagesTold_7 (by decide) h13 h12 (fun q => ?_) (fun q => ?_)
  · have hw := hT14 q
    refine g_aldn0 hE dX4_pagesTold_10 ?_
    refine g_bipush hE dX4_pagesTold_11 (by decide) ?_
    refine g_aldn0 hE dX4_pagesTold_13 ?_
    refine gm_geta hE hM hT 24 (by decide) rfl q2164 dX4_pagesTold_14 ?_
    refine g_iconst hE dX4_pagesTold_17 ?_
    refine gm_iald hE hM hT 24 rfl (by decide) dX4_pagesTold_18 ?_
    refine gm_cViF hE hR hM hT (As := [aI 8, aI (A 24 0)]) (t4_refuses M hM z hw) (lw_V q2278 q2280 qs50 q108 q2281) hd_X4_refuses ⟨by decide, by decide⟩ rfl (Nat.le_of_ble_eq_true rfl) dX4_pagesTold_19 rfl (fun r1 F2 hw => ?_)
    exact g_iret hE hR dX4_pagesTold_22 (Nat.le_refl 0) (Nat.le_refl 0) rfl ⟨_, _, _, rfl, rfl, rfl, hw⟩
  · have hw := hN15 q
    refine g_aldn0 hE dX4_pagesTold_23 ?_
    refine gm_geta hE hM hT 24 (by decide) rfl q2164 dX4_pagesTold_24 ?_
    refine g_iconst hE dX4_pagesTold_27 ?_
    refine gm_iald hE hM hT 24 rfl (by decide) dX4_pagesTold_28 ?_
    refine g_bipush hE dX4_pagesTold_29 (by decide) ?_
    refine jn3_walk (fun (y0_65 : Int) (F_65 : mF) (A_65 : mA) => G E (wsM M F_65 A_65) (some z) 0 0 65 [some (aR (some (oM M)))] [aI y0_65]) hw (fun y0_65 F_65 A_65 hw => ?_) (fun j_65 hj_65 hw => ?_)
    · skip
      exact g_iret hE hR dX4_pagesTold_65 (Nat.le_refl 0) (Nat.le_refl 0) rfl ⟨_, _, _, rfl, rfl, rfl, hw⟩
    · skip
      obtain ⟨h8, h9, hT10, hN11⟩ := hw
      refine g_icmp_le hE (tgt := 49) dX4_pagesTold_31 (by decide) h9 h8 (fun q => ?_) (fun q => ?_)
      · have hw := hT10 q
        refine g_aldn0 hE dX4_pagesTold_34 ?_
        refine g_bipush hE dX4_pagesTold_35 (by decide) ?_
        refine g_aldn0 hE dX4_pagesTold_37 ?_
        refine gm_geta hE hM hT 24 (by decide) rfl q2164 dX4_pagesTold_38 ?_
        refine g_iconst hE dX4_pagesTold_41 ?_
        refine gm_iald hE hM hT 24 rfl (by decide) dX4_pagesTold_42 ?_
        refine gm_cViF hE hR hM hT (As := [aI 8, aI (A 24 1)]) (t4_refuses M hM z hw) (lw_V q2278 q2280 qs50 q108 q2281) hd_X4_refuses ⟨by decide, by decide⟩ rfl (Nat.le_of_ble_eq_true rfl) dX4_pagesTold_43 rfl (fun r3 F4 hw => ?_)
        refine g_goto hE (tgt := 65) dX4_pagesTold_46 (by decide) ?_
        exact hj_65 _ _ _ hw
      · have hw := hN11 q
        refine g_aldn0 hE dX4_pagesTold_49 ?_
        refine g_aldn0 hE dX4_pagesTold_50 ?_
        refine gm_geta hE hM hT 24 (by decide) rfl q2164 dX4_pagesTold_51 ?_
        refine g_iconst hE dX4_pagesTold_54 ?_
        refine gm_iald hE hM hT 24 rfl (by decide) dX4_pagesTold_55 ?_
        refine g_aldn0 hE dX4_pagesTold_56 ?_
        refine gm_geta hE hM hT 24 (by decide) rfl q2164 dX4_pagesTold_57 ?_
        refine g_iconst hE dX4_pagesTold_60 ?_
        refine gm_iald hE hM hT 24 rfl (by decide) dX4_pagesTold_61 ?_
        refine gm_cViFA hE hR hM hT (As := [aI (A 24 0), aI (A 24 1)]) (t4_comes M hM z hw) (lw_V q2311 q2313 qs54 q108 q2314) hd_X4_comes ⟨by decide, by decide⟩ rfl (Nat.le_of_ble_eq_true rfl) dX4_pagesTold_62 rfl (fun r5 F6 A7 hw => ?_)
        exact hj_65 _ _ _ hw

/-- enters()I -/
def w4_enters  (F : mF) (A : mA) (Q : Int → mF → mA → Prop) : Prop :=
  w4_isPage (A 24 0) F A (fun (r1 : Int) =>
  cEq r1 0
    (
    w4_refuses 1 (A 24 0) F A (fun (r2 : Int) (F3 : mF) =>
    Q r2 F3 A))
    (
    cLt (A 24 4) 6
      (
      jn3 (fun (y0_101 : Int) (F_101 : mF) (A_101 : mA) => 
          Q y0_101 F_101 A_101)
        (fun (j_101 : Int → mF → mA → Prop) =>
        cLt 11 (A 24 3)
          (
          w4_refuses 8 (A 24 3) F A (fun (r4 : Int) (F5 : mF) =>
          j_101 r4 F5 A))
          (
          w4_cellTold 2 F A (fun (r6 : Int) =>
          w4_adds (A 24 0) (A 24 1) r6 (A 24 4) F A (fun (r7 : Int) (F8 : mF) (A9 : mA) =>
          j_101 r7 F8 A9)))))
      (
      w4_refuses 1 (A 24 4) F A (fun (r14 : Int) (F15 : mF) =>
      Q r14 F15 A))))
theorem hd_X4_enters : yX4_enters.cls = RX4 ∧ yX4_enters.cls ≠ "java/lang/invoke/MethodHandle" ∧ yX4_enters.cls ≠ "java/lang/invoke/VarHandle" ∧ (parseMethodDescriptor yX4_enters.desc).map (fun d => d.parameters.length) = some 0 := by decide +kernel
set_option maxHeartbeats 4000000 in
theorem t4_enters (M : MT) (hM : OkM M) (z : Nat)  {F : mF} {A : mA} {Q : Int → mF → mA → Prop} (hw : w4_enters F A Q) : CtM M z yX4_enters cX4_enters 1 (some .int) (k2_rm 2 47) [aR (some (oM M))] F A (PMiFA M z Q) := by
  refine Ct.intro (by decide) (Nat.le_of_ble_eq_true rfl) (fun E hE hR hT => ?_)
  have hT : TM E M := hT
  have hE : OkE E RX4 cX4_enters 1 (some .int) := hE
  show G E (wsM M F A) (some z) 0 0 0 [some (aR (some (oM M)))] []
  unfold w4_enters at hw
  refine g_aldn0 hE dX4_enters_0 ?_
  refine g_aldn0 hE dX4_enters_1 ?_
  refine gm_geta hE hM hT 24 (by decide) rfl q2164 dX4_enters_2 ?_
  refine g_iconst hE dX4_enters_5 ?_
  refine gm_iald hE hM hT 24 rfl (by decide) dX4_enters_6 ?_
  refine gm_cVi hE hR hM hT (As := [aI (A 24 0)]) (t4_isPage M hM z hw) (lw_V q2319 q2321 qs55 q108 q2322) hd_X4_isPage ⟨by decide, by decide⟩ rfl (Nat.le_of_ble_eq_true rfl) dX4_enters_7 rfl (fun r1 hw => ?_)
  obtain ⟨h20, h21, hT22, hN23⟩ := hw
  refine g_if_ne hE (tgt := 25) dX4_enters_10 (by decide) h20 (fun q => ?_) (fun q => ?_)
  · have hw := hT22 q
    refine g_aldn0 hE dX4_enters_13 ?_
    refine g_iconst hE dX4_enters_14 ?_
    refine g_aldn0 hE dX4_enters_15 ?_
    refine gm_geta hE hM hT 24 (by decide) rfl q2164 dX4_enters_16 ?_
    refine g_iconst hE dX4_enters_19 ?_
    refine gm_iald hE hM hT 24 rfl (by decide) dX4_enters_20 ?_
    refine gm_cViF hE hR hM hT (As := [aI 1, aI (A 24 0)]) (t4_refuses M hM z hw) (lw_V q2278 q2280 qs50 q108 q2281) hd_X4_refuses ⟨by decide, by decide⟩ rfl (Nat.le_of_ble_eq_true rfl) dX4_enters_21 rfl (fun r2 F3 hw => ?_)
    exact g_iret hE hR dX4_enters_24 (Nat.le_refl 0) (Nat.le_refl 0) rfl ⟨_, _, _, rfl, rfl, rfl, hw⟩
  · have hw := hN23 q
    refine g_aldn0 hE dX4_enters_25 ?_
    refine gm_geta hE hM hT 24 (by decide) rfl q2164 dX4_enters_26 ?_
    refine g_iconst hE dX4_enters_29 ?_
    refine gm_iald hE hM hT 24 rfl (by decide) dX4_enters_30 ?_
    refine g_bipush hE dX4_enters_31 (by decide) ?_
    obtain ⟨h16, h17, hT18, hN19⟩ := hw
    refine g_icmp_lt hE (tgt := 48) dX4_enters_33 (by decide) h16 h17 (fun q => ?_) (fun q => ?_)
    · have hw := hT18 q
      refine g_aldn0 hE dX4_enters_48 ?_
      refine gm_geta hE hM hT 24 (by decide) rfl q2164 dX4_enters_49 ?_
      refine g_iconst hE dX4_enters_52 ?_
      refine gm_iald hE hM hT 24 rfl (by decide) dX4_enters_53 ?_
      refine g_bipush hE dX4_enters_54 (by decide) ?_
      refine jn3_walk (fun (y0_101 : Int) (F_101 : mF) (A_101 : mA) => G E (wsM M F_101 A_101) (some z) 0 0 101 [some (aR (some (oM M)))] [aI y0_101]) hw (fun y0_101 F_101 A_101 hw => ?_) (fun j_101 hj_101 hw => ?_)
      · skip
        exact g_iret hE hR dX4_enters_101 (Nat.le_refl 0) (Nat.le_refl 0) rfl ⟨_, _, _, rfl, rfl, rfl, hw⟩
      · skip
        obtain ⟨h10, h11, hT12, hN13⟩ := hw
        refine g_icmp_le hE (tgt := 74) dX4_enters_56 (by decide) h11 h10 (fun q => ?_) (fun q => ?_)
        · have hw := hT12 q
          refine g_aldn0 hE dX4_enters_59 ?_
          refine g_bipush hE dX4_enters_60 (by decide) ?_
          refine g_aldn0 hE dX4_enters_62 ?_
          refine gm_geta hE hM hT 24 (by decide) rfl q2164 dX4_enters_63 ?_
          refine g_iconst hE dX4_enters_66 ?_
          refine gm_iald hE hM hT 24 rfl (by decide) dX4_enters_67 ?_
          refine gm_cViF hE hR hM hT (As := [aI 8, aI (A 24 3)]) (t4_refuses M hM z hw) (lw_V q2278 q2280 qs50 q108 q2281) hd_X4_refuses ⟨by decide, by decide⟩ rfl (Nat.le_of_ble_eq_true rfl) dX4_enters_68 rfl (fun r4 F5 hw => ?_)
          refine g_goto hE (tgt := 101) dX4_enters_71 (by decide) ?_
          exact hj_101 _ _ _ hw
        · have hw := hN13 q
          refine g_aldn0 hE dX4_enters_74 ?_
          refine g_aldn0 hE dX4_enters_75 ?_
          refine gm_geta hE hM hT 24 (by decide) rfl q2164 dX4_enters_76 ?_
          refine g_iconst hE dX4_enters_79 ?_
          refine gm_iald hE hM hT 24 rfl (by decide) dX4_enters_80 ?_
          refine g_aldn0 hE dX4_enters_81 ?_
          refine gm_geta hE hM hT 24 (by decide) rfl q2164 dX4_enters_82 ?_
          refine g_iconst hE dX4_enters_85 ?_
          refine gm_iald hE hM hT 24 rfl (by decide) dX4_enters_86 ?_
          refine g_aldn0 hE dX4_enters_87 ?_
          refine g_iconst hE dX4_enters_88 ?_
          refine gm_cVi hE hR hM hT (As := [aI 2]) (t4_cellTold M hM z hw) (lw_V q2523 q2525 qs85 q108 q2526) hd_X4_cellTold ⟨by decide, by decide⟩ rfl (Nat.le_of_ble_eq_true rfl) dX4_enters_89 rfl (fun r6 hw => ?_)
          refine g_aldn0 hE dX4_enters_92 ?_
          refine gm_geta hE hM hT 24 (by decide) rfl q2164 dX4_enters_93 ?_
          refine g_iconst hE dX4_enters_96 ?_
          refine gm_iald hE hM hT 24 rfl (by decide) dX4_enters_97 ?_
          refine gm_cViFA hE hR hM hT (As := [aI (A 24 0), aI (A 24 1), aI r6, aI (A 24 4)]) (t4_adds M hM z hw) (lw_V q2323 q2325 qs56 q108 q2326) hd_X4_adds ⟨by decide, by decide⟩ rfl (Nat.le_of_ble_eq_true rfl) dX4_enters_98 rfl (fun r7 F8 A9 hw => ?_)
          exact hj_101 _ _ _ hw
    · have hw := hN19 q
      refine g_aldn0 hE dX4_enters_36 ?_
      refine g_iconst hE dX4_enters_37 ?_
      refine g_aldn0 hE dX4_enters_38 ?_
      refine gm_geta hE hM hT 24 (by decide) rfl q2164 dX4_enters_39 ?_
      refine g_iconst hE dX4_enters_42 ?_
      refine gm_iald hE hM hT 24 rfl (by decide) dX4_enters_43 ?_
      refine gm_cViF hE hR hM hT (As := [aI 1, aI (A 24 4)]) (t4_refuses M hM z hw) (lw_V q2278 q2280 qs50 q108 q2281) hd_X4_refuses ⟨by decide, by decide⟩ rfl (Nat.le_of_ble_eq_true rfl) dX4_enters_44 rfl (fun r14 F15 hw => ?_)
      exact g_iret hE hR dX4_enters_47 (Nat.le_refl 0) (Nat.le_refl 0) rfl ⟨_, _, _, rfl, rfl, rfl, hw⟩

/-- does(I)I -/
def w4_does (x1 : Int) (F : mF) (A : mA) (Q : Int → mF → mA → Prop) : Prop :=
  jn0 (
      w4_lies x1 F A (fun (r1 : Int) (F2 : mF) (A3 : mA) =>
      Q r1 F2 A3))
    (fun (j_44 : Prop) =>
    inR x1 ∧ ((x1 < 0 ∨ 6 < x1) →
      w4_blames (A 24 0) F A (fun (r4 : Int) (F5 : mF) (A6 : mA) =>
      Q r4 F5 A6)) ∧
    (x1 = 0 →
      j_44) ∧
    (x1 = 1 →
      j_44) ∧
    (x1 = 2 →
      w4_speeds  F A (fun (r11 : Int) (F12 : mF) (A13 : mA) =>
      Q r11 F12 A13)) ∧
    (x1 = 3 →
      w4_pagesTold  F A (fun (r15 : Int) (F16 : mF) (A17 : mA) =>
      Q r15 F16 A17)) ∧
    (x1 = 4 →
      w4_enters  F A (fun (r19 : Int) (F20 : mF) (A21 : mA) =>
      Q r19 F20 A21)) ∧
    (x1 = 5 →
      w4_reads (A 24 0) (A 24 1) F A (fun (r23 : Int) (F24 : mF) (A25 : mA) =>
      Q r23 F24 A25)) ∧
    (x1 = 6 →
      w4_strikes (A 24 0) (A 24 1) F A (fun (r27 : Int) (F28 : mF) (A29 : mA) =>
      Q r27 F28 A29)))
theorem hd_X4_does : yX4_does.cls = RX4 ∧ yX4_does.cls ≠ "java/lang/invoke/MethodHandle" ∧ yX4_does.cls ≠ "java/lang/invoke/VarHandle" ∧ (parseMethodDescriptor yX4_does.desc).map (fun d => d.parameters.length) = some 1 := by decide +kernel
set_option maxHeartbeats 4000000 in
theorem t4_does (M : MT) (hM : OkM M) (z : Nat) {x1 : Int} {F : mF} {A : mA} {Q : Int → mF → mA → Prop} (hw : w4_does x1 F A Q) : CtM M z yX4_does cX4_does 2 (some .int) (k2_rm 5 111) [aR (some (oM M)), aI x1] F A (PMiFA M z Q) := by
  refine Ct.intro (by decide) (Nat.le_of_ble_eq_true rfl) (fun E hE hR hT => ?_)
  have hT : TM E M := hT
  have hE : OkE E RX4 cX4_does 2 (some .int) := hE
  show G E (wsM M F A) (some z) 0 0 0 [some (aR (some (oM M))), some (aI x1)] []
  unfold w4_does at hw
  refine g_ildn1 hE dX4_does_0 ?_
  refine jn0_walk (G E (wsM M F A) (some z) 0 0 44 [some (aR (some (oM M))), some (aI x1)] []) hw (fun  hw => ?_) (fun j_44 hj_44 hw => ?_)
  · skip
    refine g_aldn0 hE dX4_does_44 ?_
    refine g_ildn1 hE dX4_does_45 ?_
    refine gm_cViFA hE hR hM hT (As := [aI x1]) (t4_lies M hM z hw) (lw_V q2519 q2521 qs84 q108 q2522) hd_X4_lies ⟨by decide, by decide⟩ rfl (Nat.le_of_ble_eq_true rfl) dX4_does_46 rfl (fun r1 F2 A3 hw => ?_)
    exact g_iret hE hR dX4_does_49 (Nat.le_refl 0) (Nat.le_refl 0) rfl ⟨_, _, _, rfl, rfl, rfl, hw⟩
  · skip
    obtain ⟨h7, h8, h9, h10, h14, h18, h22, h26, h30⟩ := hw
    refine g_table hE dX4_does_1 h7 99 (by decide) [44, 44, 50, 55, 60, 65, 82] (by decide) (by decide) (fun q => ?_) (fun i t hi he => ?_)
    · have hw := h8 q
      refine g_aldn0 hE dX4_does_99 ?_
      refine g_aldn0 hE dX4_does_100 ?_
      refine gm_geta hE hM hT 24 (by decide) rfl q2164 dX4_does_101 ?_
      refine g_iconst hE dX4_does_104 ?_
      refine gm_iald hE hM hT 24 rfl (by decide) dX4_does_105 ?_
      refine gm_cViFA hE hR hM hT (As := [aI (A 24 0)]) (t4_blames M hM z hw) (lw_V q2379 q2381 qs65 q108 q2382) hd_X4_blames ⟨by decide, by decide⟩ rfl (Nat.le_of_ble_eq_true rfl) dX4_does_106 rfl (fun r4 F5 A6 hw => ?_)
      exact g_iret hE hR dX4_does_109 (Nat.le_refl 0) (Nat.le_refl 0) rfl ⟨_, _, _, rfl, rfl, rfl, hw⟩
    rcases i with _ | i
    · obtain rfl : 44 = t := Option.some.inj hi
      have hw := h9 (by omega)
      exact hj_44  hw
    rcases i with _ | i
    · obtain rfl : 44 = t := Option.some.inj hi
      have hw := h10 (by omega)
      exact hj_44  hw
    rcases i with _ | i
    · obtain rfl : 50 = t := Option.some.inj hi
      have hw := h14 (by omega)
      refine g_aldn0 hE dX4_does_50 ?_
      refine gm_cViFA hE hR hM hT (As := []) (t4_speeds M hM z hw) (lw_V q2527 q2529 qs86 q108 q2530) hd_X4_speeds ⟨by decide, by decide⟩ rfl (Nat.le_of_ble_eq_true rfl) dX4_does_51 rfl (fun r11 F12 A13 hw => ?_)
      exact g_iret hE hR dX4_does_54 (Nat.le_refl 0) (Nat.le_refl 0) rfl ⟨_, _, _, rfl, rfl, rfl, hw⟩
    rcases i with _ | i
    · obtain rfl : 55 = t := Option.some.inj hi
      have hw := h18 (by omega)
      refine g_aldn0 hE dX4_does_55 ?_
      refine gm_cViFA hE hR hM hT (As := []) (t4_pagesTold M hM z hw) (lw_V q2531 q2533 qs87 q108 q2534) hd_X4_pagesTold ⟨by decide, by decide⟩ rfl (Nat.le_of_ble_eq_true rfl) dX4_does_56 rfl (fun r15 F16 A17 hw => ?_)
      exact g_iret hE hR dX4_does_59 (Nat.le_refl 0) (Nat.le_refl 0) rfl ⟨_, _, _, rfl, rfl, rfl, hw⟩
    rcases i with _ | i
    · obtain rfl : 60 = t := Option.some.inj hi
      have hw := h22 (by omega)
      refine g_aldn0 hE dX4_does_60 ?_
      refine gm_cViFA hE hR hM hT (As := []) (t4_enters M hM z hw) (lw_V q2535 q2537 qs88 q108 q2538) hd_X4_enters ⟨by decide, by decide⟩ rfl (Nat.le_of_ble_eq_true rfl) dX4_does_61 rfl (fun r19 F20 A21 hw => ?_)
      exact g_iret hE hR dX4_does_64 (Nat.le_refl 0) (Nat.le_refl 0) rfl ⟨_, _, _, rfl, rfl, rfl, hw⟩
    rcases i with _ | i
    · obtain rfl : 65 = t := Option.some.inj hi
      have hw := h26 (by omega)
      refine g_aldn0 hE dX4_does_65 ?_
      refine g_aldn0 hE dX4_does_66 ?_
      refine gm_geta hE hM hT 24 (by decide) rfl q2164 dX4_does_67 ?_
      refine g_iconst hE dX4_does_70 ?_
      refine gm_iald hE hM hT 24 rfl (by decide) dX4_does_71 ?_
      refine g_aldn0 hE dX4_does_72 ?_
      refine gm_geta hE hM hT 24 (by decide) rfl q2164 dX4_does_73 ?_
      refine g_iconst hE dX4_does_76 ?_
      refine gm_iald hE hM hT 24 rfl (by decide) dX4_does_77 ?_
      refine gm_cViFA hE hR hM hT (As := [aI (A 24 0), aI (A 24 1)]) (t4_reads M hM z hw) (lw_V q2351 q2353 qs60 q108 q2354) hd_X4_reads ⟨by decide, by decide⟩ rfl (Nat.le_of_ble_eq_true rfl) dX4_does_78 rfl (fun r23 F24 A25 hw => ?_)
      exact g_iret hE hR dX4_does_81 (Nat.le_refl 0) (Nat.le_refl 0) rfl ⟨_, _, _, rfl, rfl, rfl, hw⟩
    rcases i with _ | i
    · obtain rfl : 82 = t := Option.some.inj hi
      have hw := h30 (by omega)
      refine g_aldn0 hE dX4_does_82 ?_
      refine g_aldn0 hE dX4_does_83 ?_
      refine gm_geta hE hM hT 24 (by decide) rfl q2164 dX4_does_84 ?_
      refine g_iconst hE dX4_does_87 ?_
      refine gm_iald hE hM hT 24 rfl (by decide) dX4_does_88 ?_
      refine g_aldn0 hE dX4_does_89 ?_
      refine gm_geta hE hM hT 24 (by decide) rfl q2164 dX4_does_90 ?_
      refine g_iconst hE dX4_does_93 ?_
      refine gm_iald hE hM hT 24 rfl (by decide) dX4_does_94 ?_
      refine gm_cViFA hE hR hM hT (As := [aI (A 24 0), aI (A 24 1)]) (t4_strikes M hM z hw) (lw_V q2363 q2365 qs62 q108 q2366) hd_X4_strikes ⟨by decide, by decide⟩ rfl (Nat.le_of_ble_eq_true rfl) dX4_does_95 rfl (fun r27 F28 A29 hw => ?_)
      exact g_iret hE hR dX4_does_98 (Nat.le_refl 0) (Nat.le_refl 0) rfl ⟨_, _, _, rfl, rfl, rfl, hw⟩
    exact absurd hi (by simp)

/-- order()I -/
def w4_order  (F : mF) (A : mA) (Q : Int → mF → mA → Prop) : Prop :=
  w4_word  F A (fun (r1 : Int) (F2 : mF) =>
  ∀ F3 : mF, F3 = uF F2 29 0 →
  lq3 (fun (x2_12 : Int) (F_12 : mF) (A_12 : mA) (k_12 : Int → mF → mA → Prop) =>
    jn0 (
        jn3 (fun (y0_95 : Int) (F_95 : mF) (A_95 : mA) => 
            Q y0_95 F_95 A_95)
          (fun (j_95 : Int → mF → mA → Prop) =>
          jn0 (
              j_95 0 F_12 A_12)
            (fun (j_86 : Prop) =>
            cEq (F_12 30) 0
              (
              cEq (F_12 31) 0
                (
                j_86)
                (
                w4_does r1 F_12 A_12 (fun (r4 : Int) (F5 : mF) (A6 : mA) =>
                j_95 r4 F5 A6)))
              (
              j_86))))
      (fun (j_72 : Prop) =>
      cLt x2_12 4
        (
        cEq (F_12 30) 0
          (
          ib ((4 * r1) + x2_12) 32 ∧
          cEq (A_12 26 ((4 * r1) + x2_12)) 32
            (
            j_72)
            (
            w4_takes 32 F_12 A_12 (fun (F16 : mF) =>
            jn2 (fun (F_66 : mF) (A_66 : mA) => 
                k_12 (x2_12 + 1) F_66 A_66)
              (fun (j_66 : mF → mA → Prop) =>
              cEq (F16 30) 0
                (
                ib ((4 * r1) + x2_12) 32 ∧
                w4_part (A_12 26 ((4 * r1) + x2_12)) F16 A_12 (fun (F18 : mF) (A19 : mA) =>
                j_66 F18 A19))
                (
                j_66 F16 A_12)))))
          (
          j_72))
        (
        j_72))) 0 F3 A)
theorem hd_X4_order : yX4_order.cls = RX4 ∧ yX4_order.cls ≠ "java/lang/invoke/MethodHandle" ∧ yX4_order.cls ≠ "java/lang/invoke/VarHandle" ∧ (parseMethodDescriptor yX4_order.desc).map (fun d => d.parameters.length) = some 0 := by decide +kernel
set_option maxHeartbeats 4000000 in
theorem t4_order (M : MT) (hM : OkM M) (z : Nat)  {F : mF} {A : mA} {Q : Int → mF → mA → Prop} (hw : w4_order F A Q) : CtM M z yX4_order cX4_order 3 (some .int) (k2_rm 6 132) [aR (some (oM M))] F A (PMiFA M z Q) := by
  refine Ct.intro (by decide) (Nat.le_of_ble_eq_true rfl) (fun E hE hR hT => ?_)
  have hT : TM E M := hT
  have hE : OkE E RX4 cX4_order 3 (some .int) := hE
  show G E (wsM M F A) (some z) 0 0 0 [some (aR (some (oM M))), none, none] []
  unfold w4_order at hw
  refine g_aldn0 hE dX4_order_0 ?_
  refine gm_cViF hE hR hM hT (As := []) (t4_word M hM z hw) (lw_V q2491 q2493 qs77 q108 q2494) hd_X4_word ⟨by decide, by decide⟩ rfl (Nat.le_of_ble_eq_true rfl) dX4_order_1 rfl (fun r1 F2 hw => ?_)
  refine g_istn1 hE dX4_order_4 (by decide) rfl ?_
  refine g_aldn0 hE dX4_order_5 ?_
  refine g_iconst hE dX4_order_6 ?_
  refine gm_put hE hM hT 29 (by decide) rfl q2169 rfl (ty := .int) (by decide +kernel) rfl rfl dX4_order_7 ?_
  have hw := hw _ rfl
  generalize uF F2 29 0 = F3 at hw ⊢
  refine g_iconst hE dX4_order_10 ?_
  refine g_istn2 hE dX4_order_11 (by decide) rfl ?_
  refine lq3_walk (fun (x2_12 : Int) (F_12 : mF) (A_12 : mA) => G E (wsM M F_12 A_12) (some z) 0 0 12 [some (aR (some (oM M))), some (aI r1), some (aI x2_12)] []) (fun k_12 hk_12 x2_12 F_12 A_12 hw => ?_) _ _ _ hw
  refine g_ildn2 hE dX4_order_12 ?_
  refine g_iconst hE dX4_order_13 ?_
  refine jn0_walk (G E (wsM M F_12 A_12) (some z) 0 0 72 [some (aR (some (oM M))), some (aI r1), some (aI x2_12)] []) hw (fun  hw => ?_) (fun j_72 hj_72 hw => ?_)
  · skip
    refine g_aldn0 hE dX4_order_72 ?_
    refine gm_geti hE hM hT 30 (by decide) rfl q2170 dX4_order_73 ?_
    refine jn3_walk (fun (y0_95 : Int) (F_95 : mF) (A_95 : mA) => G E (wsM M F_95 A_95) (some z) 0 0 95 [some (aR (some (oM M))), some (aI r1), some (aI x2_12)] [aI y0_95]) hw (fun y0_95 F_95 A_95 hw => ?_) (fun j_95 hj_95 hw => ?_)
    · skip
      exact g_iret hE hR dX4_order_95 (Nat.le_refl 0) (Nat.le_refl 0) rfl ⟨_, _, _, rfl, rfl, rfl, hw⟩
    · skip
      refine jn0_walk (G E (wsM M F_12 A_12) (some z) 0 0 86 [some (aR (some (oM M))), some (aI r1), some (aI x2_12)] []) hw (fun  hw => ?_) (fun j_86 hj_86 hw => ?_)
      · skip
        refine g_iconst hE dX4_order_86 ?_
        refine g_goto hE (tgt := 95) dX4_order_87 (by decide) ?_
        exact hj_95 _ _ _ hw
      · skip
        obtain ⟨h11, h12, hT13, hN14⟩ := hw
        refine g_if_ne hE (tgt := 86) dX4_order_76 (by decide) h11 (fun q => ?_) (fun q => ?_)
        · have hw := hT13 q
          refine g_aldn0 hE dX4_order_79 ?_
          refine gm_geti hE hM hT 31 (by decide) rfl q2171 dX4_order_80 ?_
          obtain ⟨h7, h8, hT9, hN10⟩ := hw
          refine g_if_ne hE (tgt := 90) dX4_order_83 (by decide) h7 (fun q => ?_) (fun q => ?_)
          · have hw := hT9 q
            exact hj_86  hw
          · have hw := hN10 q
            refine g_aldn0 hE dX4_order_90 ?_
            refine g_ildn1 hE dX4_order_91 ?_
            refine gm_cViFA hE hR hM hT (As := [aI r1]) (t4_does M hM z hw) (lw_V q2515 q2517 qs83 q108 q2518) hd_X4_does ⟨by decide, by decide⟩ rfl (Nat.le_of_ble_eq_true rfl) dX4_order_92 rfl (fun r4 F5 A6 hw => ?_)
            exact hj_95 _ _ _ hw
        · have hw := hN14 q
          exact hj_86  hw
  · skip
    obtain ⟨h32, h33, hT34, hN35⟩ := hw
    refine g_icmp_ge hE (tgt := 72) dX4_order_14 (by decide) h32 h33 (fun q => ?_) (fun q => ?_)
    · have hw := hT34 q
      refine g_aldn0 hE dX4_order_17 ?_
      refine gm_geti hE hM hT 30 (by decide) rfl q2170 dX4_order_18 ?_
      obtain ⟨h28, h29, hT30, hN31⟩ := hw
      refine g_if_ne hE (tgt := 72) dX4_order_21 (by decide) h28 (fun q => ?_) (fun q => ?_)
      · have hw := hT30 q
        refine g_aldn0 hE dX4_order_24 ?_
        refine gm_geta hE hM hT 26 (by decide) rfl q2166 dX4_order_25 ?_
        refine g_iconst hE dX4_order_28 ?_
        refine g_ildn1 hE dX4_order_29 ?_
        refine g_imul hE dX4_order_30 ?_
        refine g_ildn2 hE dX4_order_31 ?_
        refine g_iadd hE dX4_order_32 ?_
        obtain ⟨h15, hw⟩ := hw
        refine gm_iald hE hM hT 26 rfl h15 dX4_order_33 ?_
        refine g_bipush hE dX4_order_34 (by decide) ?_
        obtain ⟨h24, h25, hT26, hN27⟩ := hw
        refine g_icmp_eq hE (tgt := 72) dX4_order_36 (by decide) h24 h25 (fun q => ?_) (fun q => ?_)
        · have hw := hT26 q
          exact hj_72  hw
        · have hw := hN27 q
          refine g_aldn0 hE dX4_order_39 ?_
          refine g_bipush hE dX4_order_40 (by decide) ?_
          refine gm_cVvF hE hR hM hT (As := [aI 32]) (t4_takes M hM z hw) (lw_V q2499 q2501 qs79 q108 q2502) hd_X4_takes ⟨by decide, by decide⟩ rfl (Nat.le_of_ble_eq_true rfl) dX4_order_42 rfl (fun F16 hw => ?_)
          refine g_aldn0 hE dX4_order_45 ?_
          refine gm_geti hE hM hT 30 (by decide) rfl q2170 dX4_order_46 ?_
          refine jn2_walk (fun (F_66 : mF) (A_66 : mA) => G E (wsM M F_66 A_66) (some z) 0 0 66 [some (aR (some (oM M))), some (aI r1), some (aI x2_12)] []) hw (fun F_66 A_66 hw => ?_) (fun j_66 hj_66 hw => ?_)
          · skip
            refine g_iinc2 hE dX4_order_66 (by decide) rfl ?_
            refine g_goto hE (tgt := 12) dX4_order_69 (by decide) ?_
            exact hk_12 _ _ _ hw
          · skip
            obtain ⟨h20, h21, hT22, hN23⟩ := hw
            refine g_if_ne hE (tgt := 66) dX4_order_49 (by decide) h20 (fun q => ?_) (fun q => ?_)
            · have hw := hT22 q
              refine g_aldn0 hE dX4_order_52 ?_
              refine g_aldn0 hE dX4_order_53 ?_
              refine gm_geta hE hM hT 26 (by decide) rfl q2166 dX4_order_54 ?_
              refine g_iconst hE dX4_order_57 ?_
              refine g_ildn1 hE dX4_order_58 ?_
              refine g_imul hE dX4_order_59 ?_
              refine g_ildn2 hE dX4_order_60 ?_
              refine g_iadd hE dX4_order_61 ?_
              obtain ⟨h17, hw⟩ := hw
              refine gm_iald hE hM hT 26 rfl h17 dX4_order_62 ?_
              refine gm_cVvFA hE hR hM hT (As := [aI (A_12 26 ((4 * r1) + x2_12))]) (t4_part M hM z hw) (lw_V q2503 q2505 qs80 q108 q2506) hd_X4_part ⟨by decide, by decide⟩ rfl (Nat.le_of_ble_eq_true rfl) dX4_order_63 rfl (fun F18 A19 hw => ?_)
              exact hj_66 _ _ hw
            · have hw := hN23 q
              exact hj_66 _ _ hw
      · have hw := hN31 q
        exact hj_72  hw
    · have hw := hN35 q
      exact hj_72  hw

/-- orders()I -/
def w4_orders  (F : mF) (A : mA) (Q : Int → mF → mA → Prop) : Prop :=
  ∀ F1 : mF, F1 = uF F 28 0 →
  ∀ F2 : mF, F2 = uF F1 30 0 →
  w4_order  F2 A (fun (r3 : Int) (F4 : mF) (A5 : mA) =>
  lq4 (fun (x1_17 : Int) (x2_17 : Int) (F_17 : mF) (A_17 : mA) (k_17 : Int → Int → mF → mA → Prop) =>
    jn0 (
        jn1 (fun (y0_72 : Int) => 
            Q y0_72 F_17 A_17)
          (fun (j_72 : Int → Prop) =>
          cLt x2_17 0
            (
            j_72 x2_17)
            (
            j_72 x1_17)))
      (fun (j_63 : Prop) =>
      cEq (F_17 30) 0
        (
        cLt x2_17 0
          (
          j_63)
          (
          cLt (F_17 28) (F_17 27)
            (
            w4_takes 59 F_17 A_17 (fun (F10 : mF) =>
            jn3 (fun (x2_57 : Int) (F_57 : mF) (A_57 : mA) => 
                k_17 (x1_17 + 1) x2_57 F_57 A_57)
              (fun (j_57 : Int → mF → mA → Prop) =>
              cEq (F10 30) 0
                (
                w4_order  F10 A_17 (fun (r11 : Int) (F12 : mF) (A13 : mA) =>
                j_57 r11 F12 A13))
                (
                j_57 x2_17 F10 A_17))))
            (
            j_63)))
        (
        j_63))) 1 r3 F4 A5)
theorem hd_X4_orders : yX4_orders.cls = RX4 ∧ yX4_orders.cls ≠ "java/lang/invoke/MethodHandle" ∧ yX4_orders.cls ≠ "java/lang/invoke/VarHandle" ∧ (parseMethodDescriptor yX4_orders.desc).map (fun d => d.parameters.length) = some 0 := by decide +kernel
set_option maxHeartbeats 4000000 in
theorem t4_orders (M : MT) (hM : OkM M) (z : Nat)  {F : mF} {A : mA} {Q : Int → mF → mA → Prop} (hw : w4_orders F A Q) : CtM M z yX4_orders cX4_orders 3 (some .int) (k2_rm 7 154) [aR (some (oM M))] F A (PMiFA M z Q) := by
  refine Ct.intro (by decide) (Nat.le_of_ble_eq_true rfl) (fun E hE hR hT => ?_)
  have hT : TM E M := hT
  have hE : OkE E RX4 cX4_orders 3 (some .int) := hE
  show G E (wsM M F A) (some z) 0 0 0 [some (aR (some (oM M))), none, none] []
  unfold w4_orders at hw
  refine g_aldn0 hE dX4_orders_0 ?_
  refine g_iconst hE dX4_orders_1 ?_
  refine gm_put hE hM hT 28 (by decide) rfl q2168 rfl (ty := .int) (by decide +kernel) rfl rfl dX4_orders_2 ?_
  have hw := hw _ rfl
  generalize uF F 28 0 = F1 at hw ⊢
  refine g_aldn0 hE dX4_orders_5 ?_
  refine g_iconst hE dX4_orders_6 ?_
  refine gm_put hE hM hT 30 (by decide) rfl q2170 rfl (ty := .boolean) (by decide +kernel) (narrow_bl (by decide)) (fits_bl (by decide)) dX4_orders_7 ?_
  have hw := hw _ rfl
  generalize uF F1 30 0 = F2 at hw ⊢
  refine g_iconst hE dX4_orders_10 ?_
  refine g_istn1 hE dX4_orders_11 (by decide) rfl ?_
  refine g_aldn0 hE dX4_orders_12 ?_
  refine gm_cViFA hE hR hM hT (As := []) (t4_order M hM z hw) (lw_V q2487 q2489 qs76 q108 q2490) hd_X4_order ⟨by decide, by decide⟩ rfl (Nat.le_of_ble_eq_true rfl) dX4_orders_13 rfl (fun r3 F4 A5 hw => ?_)
  refine g_istn2 hE dX4_orders_16 (by decide) rfl ?_
  refine lq4_walk (fun (x1_17 : Int) (x2_17 : Int) (F_17 : mF) (A_17 : mA) => G E (wsM M F_17 A_17) (some z) 0 0 17 [some (aR (some (oM M))), some (aI x1_17), some (aI x2_17)] []) (fun k_17 hk_17 x1_17 x2_17 F_17 A_17 hw => ?_) _ _ _ _ hw
  refine g_aldn0 hE dX4_orders_17 ?_
  refine gm_geti hE hM hT 30 (by decide) rfl q2170 dX4_orders_18 ?_
  refine jn0_walk (G E (wsM M F_17 A_17) (some z) 0 0 63 [some (aR (some (oM M))), some (aI x1_17), some (aI x2_17)] []) hw (fun  hw => ?_) (fun j_63 hj_63 hw => ?_)
  · skip
    refine g_ildn2 hE dX4_orders_63 ?_
    refine jn1_walk (fun (y0_72 : Int) => G E (wsM M F_17 A_17) (some z) 0 0 72 [some (aR (some (oM M))), some (aI x1_17), some (aI x2_17)] [aI y0_72]) hw (fun y0_72 hw => ?_) (fun j_72 hj_72 hw => ?_)
    · skip
      exact g_iret hE hR dX4_orders_72 (Nat.le_refl 0) (Nat.le_refl 0) rfl ⟨_, _, _, rfl, rfl, rfl, hw⟩
    · skip
      obtain ⟨h6, h7, hT8, hN9⟩ := hw
      refine g_if_ge hE (tgt := 71) dX4_orders_64 (by decide) h6 (fun q => ?_) (fun q => ?_)
      · have hw := hT8 q
        refine g_ildn2 hE dX4_orders_67 ?_
        refine g_goto hE (tgt := 72) dX4_orders_68 (by decide) ?_
        exact hj_72 _ hw
      · have hw := hN9 q
        refine g_ildn1 hE dX4_orders_71 ?_
        exact hj_72 _ hw
  · skip
    obtain ⟨h26, h27, hT28, hN29⟩ := hw
    refine g_if_ne hE (tgt := 63) dX4_orders_21 (by decide) h26 (fun q => ?_) (fun q => ?_)
    · have hw := hT28 q
      refine g_ildn2 hE dX4_orders_24 ?_
      obtain ⟨h22, h23, hT24, hN25⟩ := hw
      refine g_if_lt hE (tgt := 63) dX4_orders_25 (by decide) h22 (fun q => ?_) (fun q => ?_)
      · have hw := hT24 q
        exact hj_63  hw
      · have hw := hN25 q
        refine g_aldn0 hE dX4_orders_28 ?_
        refine gm_geti hE hM hT 28 (by decide) rfl q2168 dX4_orders_29 ?_
        refine g_aldn0 hE dX4_orders_32 ?_
        refine gm_geti hE hM hT 27 (by decide) rfl q2167 dX4_orders_33 ?_
        obtain ⟨h18, h19, hT20, hN21⟩ := hw
        refine g_icmp_ge hE (tgt := 63) dX4_orders_36 (by decide) h18 h19 (fun q => ?_) (fun q => ?_)
        · have hw := hT20 q
          refine g_aldn0 hE dX4_orders_39 ?_
          refine g_bipush hE dX4_orders_40 (by decide) ?_
          refine gm_cVvF hE hR hM hT (As := [aI 59]) (t4_takes M hM z hw) (lw_V q2499 q2501 qs79 q108 q2502) hd_X4_takes ⟨by decide, by decide⟩ rfl (Nat.le_of_ble_eq_true rfl) dX4_orders_42 rfl (fun F10 hw => ?_)
          refine g_aldn0 hE dX4_orders_45 ?_
          refine gm_geti hE hM hT 30 (by decide) rfl q2170 dX4_orders_46 ?_
          refine jn3_walk (fun (x2_57 : Int) (F_57 : mF) (A_57 : mA) => G E (wsM M F_57 A_57) (some z) 0 0 57 [some (aR (some (oM M))), some (aI x1_17), some (aI x2_57)] []) hw (fun x2_57 F_57 A_57 hw => ?_) (fun j_57 hj_57 hw => ?_)
          · skip
            refine g_iinc1 hE dX4_orders_57 (by decide) rfl ?_
            refine g_goto hE (tgt := 17) dX4_orders_60 (by decide) ?_
            exact hk_17 _ _ _ _ hw
          · skip
            obtain ⟨h14, h15, hT16, hN17⟩ := hw
            refine g_if_ne hE (tgt := 57) dX4_orders_49 (by decide) h14 (fun q => ?_) (fun q => ?_)
            · have hw := hT16 q
              refine g_aldn0 hE dX4_orders_52 ?_
              refine gm_cViFA hE hR hM hT (As := []) (t4_order M hM z hw) (lw_V q2487 q2489 qs76 q108 q2490) hd_X4_order ⟨by decide, by decide⟩ rfl (Nat.le_of_ble_eq_true rfl) dX4_orders_53 rfl (fun r11 F12 A13 hw => ?_)
              refine g_istn2 hE dX4_orders_56 (by decide) rfl ?_
              exact hj_57 _ _ _ hw
            · have hw := hN17 q
              exact hj_57 _ _ _ hw
        · have hw := hN21 q
          exact hj_63  hw
    · have hw := hN29 q
      exact hj_63  hw

/-- run()I -/
def w4_run  (F : mF) (A : mA) (Q : Int → mF → mA → Prop) : Prop :=
  w4_begins  F A (fun (A1 : mA) =>
  ∀ F2 : mF, F2 = uF F 31 0 →
  w4_orders  F2 A1 (fun (r3 : Int) (F4 : mF) (A5 : mA) =>
  cEq (F4 30) 0
    (
    ∀ F6 : mF, F6 = uF F4 31 1 →
    w4_orders  F6 A5 (fun (r7 : Int) (F8 : mF) (A9 : mA) =>
    ∀ F10 : mF, F10 = uF F8 27 0 →
    w4_ends r7 F10 A9 (fun (r11 : Int) (F12 : mF) (A13 : mA) =>
    Q r11 F12 A13)))
    (
    ∀ F14 : mF, F14 = uF F4 27 0 →
    Q (((-1000)) - (F14 28)) F14 A5)))
theorem hd_X4_run : yX4_run.cls = RX4 ∧ yX4_run.cls ≠ "java/lang/invoke/MethodHandle" ∧ yX4_run.cls ≠ "java/lang/invoke/VarHandle" ∧ (parseMethodDescriptor yX4_run.desc).map (fun d => d.parameters.length) = some 0 := by decide +kernel
set_option maxHeartbeats 4000000 in
theorem t4_run (M : MT) (hM : OkM M) (z : Nat)  {F : mF} {A : mA} {Q : Int → mF → mA → Prop} (hw : w4_run F A Q) : CtM M z yX4_run cX4_run 2 (some .int) (k2_rm 8 176) [aR (some (oM M))] F A (PMiFA M z Q) := by
  refine Ct.intro (by decide) (Nat.le_of_ble_eq_true rfl) (fun E hE hR hT => ?_)
  have hT : TM E M := hT
  have hE : OkE E RX4 cX4_run 2 (some .int) := hE
  show G E (wsM M F A) (some z) 0 0 0 [some (aR (some (oM M))), none] []
  unfold w4_run at hw
  refine g_aldn0 hE dX4_run_0 ?_
  refine gm_cVvA hE hR hM hT (As := []) (t4_begins M hM z hw) (lw_V q2247 q2249 qs46 q108 q2250) hd_X4_begins ⟨by decide, by decide⟩ rfl (Nat.le_of_ble_eq_true rfl) dX4_run_1 rfl (fun A1 hw => ?_)
  refine g_aldn0 hE dX4_run_4 ?_
  refine g_iconst hE dX4_run_5 ?_
  refine gm_put hE hM hT 31 (by decide) rfl q2171 rfl (ty := .boolean) (by decide +kernel) (narrow_bl (by decide)) (fits_bl (by decide)) dX4_run_6 ?_
  have hw := hw _ rfl
  generalize uF F 31 0 = F2 at hw ⊢
  refine g_aldn0 hE dX4_run_9 ?_
  refine gm_cViFA hE hR hM hT (As := []) (t4_orders M hM z hw) (lw_V q2483 q2485 qs75 q108 q2486) hd_X4_orders ⟨by decide, by decide⟩ rfl (Nat.le_of_ble_eq_true rfl) dX4_run_10 rfl (fun r3 F4 A5 hw => ?_)
  refine g_istn1 hE dX4_run_13 (by decide) rfl ?_
  refine g_aldn0 hE dX4_run_14 ?_
  refine gm_geti hE hM hT 30 (by decide) rfl q2170 dX4_run_15 ?_
  obtain ⟨h15, h16, hT17, hN18⟩ := hw
  refine g_if_eq hE (tgt := 35) dX4_run_18 (by decide) h15 (fun q => ?_) (fun q => ?_)
  · have hw := hT17 q
    refine g_aldn0 hE dX4_run_35 ?_
    refine g_iconst hE dX4_run_36 ?_
    refine gm_put hE hM hT 31 (by decide) rfl q2171 rfl (ty := .boolean) (by decide +kernel) (narrow_bl (by decide)) (fits_bl (by decide)) dX4_run_37 ?_
    have hw := hw _ rfl
    generalize uF F4 31 1 = F6 at hw ⊢
    refine g_aldn0 hE dX4_run_40 ?_
    refine gm_cViFA hE hR hM hT (As := []) (t4_orders M hM z hw) (lw_V q2483 q2485 qs75 q108 q2486) hd_X4_orders ⟨by decide, by decide⟩ rfl (Nat.le_of_ble_eq_true rfl) dX4_run_41 rfl (fun r7 F8 A9 hw => ?_)
    refine g_istn1 hE dX4_run_44 (by decide) rfl ?_
    refine g_aldn0 hE dX4_run_45 ?_
    refine g_iconst hE dX4_run_46 ?_
    refine gm_put hE hM hT 27 (by decide) rfl q2167 rfl (ty := .int) (by decide +kernel) rfl rfl dX4_run_47 ?_
    have hw := hw _ rfl
    generalize uF F8 27 0 = F10 at hw ⊢
    refine g_aldn0 hE dX4_run_50 ?_
    refine g_ildn1 hE dX4_run_51 ?_
    refine gm_cViFA hE hR hM hT (As := [aI r7]) (t4_ends M hM z hw) (lw_V q2286 q2288 qs52 q108 q2289) hd_X4_ends ⟨by decide, by decide⟩ rfl (Nat.le_of_ble_eq_true rfl) dX4_run_52 rfl (fun r11 F12 A13 hw => ?_)
    exact g_iret hE hR dX4_run_55 (Nat.le_refl 0) (Nat.le_refl 0) rfl ⟨_, _, _, rfl, rfl, rfl, hw⟩
  · have hw := hN18 q
    refine g_aldn0 hE dX4_run_21 ?_
    refine g_iconst hE dX4_run_22 ?_
    refine gm_put hE hM hT 27 (by decide) rfl q2167 rfl (ty := .int) (by decide +kernel) rfl rfl dX4_run_23 ?_
    have hw := hw _ rfl
    generalize uF F4 27 0 = F14 at hw ⊢
    refine g_sipush hE dX4_run_26 (by decide) ?_
    refine g_aldn0 hE dX4_run_29 ?_
    refine gm_geti hE hM hT 28 (by decide) rfl q2168 dX4_run_30 ?_
    refine g_isub hE dX4_run_33 ?_
    exact g_iret hE hR dX4_run_34 (Nat.le_refl 0) (Nat.le_refl 0) rfl ⟨_, _, _, rfl, rfl, rfl, hw⟩

/-- writes(I)V -/
def w4_writes (x1 : Int) (F : mF) (A : mA) (Q : mF → mA → Prop) : Prop :=
  ib (F 33) 40 ∧ ∀ A1 : mA, A1 = uA A 32 (F 33) x1 →
  ∀ F3 : mF, F3 = uF F 33 ((F 33) + 1) →
  Q F3 A1
theorem hd_X4_writes : yX4_writes.cls = RX4 ∧ yX4_writes.cls ≠ "java/lang/invoke/MethodHandle" ∧ yX4_writes.cls ≠ "java/lang/invoke/VarHandle" ∧ (parseMethodDescriptor yX4_writes.desc).map (fun d => d.parameters.length) = some 1 := by decide +kernel
set_option maxHeartbeats 4000000 in
theorem t4_writes (M : MT) (hM : OkM M) (z : Nat) {x1 : Int} {F : mF} {A : mA} {Q : mF → mA → Prop} (hw : w4_writes x1 F A Q) : CtM M z yX4_writes cX4_writes 2 none (k2_rm 0 0) [aR (some (oM M)), aI x1] F A (PMvFA M z Q) := by
  refine Ct.intro (by decide) (Nat.le_of_ble_eq_true rfl) (fun E hE hR hT => ?_)
  have hT : TM E M := hT
  have hE : OkE E RX4 cX4_writes 2 none := hE
  show G E (wsM M F A) (some z) 0 0 0 [some (aR (some (oM M))), some (aI x1)] []
  unfold w4_writes at hw
  refine g_aldn0 hE dX4_writes_0 ?_
  refine gm_geta hE hM hT 32 (by decide) rfl q2172 dX4_writes_1 ?_
  refine g_aldn0 hE dX4_writes_4 ?_
  refine gm_geti hE hM hT 33 (by decide) rfl q2173 dX4_writes_5 ?_
  refine g_ildn1 hE dX4_writes_8 ?_
  obtain ⟨h2, hw⟩ := hw
  refine gm_iast hE hM hT 32 rfl h2 dX4_writes_9 ?_
  have hw := hw _ rfl
  generalize uA A 32 (F 33) x1 = A1 at hw ⊢
  refine g_aldn0 hE dX4_writes_10 ?_
  refine g_dup hE dX4_writes_11 rfl ?_
  refine gm_geti hE hM hT 33 (by decide) rfl q2173 dX4_writes_12 ?_
  refine g_iconst hE dX4_writes_15 ?_
  refine g_iadd hE dX4_writes_16 ?_
  refine gm_put hE hM hT 33 (by decide) rfl q2173 rfl (ty := .int) (by decide +kernel) rfl rfl dX4_writes_17 ?_
  have hw := hw _ rfl
  generalize uF F 33 ((F 33) + 1) = F3 at hw ⊢
  exact g_vret hE hR dX4_writes_20 (Nat.le_refl 0) (Nat.le_refl 0) ⟨_, _, rfl, rfl, rfl, hw⟩

/-- writesNumber(I)V -/
def w4_writesNumber (x1 : Int) (F : mF) (A : mA) (Q : mF → mA → Prop) : Prop :=
  jn2 (fun (F_17 : mF) (A_17 : mA) => 
      jn2 (fun (F_37 : mF) (A_37 : mA) => 
          (0 ≤ x1 ∧ x1 < 2147483648) ∧
          w4_writes (48 + (x1 % 10)) F_37 A_37 (fun (F2 : mF) (A3 : mA) =>
          Q F2 A3))
        (fun (j_37 : mF → mA → Prop) =>
        cLt 9 x1
          (
          (0 ≤ x1 ∧ x1 < 2147483648) ∧
          (0 ≤ (x1 / 10) ∧ (x1 / 10) < 2147483648) ∧
          w4_writes (48 + ((x1 / 10) % 10)) F_17 A_17 (fun (F6 : mF) (A7 : mA) =>
          j_37 F6 A7))
          (
          j_37 F_17 A_17)))
    (fun (j_17 : mF → mA → Prop) =>
    cLt 99 x1
      (
      (0 ≤ x1 ∧ x1 < 2147483648) ∧
      w4_writes (48 + (x1 / 100)) F A (fun (F13 : mF) (A14 : mA) =>
      j_17 F13 A14))
      (
      j_17 F A))
theorem hd_X4_writesNumber : yX4_writesNumber.cls = RX4 ∧ yX4_writesNumber.cls ≠ "java/lang/invoke/MethodHandle" ∧ yX4_writesNumber.cls ≠ "java/lang/invoke/VarHandle" ∧ (parseMethodDescriptor yX4_writesNumber.desc).map (fun d => d.parameters.length) = some 1 := by decide +kernel
set_option maxHeartbeats 4000000 in
theorem t4_writesNumber (M : MT) (hM : OkM M) (z : Nat) {x1 : Int} {F : mF} {A : mA} {Q : mF → mA → Prop} (hw : w4_writesNumber x1 F A Q) : CtM M z yX4_writesNumber cX4_writesNumber 2 none (k2_rm 1 21) [aR (some (oM M)), aI x1] F A (PMvFA M z Q) := by
  refine Ct.intro (by decide) (Nat.le_of_ble_eq_true rfl) (fun E hE hR hT => ?_)
  have hT : TM E M := hT
  have hE : OkE E RX4 cX4_writesNumber 2 none := hE
  show G E (wsM M F A) (some z) 0 0 0 [some (aR (some (oM M))), some (aI x1)] []
  unfold w4_writesNumber at hw
  refine g_ildn1 hE dX4_writesNumber_0 ?_
  refine g_bipush hE dX4_writesNumber_1 (by decide) ?_
  refine jn2_walk (fun (F_17 : mF) (A_17 : mA) => G E (wsM M F_17 A_17) (some z) 0 0 17 [some (aR (some (oM M))), some (aI x1)] []) hw (fun F_17 A_17 hw => ?_) (fun j_17 hj_17 hw => ?_)
  · skip
    refine g_ildn1 hE dX4_writesNumber_17 ?_
    refine g_bipush hE dX4_writesNumber_18 (by decide) ?_
    refine jn2_walk (fun (F_37 : mF) (A_37 : mA) => G E (wsM M F_37 A_37) (some z) 0 0 37 [some (aR (some (oM M))), some (aI x1)] []) hw (fun F_37 A_37 hw => ?_) (fun j_37 hj_37 hw => ?_)
    · skip
      refine g_aldn0 hE dX4_writesNumber_37 ?_
      refine g_bipush hE dX4_writesNumber_38 (by decide) ?_
      refine g_ildn1 hE dX4_writesNumber_40 ?_
      refine g_bipush hE dX4_writesNumber_41 (by decide) ?_
      obtain ⟨h1, hw⟩ := hw
      refine g_irem hE dX4_writesNumber_43 h1 (by decide) ?_
      refine g_iadd hE dX4_writesNumber_44 ?_
      refine gm_cVvFA hE hR hM hT (As := [aI (48 + (x1 % 10))]) (t4_writes M hM z hw) (lw_V q2547 q2549 qs90 q108 q2550) hd_X4_writes ⟨by decide, by decide⟩ rfl (Nat.le_of_ble_eq_true rfl) dX4_writesNumber_45 rfl (fun F2 A3 hw => ?_)
      exact g_vret hE hR dX4_writesNumber_48 (Nat.le_refl 0) (Nat.le_refl 0) ⟨_, _, rfl, rfl, rfl, hw⟩
    · skip
      obtain ⟨h8, h9, hT10, hN11⟩ := hw
      refine g_icmp_le hE (tgt := 37) dX4_writesNumber_20 (by decide) h9 h8 (fun q => ?_) (fun q => ?_)
      · have hw := hT10 q
        refine g_aldn0 hE dX4_writesNumber_23 ?_
        refine g_bipush hE dX4_writesNumber_24 (by decide) ?_
        refine g_ildn1 hE dX4_writesNumber_26 ?_
        refine g_bipush hE dX4_writesNumber_27 (by decide) ?_
        obtain ⟨h4, hw⟩ := hw
        refine g_idiv hE dX4_writesNumber_29 h4 (by decide) ?_
        refine g_bipush hE dX4_writesNumber_30 (by decide) ?_
        obtain ⟨h5, hw⟩ := hw
        refine g_irem hE dX4_writesNumber_32 h5 (by decide) ?_
        refine g_iadd hE dX4_writesNumber_33 ?_
        refine gm_cVvFA hE hR hM hT (As := [aI (48 + ((x1 / 10) % 10))]) (t4_writes M hM z hw) (lw_V q2547 q2549 qs90 q108 q2550) hd_X4_writes ⟨by decide, by decide⟩ rfl (Nat.le_of_ble_eq_true rfl) dX4_writesNumber_34 rfl (fun F6 A7 hw => ?_)
        exact hj_37 _ _ hw
      · have hw := hN11 q
        exact hj_37 _ _ hw
  · skip
    obtain ⟨h15, h16, hT17, hN18⟩ := hw
    refine g_icmp_le hE (tgt := 17) dX4_writesNumber_3 (by decide) h16 h15 (fun q => ?_) (fun q => ?_)
    · have hw := hT17 q
      refine g_aldn0 hE dX4_writesNumber_6 ?_
      refine g_bipush hE dX4_writesNumber_7 (by decide) ?_
      refine g_ildn1 hE dX4_writesNumber_9 ?_
      refine g_bipush hE dX4_writesNumber_10 (by decide) ?_
      obtain ⟨h12, hw⟩ := hw
      refine g_idiv hE dX4_writesNumber_12 h12 (by decide) ?_
      refine g_iadd hE dX4_writesNumber_13 ?_
      refine gm_cVvFA hE hR hM hT (As := [aI (48 + (x1 / 100))]) (t4_writes M hM z hw) (lw_V q2547 q2549 qs90 q108 q2550) hd_X4_writes ⟨by decide, by decide⟩ rfl (Nat.le_of_ble_eq_true rfl) dX4_writesNumber_14 rfl (fun F13 A14 hw => ?_)
      exact hj_17 _ _ hw
    · have hw := hN18 q
      exact hj_17 _ _ hw

/-- writesEntry(II)V -/
def w4_writesEntry (x1 : Int) (x2 : Int) (F : mF) (A : mA) (Q : mF → mA → Prop) : Prop :=
  ib (204 + 15 * x1 + 3 + 4 * x2 + 3) 354 ∧
  ib (204 + 15 * x1 + 3 + 4 * x2 + 1) 354 ∧
  w4_writes 32 F A (fun (F5 : mF) (A6 : mA) =>
  cEq (A 0 (204 + 15 * x1 + 3 + 4 * x2 + 3)) 1
    (
    (0 ≤ (A 0 (204 + 15 * x1 + 3 + 4 * x2 + 1)) ∧ (A 0 (204 + 15 * x1 + 3 + 4 * x2 + 1)) < 2147483648) ∧
    w4_writes (97 + ((A 0 (204 + 15 * x1 + 3 + 4 * x2 + 1)) % 16)) F5 A6 (fun (F8 : mF) (A9 : mA) =>
    (0 ≤ (A 0 (204 + 15 * x1 + 3 + 4 * x2 + 1)) ∧ (A 0 (204 + 15 * x1 + 3 + 4 * x2 + 1)) < 2147483648) ∧
    w4_writesNumber ((A 0 (204 + 15 * x1 + 3 + 4 * x2 + 1)) / 16) F8 A9 (fun (F11 : mF) (A12 : mA) =>
    w4_writes 47 F11 A12 (fun (F13 : mF) (A14 : mA) =>
    ib (204 + 15 * x1 + 3 + 4 * x2 + 0) 354 ∧
    w4_writesNumber (A14 0 (204 + 15 * x1 + 3 + 4 * x2 + 0)) F13 A14 (fun (F17 : mF) (A18 : mA) =>
    w4_writes 47 F17 A18 (fun (F19 : mF) (A20 : mA) =>
    ib (204 + 15 * x1 + 3 + 4 * x2 + 2) 354 ∧
    w4_writesNumber (A20 0 (204 + 15 * x1 + 3 + 4 * x2 + 2)) F19 A20 (fun (F23 : mF) (A24 : mA) =>
    Q F23 A24)))))))
    (
    jn1 (fun (y1_48 : Int) => 
        w4_writes y1_48 F5 A6 (fun (F25 : mF) (A26 : mA) =>
        Q F25 A26))
      (fun (j_48 : Int → Prop) =>
      cEq (A 0 (204 + 15 * x1 + 3 + 4 * x2 + 3)) 0
        (
        j_48 63)
        (
        j_48 120))))
theorem hd_X4_writesEntry : yX4_writesEntry.cls = RX4 ∧ yX4_writesEntry.cls ≠ "java/lang/invoke/MethodHandle" ∧ yX4_writesEntry.cls ≠ "java/lang/invoke/VarHandle" ∧ (parseMethodDescriptor yX4_writesEntry.desc).map (fun d => d.parameters.length) = some 2 := by decide +kernel
set_option maxHeartbeats 4000000 in
theorem t4_writesEntry (M : MT) (hM : OkM M) (z : Nat) {x1 : Int} {x2 : Int} {F : mF} {A : mA} {Q : mF → mA → Prop} (hw : w4_writesEntry x1 x2 F A Q) : CtM M z yX4_writesEntry cX4_writesEntry 5 none (k2_rm 2 42) [aR (some (oM M)), aI x1, aI x2] F A (PMvFA M z Q) := by
  refine Ct.intro (by decide) (Nat.le_of_ble_eq_true rfl) (fun E hE hR hT => ?_)
  have hT : TM E M := hT
  have hE : OkE E RX4 cX4_writesEntry 5 none := hE
  show G E (wsM M F A) (some z) 0 0 0 [some (aR (some (oM M))), some (aI x1), some (aI x2), none, none] []
  unfold w4_writesEntry at hw
  refine g_aldn0 hE dX4_writesEntry_0 ?_
  refine gm_geta hE hM hT 0 (by decide) rfl q2140 dX4_writesEntry_1 ?_
  refine g_ildn1 hE dX4_writesEntry_4 ?_
  refine g_ildn2 hE dX4_writesEntry_5 ?_
  refine g_iconst hE dX4_writesEntry_6 ?_
  refine gm_cSi hE hR hM hT (As := [aI x1, aI x2, aI 3]) (t4_of M hM z (s4_of )) (lw_S q2271 q2272 q108 q2273) hd_X4_of ⟨by decide, by decide⟩ rfl (Nat.le_of_ble_eq_true rfl) dX4_writesEntry_7 rfl (fun r1 hr1 => ?_)
  subst hr1
  obtain ⟨h2, hw⟩ := hw
  refine gm_iald hE hM hT 0 rfl h2 dX4_writesEntry_10 ?_
  refine g_istn3 hE dX4_writesEntry_11 (by decide) rfl ?_
  refine g_aldn0 hE dX4_writesEntry_12 ?_
  refine gm_geta hE hM hT 0 (by decide) rfl q2140 dX4_writesEntry_13 ?_
  refine g_ildn1 hE dX4_writesEntry_16 ?_
  refine g_ildn2 hE dX4_writesEntry_17 ?_
  refine g_iconst hE dX4_writesEntry_18 ?_
  refine gm_cSi hE hR hM hT (As := [aI x1, aI x2, aI 1]) (t4_of M hM z (s4_of )) (lw_S q2271 q2272 q108 q2273) hd_X4_of ⟨by decide, by decide⟩ rfl (Nat.le_of_ble_eq_true rfl) dX4_writesEntry_19 rfl (fun r3 hr3 => ?_)
  subst hr3
  obtain ⟨h4, hw⟩ := hw
  refine gm_iald hE hM hT 0 rfl h4 dX4_writesEntry_22 ?_
  refine g_ist4 hE dX4_writesEntry_23 (by decide) rfl ?_
  refine g_aldn0 hE dX4_writesEntry_25 ?_
  refine g_bipush hE dX4_writesEntry_26 (by decide) ?_
  refine gm_cVvFA hE hR hM hT (As := [aI 32]) (t4_writes M hM z hw) (lw_V q2547 q2549 qs90 q108 q2550) hd_X4_writes ⟨by decide, by decide⟩ rfl (Nat.le_of_ble_eq_true rfl) dX4_writesEntry_28 rfl (fun F5 A6 hw => ?_)
  refine g_ildn3 hE dX4_writesEntry_31 ?_
  refine g_iconst hE dX4_writesEntry_32 ?_
  obtain ⟨h31, h32, hT33, hN34⟩ := hw
  refine g_icmp_eq hE (tgt := 52) dX4_writesEntry_33 (by decide) h31 h32 (fun q => ?_) (fun q => ?_)
  · have hw := hT33 q
    refine g_aldn0 hE dX4_writesEntry_52 ?_
    refine g_bipush hE dX4_writesEntry_53 (by decide) ?_
    refine g_ild4 hE dX4_writesEntry_55 ?_
    refine g_bipush hE dX4_writesEntry_57 (by decide) ?_
    obtain ⟨h7, hw⟩ := hw
    refine g_irem hE dX4_writesEntry_59 h7 (by decide) ?_
    refine g_iadd hE dX4_writesEntry_60 ?_
    refine gm_cVvFA hE hR hM hT (As := [aI (97 + ((A 0 (204 + 15 * x1 + 3 + 4 * x2 + 1)) % 16))]) (t4_writes M hM z hw) (lw_V q2547 q2549 qs90 q108 q2550) hd_X4_writes ⟨by decide, by decide⟩ rfl (Nat.le_of_ble_eq_true rfl) dX4_writesEntry_61 rfl (fun F8 A9 hw => ?_)
    refine g_aldn0 hE dX4_writesEntry_64 ?_
    refine g_ild4 hE dX4_writesEntry_65 ?_
    refine g_bipush hE dX4_writesEntry_67 (by decide) ?_
    obtain ⟨h10, hw⟩ := hw
    refine g_idiv hE dX4_writesEntry_69 h10 (by decide) ?_
    refine gm_cVvFA hE hR hM hT (As := [aI ((A 0 (204 + 15 * x1 + 3 + 4 * x2 + 1)) / 16)]) (t4_writesNumber M hM z hw) (lw_V q2543 q2545 qs89 q108 q2546) hd_X4_writesNumber ⟨by decide, by decide⟩ rfl (Nat.le_of_ble_eq_true rfl) dX4_writesEntry_70 rfl (fun F11 A12 hw => ?_)
    refine g_aldn0 hE dX4_writesEntry_73 ?_
    refine g_bipush hE dX4_writesEntry_74 (by decide) ?_
    refine gm_cVvFA hE hR hM hT (As := [aI 47]) (t4_writes M hM z hw) (lw_V q2547 q2549 qs90 q108 q2550) hd_X4_writes ⟨by decide, by decide⟩ rfl (Nat.le_of_ble_eq_true rfl) dX4_writesEntry_76 rfl (fun F13 A14 hw => ?_)
    refine g_aldn0 hE dX4_writesEntry_79 ?_
    refine g_aldn0 hE dX4_writesEntry_80 ?_
    refine gm_geta hE hM hT 0 (by decide) rfl q2140 dX4_writesEntry_81 ?_
    refine g_ildn1 hE dX4_writesEntry_84 ?_
    refine g_ildn2 hE dX4_writesEntry_85 ?_
    refine g_iconst hE dX4_writesEntry_86 ?_
    refine gm_cSi hE hR hM hT (As := [aI x1, aI x2, aI 0]) (t4_of M hM z (s4_of )) (lw_S q2271 q2272 q108 q2273) hd_X4_of ⟨by decide, by decide⟩ rfl (Nat.le_of_ble_eq_true rfl) dX4_writesEntry_87 rfl (fun r15 hr15 => ?_)
    subst hr15
    obtain ⟨h16, hw⟩ := hw
    refine gm_iald hE hM hT 0 rfl h16 dX4_writesEntry_90 ?_
    refine gm_cVvFA hE hR hM hT (As := [aI (A14 0 (204 + 15 * x1 + 3 + 4 * x2 + 0))]) (t4_writesNumber M hM z hw) (lw_V q2543 q2545 qs89 q108 q2546) hd_X4_writesNumber ⟨by decide, by decide⟩ rfl (Nat.le_of_ble_eq_true rfl) dX4_writesEntry_91 rfl (fun F17 A18 hw => ?_)
    refine g_aldn0 hE dX4_writesEntry_94 ?_
    refine g_bipush hE dX4_writesEntry_95 (by decide) ?_
    refine gm_cVvFA hE hR hM hT (As := [aI 47]) (t4_writes M hM z hw) (lw_V q2547 q2549 qs90 q108 q2550) hd_X4_writes ⟨by decide, by decide⟩ rfl (Nat.le_of_ble_eq_true rfl) dX4_writesEntry_97 rfl (fun F19 A20 hw => ?_)
    refine g_aldn0 hE dX4_writesEntry_100 ?_
    refine g_aldn0 hE dX4_writesEntry_101 ?_
    refine gm_geta hE hM hT 0 (by decide) rfl q2140 dX4_writesEntry_102 ?_
    refine g_ildn1 hE dX4_writesEntry_105 ?_
    refine g_ildn2 hE dX4_writesEntry_106 ?_
    refine g_iconst hE dX4_writesEntry_107 ?_
    refine gm_cSi hE hR hM hT (As := [aI x1, aI x2, aI 2]) (t4_of M hM z (s4_of )) (lw_S q2271 q2272 q108 q2273) hd_X4_of ⟨by decide, by decide⟩ rfl (Nat.le_of_ble_eq_true rfl) dX4_writesEntry_108 rfl (fun r21 hr21 => ?_)
    subst hr21
    obtain ⟨h22, hw⟩ := hw
    refine gm_iald hE hM hT 0 rfl h22 dX4_writesEntry_111 ?_
    refine gm_cVvFA hE hR hM hT (As := [aI (A20 0 (204 + 15 * x1 + 3 + 4 * x2 + 2))]) (t4_writesNumber M hM z hw) (lw_V q2543 q2545 qs89 q108 q2546) hd_X4_writesNumber ⟨by decide, by decide⟩ rfl (Nat.le_of_ble_eq_true rfl) dX4_writesEntry_112 rfl (fun F23 A24 hw => ?_)
    exact g_vret hE hR dX4_writesEntry_115 (Nat.le_refl 0) (Nat.le_refl 0) ⟨_, _, rfl, rfl, rfl, hw⟩
  · have hw := hN34 q
    refine g_aldn0 hE dX4_writesEntry_36 ?_
    refine g_ildn3 hE dX4_writesEntry_37 ?_
    refine jn1_walk (fun (y1_48 : Int) => G E (wsM M F5 A6) (some z) 0 0 48 [some (aR (some (oM M))), some (aI x1), some (aI x2), some (aI (A 0 (204 + 15 * x1 + 3 + 4 * x2 + 3))), some (aI (A 0 (204 + 15 * x1 + 3 + 4 * x2 + 1)))] [aI y1_48, aR (some (oM M))]) hw (fun y1_48 hw => ?_) (fun j_48 hj_48 hw => ?_)
    · skip
      refine gm_cVvFA hE hR hM hT (As := [aI y1_48]) (t4_writes M hM z hw) (lw_V q2547 q2549 qs90 q108 q2550) hd_X4_writes ⟨by decide, by decide⟩ rfl (Nat.le_of_ble_eq_true rfl) dX4_writesEntry_48 rfl (fun F25 A26 hw => ?_)
      exact g_vret hE hR dX4_writesEntry_51 (Nat.le_refl 0) (Nat.le_refl 0) ⟨_, _, rfl, rfl, rfl, hw⟩
    · skip
      obtain ⟨h27, h28, hT29, hN30⟩ := hw
      refine g_if_ne hE (tgt := 46) dX4_writesEntry_38 (by decide) h27 (fun q => ?_) (fun q => ?_)
      · have hw := hT29 q
        refine g_bipush hE dX4_writesEntry_41 (by decide) ?_
        refine g_goto hE (tgt := 48) dX4_writesEntry_43 (by decide) ?_
        exact hj_48 _ hw
      · have hw := hN30 q
        refine g_bipush hE dX4_writesEntry_46 (by decide) ?_
        exact hj_48 _ hw

/-- tell(I)I -/
def w4_tell (x1 : Int) (F : mF) (A : mA) (Q : Int → mF → mA → Prop) : Prop :=
  w4_isPage x1 F A (fun (r1 : Int) =>
  cEq r1 0
    (
    Q ((-1)) F A)
    (
    ∀ F2 : mF, F2 = uF F 33 0 →
    ib (204 + 15 * x1 + 1) 354 ∧
    w4_writesNumber (A 0 (204 + 15 * x1 + 1)) F2 A (fun (F5 : mF) (A6 : mA) =>
    lq3 (fun (x2_31 : Int) (F_31 : mF) (A_31 : mA) (k_31 : Int → mF → mA → Prop) =>
      ib (204 + 15 * x1 + 2) 354 ∧
      cLt x2_31 (A_31 0 (204 + 15 * x1 + 2))
        (
        w4_writesEntry x1 x2_31 F_31 A_31 (fun (F9 : mF) (A10 : mA) =>
        k_31 (x2_31 + 1) F9 A10))
        (
        Q (F_31 33) F_31 A_31)) 0 F5 A6)))
theorem hd_X4_tell : yX4_tell.cls = RX4 ∧ yX4_tell.cls ≠ "java/lang/invoke/MethodHandle" ∧ yX4_tell.cls ≠ "java/lang/invoke/VarHandle" ∧ (parseMethodDescriptor yX4_tell.desc).map (fun d => d.parameters.length) = some 1 := by decide +kernel
set_option maxHeartbeats 4000000 in
theorem t4_tell (M : MT) (hM : OkM M) (z : Nat) {x1 : Int} {F : mF} {A : mA} {Q : Int → mF → mA → Prop} (hw : w4_tell x1 F A Q) : CtM M z yX4_tell cX4_tell 3 (some .int) (k2_rm 3 66) [aR (some (oM M)), aI x1] F A (PMiFA M z Q) := by
  refine Ct.intro (by decide) (Nat.le_of_ble_eq_true rfl) (fun E hE hR hT => ?_)
  have hT : TM E M := hT
  have hE : OkE E RX4 cX4_tell 3 (some .int) := hE
  show G E (wsM M F A) (some z) 0 0 0 [some (aR (some (oM M))), some (aI x1), none] []
  unfold w4_tell at hw
  refine g_aldn0 hE dX4_tell_0 ?_
  refine g_ildn1 hE dX4_tell_1 ?_
  refine gm_cVi hE hR hM hT (As := [aI x1]) (t4_isPage M hM z hw) (lw_V q2319 q2321 qs55 q108 q2322) hd_X4_isPage ⟨by decide, by decide⟩ rfl (Nat.le_of_ble_eq_true rfl) dX4_tell_2 rfl (fun r1 hw => ?_)
  obtain ⟨h15, h16, hT17, hN18⟩ := hw
  refine g_if_ne hE (tgt := 10) dX4_tell_5 (by decide) h15 (fun q => ?_) (fun q => ?_)
  · have hw := hT17 q
    refine g_iconst hE dX4_tell_8 ?_
    exact g_iret hE hR dX4_tell_9 (Nat.le_refl 0) (Nat.le_refl 0) rfl ⟨_, _, _, rfl, rfl, rfl, hw⟩
  · have hw := hN18 q
    refine g_aldn0 hE dX4_tell_10 ?_
    refine g_iconst hE dX4_tell_11 ?_
    refine gm_put hE hM hT 33 (by decide) rfl q2173 rfl (ty := .int) (by decide +kernel) rfl rfl dX4_tell_12 ?_
    have hw := hw _ rfl
    generalize uF F 33 0 = F2 at hw ⊢
    refine g_aldn0 hE dX4_tell_15 ?_
    refine g_aldn0 hE dX4_tell_16 ?_
    refine gm_geta hE hM hT 0 (by decide) rfl q2140 dX4_tell_17 ?_
    refine g_ildn1 hE dX4_tell_20 ?_
    refine g_iconst hE dX4_tell_21 ?_
    refine gm_cSi hE hR hM hT (As := [aI x1, aI 1]) (t4_at M hM z (s4_at )) (lw_S q2268 q2269 q108 q2270) hd_X4_at ⟨by decide, by decide⟩ rfl (Nat.le_of_ble_eq_true rfl) dX4_tell_22 rfl (fun r3 hr3 => ?_)
    subst hr3
    obtain ⟨h4, hw⟩ := hw
    refine gm_iald hE hM hT 0 rfl h4 dX4_tell_25 ?_
    refine gm_cVvFA hE hR hM hT (As := [aI (A 0 (204 + 15 * x1 + 1))]) (t4_writesNumber M hM z hw) (lw_V q2543 q2545 qs89 q108 q2546) hd_X4_writesNumber ⟨by decide, by decide⟩ rfl (Nat.le_of_ble_eq_true rfl) dX4_tell_26 rfl (fun F5 A6 hw => ?_)
    refine g_iconst hE dX4_tell_29 ?_
    refine g_istn2 hE dX4_tell_30 (by decide) rfl ?_
    refine lq3_walk (fun (x2_31 : Int) (F_31 : mF) (A_31 : mA) => G E (wsM M F_31 A_31) (some z) 0 0 31 [some (aR (some (oM M))), some (aI x1), some (aI x2_31)] []) (fun k_31 hk_31 x2_31 F_31 A_31 hw => ?_) _ _ _ hw
    refine g_ildn2 hE dX4_tell_31 ?_
    refine g_aldn0 hE dX4_tell_32 ?_
    refine gm_geta hE hM hT 0 (by decide) rfl q2140 dX4_tell_33 ?_
    refine g_ildn1 hE dX4_tell_36 ?_
    refine g_iconst hE dX4_tell_37 ?_
    refine gm_cSi hE hR hM hT (As := [aI x1, aI 2]) (t4_at M hM z (s4_at )) (lw_S q2268 q2269 q108 q2270) hd_X4_at ⟨by decide, by decide⟩ rfl (Nat.le_of_ble_eq_true rfl) dX4_tell_38 rfl (fun r7 hr7 => ?_)
    subst hr7
    obtain ⟨h8, hw⟩ := hw
    refine gm_iald hE hM hT 0 rfl h8 dX4_tell_41 ?_
    obtain ⟨h11, h12, hT13, hN14⟩ := hw
    refine g_icmp_ge hE (tgt := 57) dX4_tell_42 (by decide) h11 h12 (fun q => ?_) (fun q => ?_)
    · have hw := hT13 q
      refine g_aldn0 hE dX4_tell_45 ?_
      refine g_ildn1 hE dX4_tell_46 ?_
      refine g_ildn2 hE dX4_tell_47 ?_
      refine gm_cVvFA hE hR hM hT (As := [aI x1, aI x2_31]) (t4_writesEntry M hM z hw) (lw_V q2551 q2553 qs91 q108 q2554) hd_X4_writesEntry ⟨by decide, by decide⟩ rfl (Nat.le_of_ble_eq_true rfl) dX4_tell_48 rfl (fun F9 A10 hw => ?_)
      refine g_iinc2 hE dX4_tell_51 (by decide) rfl ?_
      refine g_goto hE (tgt := 31) dX4_tell_54 (by decide) ?_
      exact hk_31 _ _ _ hw
    · have hw := hN14 q
      refine g_aldn0 hE dX4_tell_57 ?_
      refine gm_geti hE hM hT 33 (by decide) rfl q2173 dX4_tell_58 ?_
      exact g_iret hE hR dX4_tell_61 (Nat.le_refl 0) (Nat.le_refl 0) rfl ⟨_, _, _, rfl, rfl, rfl, hw⟩

/-- character(I)I -/
def w4_character (x1 : Int) (F : mF) (A : mA) (Q : Int → Prop) : Prop :=
  inR x1 ∧ inR ((F 33) - 1) ∧
  jn1 (fun (y0_24 : Int) => 
      Q y0_24)
    (fun (j_24 : Int → Prop) =>
    cIf (0 ≤ x1 ∧ x1 ≤ ((F 33) - 1))
      (
      ib x1 40 ∧
      j_24 (A 32 x1))
      (
      j_24 ((-1))))
theorem hd_X4_character : yX4_character.cls = RX4 ∧ yX4_character.cls ≠ "java/lang/invoke/MethodHandle" ∧ yX4_character.cls ≠ "java/lang/invoke/VarHandle" ∧ (parseMethodDescriptor yX4_character.desc).map (fun d => d.parameters.length) = some 1 := by decide +kernel
set_option maxHeartbeats 4000000 in
theorem t4_character (M : MT) (hM : OkM M) (z : Nat) {x1 : Int} {F : mF} {A : mA} {Q : Int → Prop} (hw : w4_character x1 F A Q) : CtM M z yX4_character cX4_character 2 (some .int) (k2_rm 1 22) [aR (some (oM M)), aI x1] F A (PMi M z F A Q) := by
  refine Ct.intro (by decide) (Nat.le_of_ble_eq_true rfl) (fun E hE hR hT => ?_)
  have hT : TM E M := hT
  have hE : OkE E RX4 cX4_character 2 (some .int) := hE
  show G E (wsM M F A) (some z) 0 0 0 [some (aR (some (oM M))), some (aI x1)] []
  unfold w4_character at hw
  refine g_ildn1 hE dX4_character_0 ?_
  refine g_iconst hE dX4_character_1 ?_
  refine g_aldn0 hE dX4_character_2 ?_
  refine gm_geti hE hM hT 33 (by decide) rfl q2173 dX4_character_3 ?_
  refine g_iconst hE dX4_character_6 ?_
  refine g_isub hE dX4_character_7 ?_
  obtain ⟨h1, hw⟩ := hw
  obtain ⟨h2, hw⟩ := hw
  refine gm_cSi hE hR hM hT (As := [aI x1, aI 0, aI ((F 33) - 1)]) (t4_isIn M hM z (s4_isIn h1 (by decide) h2)) (lw_S q2257 q2258 q108 q2259) hd_X4_isIn ⟨by decide, by decide⟩ rfl (Nat.le_of_ble_eq_true rfl) dX4_character_8 rfl (fun r3 hr3 => ?_)
  subst hr3
  refine jn1_walk (fun (y0_24 : Int) => G E (wsM M F A) (some z) 0 0 24 [some (aR (some (oM M))), some (aI x1)] [aI y0_24]) hw (fun y0_24 hw => ?_) (fun j_24 hj_24 hw => ?_)
  · skip
    exact g_iret hE hR dX4_character_24 (Nat.le_refl 0) (Nat.le_refl 0) rfl ⟨_, rfl, rfl, rfl, hw⟩
  · skip
    refine g_if_eq hE (tgt := 23) dX4_character_11 (by decide) bI_in (fun q => ?_) (fun q => ?_)
    · have hw := hw.2 (bI_eq0.mp q)
      refine g_iconst hE dX4_character_23 ?_
      exact hj_24 _ hw
    · have hw := hw.1 (bI_ne0.mp q)
      refine g_aldn0 hE dX4_character_14 ?_
      refine gm_geta hE hM hT 32 (by decide) rfl q2172 dX4_character_15 ?_
      refine g_ildn1 hE dX4_character_18 ?_
      obtain ⟨h4, hw⟩ := hw
      refine gm_iald hE hM hT 32 rfl h4 dX4_character_19 ?_
      refine g_goto hE (tgt := 24) dX4_character_20 (by decide) ?_
      exact hj_24 _ hw

/-- reason(Z)I -/
def w4_reason (x1 : Int) (F : mF) (A : mA) (Q : Int → Prop) : Prop :=
  jn1 (fun (y0_27 : Int) => 
      Q y0_27)
    (fun (j_27 : Int → Prop) =>
    cEq (F 18) 0
      (
      j_27 ((-5)))
      (
      cEq x1 0
        (
        j_27 (F 18))
        (
        j_27 (F 19))))
theorem hd_X4_reason : yX4_reason.cls = RX4 ∧ yX4_reason.cls ≠ "java/lang/invoke/MethodHandle" ∧ yX4_reason.cls ≠ "java/lang/invoke/VarHandle" ∧ (parseMethodDescriptor yX4_reason.desc).map (fun d => d.parameters.length) = some 1 := by decide +kernel
set_option maxHeartbeats 4000000 in
theorem t4_reason (M : MT) (hM : OkM M) (z : Nat) {x1 : Int} {F : mF} {A : mA} {Q : Int → Prop} (hw : w4_reason x1 F A Q) : CtM M z yX4_reason cX4_reason 2 (some .int) (k2_rm 0 0) [aR (some (oM M)), aI x1] F A (PMi M z F A Q) := by
  refine Ct.intro (by decide) (Nat.le_of_ble_eq_true rfl) (fun E hE hR hT => ?_)
  have hT : TM E M := hT
  have hE : OkE E RX4 cX4_reason 2 (some .int) := hE
  show G E (wsM M F A) (some z) 0 0 0 [some (aR (some (oM M))), some (aI x1)] []
  unfold w4_reason at hw
  refine g_aldn0 hE dX4_reason_0 ?_
  refine gm_geti hE hM hT 18 (by decide) rfl q2158 dX4_reason_1 ?_
  refine jn1_walk (fun (y0_27 : Int) => G E (wsM M F A) (some z) 0 0 27 [some (aR (some (oM M))), some (aI x1)] [aI y0_27]) hw (fun y0_27 hw => ?_) (fun j_27 hj_27 hw => ?_)
  · skip
    exact g_iret hE hR dX4_reason_27 (Nat.le_refl 0) (Nat.le_refl 0) rfl ⟨_, rfl, rfl, rfl, hw⟩
  · skip
    obtain ⟨h5, h6, hT7, hN8⟩ := hw
    refine g_if_ne hE (tgt := 12) dX4_reason_4 (by decide) h5 (fun q => ?_) (fun q => ?_)
    · have hw := hT7 q
      refine g_bipush hE dX4_reason_7 (by decide) ?_
      refine g_goto hE (tgt := 27) dX4_reason_9 (by decide) ?_
      exact hj_27 _ hw
    · have hw := hN8 q
      refine g_ildn1 hE dX4_reason_12 ?_
      obtain ⟨h1, h2, hT3, hN4⟩ := hw
      refine g_if_eq hE (tgt := 23) dX4_reason_13 (by decide) h1 (fun q => ?_) (fun q => ?_)
      · have hw := hT3 q
        refine g_aldn0 hE dX4_reason_23 ?_
        refine gm_geti hE hM hT 18 (by decide) rfl q2158 dX4_reason_24 ?_
        exact hj_27 _ hw
      · have hw := hN4 q
        refine g_aldn0 hE dX4_reason_16 ?_
        refine gm_geti hE hM hT 19 (by decide) rfl q2159 dX4_reason_17 ?_
        refine g_goto hE (tgt := 27) dX4_reason_20 (by decide) ?_
        exact hj_27 _ hw

/-- sum(III)I -/
def w4_sum (x1 : Int) (x2 : Int) (x3 : Int) (F : mF) (A : mA) (Q : Int → Prop) : Prop :=
  lq2 (fun (x4_6 : Int) (x5_6 : Int) (k_6 : Int → Int → Prop) =>
    cLt x5_6 x2
      (
      ib (x1 + (x3 * x5_6)) 354 ∧
      k_6 (x4_6 + (A 0 (x1 + (x3 * x5_6)))) (x5_6 + 1))
      (
      Q x4_6)) 0 0
theorem hd_X4_sum : yX4_sum.cls = RX4 ∧ yX4_sum.cls ≠ "java/lang/invoke/MethodHandle" ∧ yX4_sum.cls ≠ "java/lang/invoke/VarHandle" ∧ (parseMethodDescriptor yX4_sum.desc).map (fun d => d.parameters.length) = some 3 := by decide +kernel
set_option maxHeartbeats 4000000 in
theorem t4_sum (M : MT) (hM : OkM M) (z : Nat) {x1 : Int} {x2 : Int} {x3 : Int} {F : mF} {A : mA} {Q : Int → Prop} (hw : w4_sum x1 x2 x3 F A Q) : CtM M z yX4_sum cX4_sum 6 (some .int) (k2_rm 0 0) [aR (some (oM M)), aI x1, aI x2, aI x3] F A (PMi M z F A Q) := by
  refine Ct.intro (by decide) (Nat.le_of_ble_eq_true rfl) (fun E hE hR hT => ?_)
  have hT : TM E M := hT
  have hE : OkE E RX4 cX4_sum 6 (some .int) := hE
  show G E (wsM M F A) (some z) 0 0 0 [some (aR (some (oM M))), some (aI x1), some (aI x2), some (aI x3), none, none] []
  unfold w4_sum at hw
  refine g_iconst hE dX4_sum_0 ?_
  refine g_ist4 hE dX4_sum_1 (by decide) rfl ?_
  refine g_iconst hE dX4_sum_3 ?_
  refine g_ist5 hE dX4_sum_4 (by decide) rfl ?_
  refine lq2_walk (fun (x4_6 : Int) (x5_6 : Int) => G E (wsM M F A) (some z) 0 0 6 [some (aR (some (oM M))), some (aI x1), some (aI x2), some (aI x3), some (aI x4_6), some (aI x5_6)] []) (fun k_6 hk_6 x4_6 x5_6 hw => ?_) _ _ hw
  refine g_ild5 hE dX4_sum_6 ?_
  refine g_ildn2 hE dX4_sum_8 ?_
  obtain ⟨h2, h3, hT4, hN5⟩ := hw
  refine g_icmp_ge hE (tgt := 34) dX4_sum_9 (by decide) h2 h3 (fun q => ?_) (fun q => ?_)
  · have hw := hT4 q
    refine g_ild4 hE dX4_sum_12 ?_
    refine g_aldn0 hE dX4_sum_14 ?_
    refine gm_geta hE hM hT 0 (by decide) rfl q2140 dX4_sum_15 ?_
    refine g_ildn1 hE dX4_sum_18 ?_
    refine g_ildn3 hE dX4_sum_19 ?_
    refine g_ild5 hE dX4_sum_20 ?_
    refine g_imul hE dX4_sum_22 ?_
    refine g_iadd hE dX4_sum_23 ?_
    obtain ⟨h1, hw⟩ := hw
    refine gm_iald hE hM hT 0 rfl h1 dX4_sum_24 ?_
    refine g_iadd hE dX4_sum_25 ?_
    refine g_ist4 hE dX4_sum_26 (by decide) rfl ?_
    refine g_iinc5 hE dX4_sum_28 (by decide) rfl ?_
    refine g_goto hE (tgt := 6) dX4_sum_31 (by decide) ?_
    exact hk_6 _ _ hw
  · have hw := hN5 q
    refine g_ild4 hE dX4_sum_34 ?_
    exact g_iret hE hR dX4_sum_36 (Nat.le_refl 0) (Nat.le_refl 0) rfl ⟨_, rfl, rfl, rfl, hw⟩

/-- account(I)I -/
def w4_account (x1 : Int) (F : mF) (A : mA) (Q : Int → Prop) : Prop :=
  jn0 (
      w4_entries (x1 - 2) F A (fun (r1 : Int) =>
      Q r1))
    (fun (j_103 : Prop) =>
    jn0 (
        ib ((0 + x1) - 6) 354 ∧
        Q (A 0 ((0 + x1) - 6)))
      (fun (j_116 : Prop) =>
      inR x1 ∧ ((x1 < 0 ∨ 14 < x1) →
        Q ((-2))) ∧
      (x1 = 0 →
        Q (A 0 11)) ∧
      (x1 = 1 →
        w4_sum (204 + 15 * 0 + 2) (A 0 11) 15 F A (fun (r7 : Int) =>
        Q r7)) ∧
      (x1 = 2 →
        j_103) ∧
      (x1 = 3 →
        j_103) ∧
      (x1 = 4 →
        j_103) ∧
      (x1 = 5 →
        w4_landN  F A (fun (r12 : Int) =>
        Q r12)) ∧
      (x1 = 6 →
        j_116) ∧
      (x1 = 7 →
        j_116) ∧
      (x1 = 8 →
        j_116) ∧
      (x1 = 9 →
        j_116) ∧
      (x1 = 10 →
        w4_sum 4 6 1 F A (fun (r18 : Int) =>
        Q r18)) ∧
      (x1 = 11 →
        Q (A 0 10)) ∧
      (x1 = 12 →
        w4_sum (204 + 15 * 0 + 1) (A 0 11) 15 F A (fun (r22 : Int) =>
        Q r22)) ∧
      (x1 = 13 →
        Q (F 27)) ∧
      (x1 = 14 →
        Q (F 17))))
theorem hd_X4_account : yX4_account.cls = RX4 ∧ yX4_account.cls ≠ "java/lang/invoke/MethodHandle" ∧ yX4_account.cls ≠ "java/lang/invoke/VarHandle" ∧ (parseMethodDescriptor yX4_account.desc).map (fun d => d.parameters.length) = some 1 := by decide +kernel
set_option maxHeartbeats 4000000 in
theorem t4_account (M : MT) (hM : OkM M) (z : Nat) {x1 : Int} {F : mF} {A : mA} {Q : Int → Prop} (hw : w4_account x1 F A Q) : CtM M z yX4_account cX4_account 2 (some .int) (k2_rm 2 46) [aR (some (oM M)), aI x1] F A (PMi M z F A Q) := by
  refine Ct.intro (by decide) (Nat.le_of_ble_eq_true rfl) (fun E hE hR hT => ?_)
  have hT : TM E M := hT
  have hE : OkE E RX4 cX4_account 2 (some .int) := hE
  show G E (wsM M F A) (some z) 0 0 0 [some (aR (some (oM M))), some (aI x1)] []
  unfold w4_account at hw
  refine g_ildn1 hE dX4_account_0 ?_
  refine jn0_walk (G E (wsM M F A) (some z) 0 0 103 [some (aR (some (oM M))), some (aI x1)] []) hw (fun  hw => ?_) (fun j_103 hj_103 hw => ?_)
  · skip
    refine g_aldn0 hE dX4_account_103 ?_
    refine g_ildn1 hE dX4_account_104 ?_
    refine g_iconst hE dX4_account_105 ?_
    refine g_isub hE dX4_account_106 ?_
    refine gm_cVi hE hR hM hT (As := [aI (x1 - 2)]) (t4_entries M hM z hw) (lw_V q2371 q2373 qs64 q108 q2374) hd_X4_entries ⟨by decide, by decide⟩ rfl (Nat.le_of_ble_eq_true rfl) dX4_account_107 rfl (fun r1 hw => ?_)
    exact g_iret hE hR dX4_account_110 (Nat.le_refl 0) (Nat.le_refl 0) rfl ⟨_, rfl, rfl, rfl, hw⟩
  · skip
    refine jn0_walk (G E (wsM M F A) (some z) 0 0 116 [some (aR (some (oM M))), some (aI x1)] []) hw (fun  hw => ?_) (fun j_116 hj_116 hw => ?_)
    · skip
      refine g_aldn0 hE dX4_account_116 ?_
      refine gm_geta hE hM hT 0 (by decide) rfl q2140 dX4_account_117 ?_
      refine g_iconst hE dX4_account_120 ?_
      refine g_ildn1 hE dX4_account_121 ?_
      refine g_iadd hE dX4_account_122 ?_
      refine g_bipush hE dX4_account_123 (by decide) ?_
      refine g_isub hE dX4_account_125 ?_
      obtain ⟨h2, hw⟩ := hw
      refine gm_iald hE hM hT 0 rfl h2 dX4_account_126 ?_
      exact g_iret hE hR dX4_account_127 (Nat.le_refl 0) (Nat.le_refl 0) rfl ⟨_, rfl, rfl, rfl, hw⟩
    · skip
      obtain ⟨h3, h4, h5, h8, h9, h10, h11, h13, h14, h15, h16, h17, h19, h20, h23, h24, h25⟩ := hw
      refine g_table hE dX4_account_1 h3 174 (by decide) [76, 84, 103, 103, 103, 111, 116, 116, 116, 116, 128, 137, 145, 164, 169] (by decide) (by decide) (fun q => ?_) (fun i t hi he => ?_)
      · have hw := h4 q
        refine g_bipush hE dX4_account_174 (by decide) ?_
        exact g_iret hE hR dX4_account_176 (Nat.le_refl 0) (Nat.le_refl 0) rfl ⟨_, rfl, rfl, rfl, hw⟩
      rcases i with _ | i
      · obtain rfl : 76 = t := Option.some.inj hi
        have hw := h5 (by omega)
        refine g_aldn0 hE dX4_account_76 ?_
        refine gm_geta hE hM hT 0 (by decide) rfl q2140 dX4_account_77 ?_
        refine g_bipush hE dX4_account_80 (by decide) ?_
        refine gm_iald hE hM hT 0 rfl (by decide) dX4_account_82 ?_
        exact g_iret hE hR dX4_account_83 (Nat.le_refl 0) (Nat.le_refl 0) rfl ⟨_, rfl, rfl, rfl, hw⟩
      rcases i with _ | i
      · obtain rfl : 84 = t := Option.some.inj hi
        have hw := h8 (by omega)
        refine g_aldn0 hE dX4_account_84 ?_
        refine g_iconst hE dX4_account_85 ?_
        refine g_iconst hE dX4_account_86 ?_
        refine gm_cSi hE hR hM hT (As := [aI 0, aI 2]) (t4_at M hM z (s4_at )) (lw_S q2268 q2269 q108 q2270) hd_X4_at ⟨by decide, by decide⟩ rfl (Nat.le_of_ble_eq_true rfl) dX4_account_87 rfl (fun r6 hr6 => ?_)
        subst hr6
        refine g_aldn0 hE dX4_account_90 ?_
        refine gm_geta hE hM hT 0 (by decide) rfl q2140 dX4_account_91 ?_
        refine g_bipush hE dX4_account_94 (by decide) ?_
        refine gm_iald hE hM hT 0 rfl (by decide) dX4_account_96 ?_
        refine g_bipush hE dX4_account_97 (by decide) ?_
        refine gm_cVi hE hR hM hT (As := [aI (204 + 15 * 0 + 2), aI (A 0 11), aI 15]) (t4_sum M hM z hw) (lw_V q2567 q2569 qs92 q108 q2570) hd_X4_sum ⟨by decide, by decide⟩ rfl (Nat.le_of_ble_eq_true rfl) dX4_account_99 rfl (fun r7 hw => ?_)
        exact g_iret hE hR dX4_account_102 (Nat.le_refl 0) (Nat.le_refl 0) rfl ⟨_, rfl, rfl, rfl, hw⟩
      rcases i with _ | i
      · obtain rfl : 103 = t := Option.some.inj hi
        have hw := h9 (by omega)
        exact hj_103  hw
      rcases i with _ | i
      · obtain rfl : 103 = t := Option.some.inj hi
        have hw := h10 (by omega)
        exact hj_103  hw
      rcases i with _ | i
      · obtain rfl : 103 = t := Option.some.inj hi
        have hw := h11 (by omega)
        exact hj_103  hw
      rcases i with _ | i
      · obtain rfl : 111 = t := Option.some.inj hi
        have hw := h13 (by omega)
        refine g_aldn0 hE dX4_account_111 ?_
        refine gm_cVi hE hR hM hT (As := []) (t4_landN M hM z hw) (lw_V q2282 q2284 qs51 q108 q2285) hd_X4_landN ⟨by decide, by decide⟩ rfl (Nat.le_of_ble_eq_true rfl) dX4_account_112 rfl (fun r12 hw => ?_)
        exact g_iret hE hR dX4_account_115 (Nat.le_refl 0) (Nat.le_refl 0) rfl ⟨_, rfl, rfl, rfl, hw⟩
      rcases i with _ | i
      · obtain rfl : 116 = t := Option.some.inj hi
        have hw := h14 (by omega)
        exact hj_116  hw
      rcases i with _ | i
      · obtain rfl : 116 = t := Option.some.inj hi
        have hw := h15 (by omega)
        exact hj_116  hw
      rcases i with _ | i
      · obtain rfl : 116 = t := Option.some.inj hi
        have hw := h16 (by omega)
        exact hj_116  hw
      rcases i with _ | i
      · obtain rfl : 116 = t := Option.some.inj hi
        have hw := h17 (by omega)
        exact hj_116  hw
      rcases i with _ | i
      · obtain rfl : 128 = t := Option.some.inj hi
        have hw := h19 (by omega)
        refine g_aldn0 hE dX4_account_128 ?_
        refine g_iconst hE dX4_account_129 ?_
        refine g_bipush hE dX4_account_130 (by decide) ?_
        refine g_iconst hE dX4_account_132 ?_
        refine gm_cVi hE hR hM hT (As := [aI 4, aI 6, aI 1]) (t4_sum M hM z hw) (lw_V q2567 q2569 qs92 q108 q2570) hd_X4_sum ⟨by decide, by decide⟩ rfl (Nat.le_of_ble_eq_true rfl) dX4_account_133 rfl (fun r18 hw => ?_)
        exact g_iret hE hR dX4_account_136 (Nat.le_refl 0) (Nat.le_refl 0) rfl ⟨_, rfl, rfl, rfl, hw⟩
      rcases i with _ | i
      · obtain rfl : 137 = t := Option.some.inj hi
        have hw := h20 (by omega)
        refine g_aldn0 hE dX4_account_137 ?_
        refine gm_geta hE hM hT 0 (by decide) rfl q2140 dX4_account_138 ?_
        refine g_bipush hE dX4_account_141 (by decide) ?_
        refine gm_iald hE hM hT 0 rfl (by decide) dX4_account_143 ?_
        exact g_iret hE hR dX4_account_144 (Nat.le_refl 0) (Nat.le_refl 0) rfl ⟨_, rfl, rfl, rfl, hw⟩
      rcases i with _ | i
      · obtain rfl : 145 = t := Option.some.inj hi
        have hw := h23 (by omega)
        refine g_aldn0 hE dX4_account_145 ?_
        refine g_iconst hE dX4_account_146 ?_
        refine g_iconst hE dX4_account_147 ?_
        refine gm_cSi hE hR hM hT (As := [aI 0, aI 1]) (t4_at M hM z (s4_at )) (lw_S q2268 q2269 q108 q2270) hd_X4_at ⟨by decide, by decide⟩ rfl (Nat.le_of_ble_eq_true rfl) dX4_account_148 rfl (fun r21 hr21 => ?_)
        subst hr21
        refine g_aldn0 hE dX4_account_151 ?_
        refine gm_geta hE hM hT 0 (by decide) rfl q2140 dX4_account_152 ?_
        refine g_bipush hE dX4_account_155 (by decide) ?_
        refine gm_iald hE hM hT 0 rfl (by decide) dX4_account_157 ?_
        refine g_bipush hE dX4_account_158 (by decide) ?_
        refine gm_cVi hE hR hM hT (As := [aI (204 + 15 * 0 + 1), aI (A 0 11), aI 15]) (t4_sum M hM z hw) (lw_V q2567 q2569 qs92 q108 q2570) hd_X4_sum ⟨by decide, by decide⟩ rfl (Nat.le_of_ble_eq_true rfl) dX4_account_160 rfl (fun r22 hw => ?_)
        exact g_iret hE hR dX4_account_163 (Nat.le_refl 0) (Nat.le_refl 0) rfl ⟨_, rfl, rfl, rfl, hw⟩
      rcases i with _ | i
      · obtain rfl : 164 = t := Option.some.inj hi
        have hw := h24 (by omega)
        refine g_aldn0 hE dX4_account_164 ?_
        refine gm_geti hE hM hT 27 (by decide) rfl q2167 dX4_account_165 ?_
        exact g_iret hE hR dX4_account_168 (Nat.le_refl 0) (Nat.le_refl 0) rfl ⟨_, rfl, rfl, rfl, hw⟩
      rcases i with _ | i
      · obtain rfl : 169 = t := Option.some.inj hi
        have hw := h25 (by omega)
        refine g_aldn0 hE dX4_account_169 ?_
        refine gm_geti hE hM hT 17 (by decide) rfl q2157 dX4_account_170 ?_
        exact g_iret hE hR dX4_account_173 (Nat.le_refl 0) (Nat.le_refl 0) rfl ⟨_, rfl, rfl, rfl, hw⟩
      exact absurd hi (by simp)

/-- undo()I -/
def w4_undo  (F : mF) (A : mA) (Q : Int → mF → mA → Prop) : Prop :=
  cEq (F 17) 0
    (
    Q ((-5)) F A)
    (
    ∀ F1 : mF, F1 = uF F 17 ((F 17) - 1) →
    lq2 (fun (x1_22 : Int) (A_22 : mA) (k_22 : Int → mA → Prop) =>
      cLt x1_22 354
        (
        ib (((F1 17) * 354) + x1_22) 2832 ∧
        ib x1_22 354 ∧ ∀ A3 : mA, A3 = uA A_22 0 x1_22 (A_22 3 (((F1 17) * 354) + x1_22)) →
        k_22 (x1_22 + 1) A3)
        (
        Q (F1 17) F1 A_22)) 0 A)
theorem hd_X4_undo : yX4_undo.cls = RX4 ∧ yX4_undo.cls ≠ "java/lang/invoke/MethodHandle" ∧ yX4_undo.cls ≠ "java/lang/invoke/VarHandle" ∧ (parseMethodDescriptor yX4_undo.desc).map (fun d => d.parameters.length) = some 0 := by decide +kernel
set_option maxHeartbeats 4000000 in
theorem t4_undo (M : MT) (hM : OkM M) (z : Nat)  {F : mF} {A : mA} {Q : Int → mF → mA → Prop} (hw : w4_undo F A Q) : CtM M z yX4_undo cX4_undo 2 (some .int) (k2_rm 0 0) [aR (some (oM M))] F A (PMiFA M z Q) := by
  refine Ct.intro (by decide) (Nat.le_of_ble_eq_true rfl) (fun E hE hR hT => ?_)
  have hT : TM E M := hT
  have hE : OkE E RX4 cX4_undo 2 (some .int) := hE
  show G E (wsM M F A) (some z) 0 0 0 [some (aR (some (oM M))), none] []
  unfold w4_undo at hw
  refine g_aldn0 hE dX4_undo_0 ?_
  refine gm_geti hE hM hT 17 (by decide) rfl q2157 dX4_undo_1 ?_
  obtain ⟨h9, h10, hT11, hN12⟩ := hw
  refine g_if_ne hE (tgt := 10) dX4_undo_4 (by decide) h9 (fun q => ?_) (fun q => ?_)
  · have hw := hT11 q
    refine g_bipush hE dX4_undo_7 (by decide) ?_
    exact g_iret hE hR dX4_undo_9 (Nat.le_refl 0) (Nat.le_refl 0) rfl ⟨_, _, _, rfl, rfl, rfl, hw⟩
  · have hw := hN12 q
    refine g_aldn0 hE dX4_undo_10 ?_
    refine g_dup hE dX4_undo_11 rfl ?_
    refine gm_geti hE hM hT 17 (by decide) rfl q2157 dX4_undo_12 ?_
    refine g_iconst hE dX4_undo_15 ?_
    refine g_isub hE dX4_undo_16 ?_
    refine gm_put hE hM hT 17 (by decide) rfl q2157 rfl (ty := .int) (by decide +kernel) rfl rfl dX4_undo_17 ?_
    have hw := hw _ rfl
    generalize uF F 17 ((F 17) - 1) = F1 at hw ⊢
    refine g_iconst hE dX4_undo_20 ?_
    refine g_istn1 hE dX4_undo_21 (by decide) rfl ?_
    refine lq2_walk (fun (x1_22 : Int) (A_22 : mA) => G E (wsM M F1 A_22) (some z) 0 0 22 [some (aR (some (oM M))), some (aI x1_22)] []) (fun k_22 hk_22 x1_22 A_22 hw => ?_) _ _ hw
    refine g_ildn1 hE dX4_undo_22 ?_
    refine g_sipush hE dX4_undo_23 (by decide) ?_
    obtain ⟨h5, h6, hT7, hN8⟩ := hw
    refine g_icmp_ge hE (tgt := 56) dX4_undo_26 (by decide) h5 h6 (fun q => ?_) (fun q => ?_)
    · have hw := hT7 q
      refine g_aldn0 hE dX4_undo_29 ?_
      refine gm_geta hE hM hT 0 (by decide) rfl q2140 dX4_undo_30 ?_
      refine g_ildn1 hE dX4_undo_33 ?_
      refine g_aldn0 hE dX4_undo_34 ?_
      refine gm_geta hE hM hT 3 (by decide) rfl q2143 dX4_undo_35 ?_
      refine g_aldn0 hE dX4_undo_38 ?_
      refine gm_geti hE hM hT 17 (by decide) rfl q2157 dX4_undo_39 ?_
      refine g_sipush hE dX4_undo_42 (by decide) ?_
      refine g_imul hE dX4_undo_45 ?_
      refine g_ildn1 hE dX4_undo_46 ?_
      refine g_iadd hE dX4_undo_47 ?_
      obtain ⟨h2, hw⟩ := hw
      refine gm_iald hE hM hT 3 rfl h2 dX4_undo_48 ?_
      obtain ⟨h4, hw⟩ := hw
      refine gm_iast hE hM hT 0 rfl h4 dX4_undo_49 ?_
      have hw := hw _ rfl
      generalize uA A_22 0 x1_22 (A_22 3 (((F1 17) * 354) + x1_22)) = A3 at hw ⊢
      refine g_iinc1 hE dX4_undo_50 (by decide) rfl ?_
      refine g_goto hE (tgt := 22) dX4_undo_53 (by decide) ?_
      exact hk_22 _ _ hw
    · have hw := hN8 q
      refine g_aldn0 hE dX4_undo_56 ?_
      refine gm_geti hE hM hT 17 (by decide) rfl q2157 dX4_undo_57 ?_
      exact g_iret hE hR dX4_undo_60 (Nat.le_refl 0) (Nat.le_refl 0) rfl ⟨_, _, _, rfl, rfl, rfl, hw⟩

/-- save()I -/
def w4_save  (F : mF) (A : mA) (Q : Int → mF → mA → Prop) : Prop :=
  w4_lays 2 0 F A (fun (A1 : mA) =>
  ∀ F2 : mF, F2 = uF F 20 1 →
  Q (A1 0 11) F2 A1)
theorem hd_X4_save : yX4_save.cls = RX4 ∧ yX4_save.cls ≠ "java/lang/invoke/MethodHandle" ∧ yX4_save.cls ≠ "java/lang/invoke/VarHandle" ∧ (parseMethodDescriptor yX4_save.desc).map (fun d => d.parameters.length) = some 0 := by decide +kernel
set_option maxHeartbeats 4000000 in
theorem t4_save (M : MT) (hM : OkM M) (z : Nat)  {F : mF} {A : mA} {Q : Int → mF → mA → Prop} (hw : w4_save F A Q) : CtM M z yX4_save cX4_save 1 (some .int) (k2_rm 1 22) [aR (some (oM M))] F A (PMiFA M z Q) := by
  refine Ct.intro (by decide) (Nat.le_of_ble_eq_true rfl) (fun E hE hR hT => ?_)
  have hT : TM E M := hT
  have hE : OkE E RX4 cX4_save 1 (some .int) := hE
  show G E (wsM M F A) (some z) 0 0 0 [some (aR (some (oM M)))] []
  unfold w4_save at hw
  refine g_aldn0 hE dX4_save_0 ?_
  refine gm_geta hE hM hT 2 (by decide) rfl q2142 dX4_save_1 ?_
  refine g_aldn0 hE dX4_save_4 ?_
  refine gm_geta hE hM hT 0 (by decide) rfl q2140 dX4_save_5 ?_
  refine gm_cSvA hE hR hM hT (As := [aR (some (adM M 2)), aR (some (adM M 0))]) (t4_lays M hM z rfl rfl hw) (lw_S q2251 q2252 q108 q2253) hd_X4_lays ⟨by decide, by decide⟩ rfl (Nat.le_of_ble_eq_true rfl) dX4_save_8 rfl (fun A1 hw => ?_)
  refine g_aldn0 hE dX4_save_11 ?_
  refine g_iconst hE dX4_save_12 ?_
  refine gm_put hE hM hT 20 (by decide) rfl q2160 rfl (ty := .boolean) (by decide +kernel) (narrow_bl (by decide)) (fits_bl (by decide)) dX4_save_13 ?_
  have hw := hw _ rfl
  generalize uF F 20 1 = F2 at hw ⊢
  refine g_aldn0 hE dX4_save_16 ?_
  refine gm_geta hE hM hT 0 (by decide) rfl q2140 dX4_save_17 ?_
  refine g_bipush hE dX4_save_20 (by decide) ?_
  refine gm_iald hE hM hT 0 rfl (by decide) dX4_save_22 ?_
  exact g_iret hE hR dX4_save_23 (Nat.le_refl 0) (Nat.le_refl 0) rfl ⟨_, _, _, rfl, rfl, rfl, hw⟩

/-- restore()I -/
def w4_restore  (F : mF) (A : mA) (Q : Int → mF → mA → Prop) : Prop :=
  cEq (F 20) 0
    (
    Q ((-5)) F A)
    (
    w4_lays 0 2 F A (fun (A1 : mA) =>
    ∀ F2 : mF, F2 = uF F 17 0 →
    Q (A1 0 11) F2 A1))
theorem hd_X4_restore : yX4_restore.cls = RX4 ∧ yX4_restore.cls ≠ "java/lang/invoke/MethodHandle" ∧ yX4_restore.cls ≠ "java/lang/invoke/VarHandle" ∧ (parseMethodDescriptor yX4_restore.desc).map (fun d => d.parameters.length) = some 0 := by decide +kernel
set_option maxHeartbeats 4000000 in
theorem t4_restore (M : MT) (hM : OkM M) (z : Nat)  {F : mF} {A : mA} {Q : Int → mF → mA → Prop} (hw : w4_restore F A Q) : CtM M z yX4_restore cX4_restore 1 (some .int) (k2_rm 1 22) [aR (some (oM M))] F A (PMiFA M z Q) := by
  refine Ct.intro (by decide) (Nat.le_of_ble_eq_true rfl) (fun E hE hR hT => ?_)
  have hT : TM E M := hT
  have hE : OkE E RX4 cX4_restore 1 (some .int) := hE
  show G E (wsM M F A) (some z) 0 0 0 [some (aR (some (oM M)))] []
  unfold w4_restore at hw
  refine g_aldn0 hE dX4_restore_0 ?_
  refine gm_geti hE hM hT 20 (by decide) rfl q2160 dX4_restore_1 ?_
  obtain ⟨h3, h4, hT5, hN6⟩ := hw
  refine g_if_ne hE (tgt := 10) dX4_restore_4 (by decide) h3 (fun q => ?_) (fun q => ?_)
  · have hw := hT5 q
    refine g_bipush hE dX4_restore_7 (by decide) ?_
    exact g_iret hE hR dX4_restore_9 (Nat.le_refl 0) (Nat.le_refl 0) rfl ⟨_, _, _, rfl, rfl, rfl, hw⟩
  · have hw := hN6 q
    refine g_aldn0 hE dX4_restore_10 ?_
    refine gm_geta hE hM hT 0 (by decide) rfl q2140 dX4_restore_11 ?_
    refine g_aldn0 hE dX4_restore_14 ?_
    refine gm_geta hE hM hT 2 (by decide) rfl q2142 dX4_restore_15 ?_
    refine gm_cSvA hE hR hM hT (As := [aR (some (adM M 0)), aR (some (adM M 2))]) (t4_lays M hM z rfl rfl hw) (lw_S q2251 q2252 q108 q2253) hd_X4_lays ⟨by decide, by decide⟩ rfl (Nat.le_of_ble_eq_true rfl) dX4_restore_18 rfl (fun A1 hw => ?_)
    refine g_aldn0 hE dX4_restore_21 ?_
    refine g_iconst hE dX4_restore_22 ?_
    refine gm_put hE hM hT 17 (by decide) rfl q2157 rfl (ty := .int) (by decide +kernel) rfl rfl dX4_restore_23 ?_
    have hw := hw _ rfl
    generalize uF F 17 0 = F2 at hw ⊢
    refine g_aldn0 hE dX4_restore_26 ?_
    refine gm_geta hE hM hT 0 (by decide) rfl q2140 dX4_restore_27 ?_
    refine g_bipush hE dX4_restore_30 (by decide) ?_
    refine gm_iald hE hM hT 0 rfl (by decide) dX4_restore_32 ?_
    exact g_iret hE hR dX4_restore_33 (Nat.le_refl 0) (Nat.le_refl 0) rfl ⟨_, _, _, rfl, rfl, rfl, hw⟩

