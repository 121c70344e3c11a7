set_option maxRecDepth 100000
/-- WhalingLogs$Listing.could(II)Z -/
def wx_X3_could (X : XT) (o : Nat) (x1 : Int) (x2 : Int) (T : xT) (I : xI) (R : xR) (L : xL) (Q : Int → Prop) : Prop :=
  xtag T o = 7 ∧
  ∃ b2 : Nat, R o 6 = some b2 ∧ xtag T b2 = 2 ∧
  ∃ b5 : Nat, R b2 0 = some b5 ∧ xtag T b5 = 3 ∧ wx_J0_get X b5 x2 T I R L (fun (r8 : Int) => 
  jn1 (fun (y0_47 : Int) => 
      bl y0_47 ∧ Q y0_47)
    (fun (J_47 : Int → Prop) =>
    jn0 (
        J_47 0)
      (fun (J_46 : Prop) =>
      cEq r8 0
        (
        wx_X3_before X o x1 T I R L (fun (r11 : Int) => 
        wx_X3_isNear X o r11 x1 x2 T I R L (fun (r13 : Int) => 
        cEq r13 0
          (
          J_46)
          (
          wx_X3_behind X o x1 T I R L (fun (r15 : Int) => 
          wx_X3_isNear X o r15 x1 x2 T I R L (fun (r17 : Int) => 
          cEq r17 0
            (
            J_46)
            (
            J_47 1)))))))
        (
        J_46))))
theorem hx_X3_could : yX3_could.cls = RX3 ∧ yX3_could.cls ≠ "java/lang/invoke/MethodHandle" ∧ yX3_could.cls ≠ "java/lang/invoke/VarHandle" ∧ (parseMethodDescriptor yX3_could.desc).map (fun d => d.parameters.length) = some 2 := by decide +kernel
set_option maxHeartbeats 4000000 in
theorem tx_X3_could (X : XT) {o : Nat} {x1 : Int} {x2 : Int} {T : xT} {I : xI} {R : xR} {L : xL} {Q : Int → Prop} (hw : wx_X3_could X o x1 x2 T I R L Q) : CtX X yX3_could cX3_could 3 (some .boolean) (rmX 2 0 0 87) [aR (some o), aI x1, aI x2] T I R L (PXi T I R L Q) := by
  refine CtX.intro (by decide) (Nat.le_of_ble_eq_true rfl) (fun E hE hR hN => ?_)
  have hRm := hR.rm
  have hE : OkX E X RX3 cX3_could 3 (some .boolean) := hE
  have hE1 := hE.1
  show GX E X T I R L 0 0 0 [some (aR (some o)), some (aI x1), some (aI x2)] []
  unfold wx_X3_could at hw
  intro hok
  refine g_aldn0 hE1 dX3_could_0 ?_
  obtain ⟨ht1, hw⟩ := hw
  refine gx_getr hE in_X3 (t := 7) rfl (by decide) 6 6 rfl (by decide) rfl (by decide) rfl q296 (Or.inl rfl) ht1 dX3_could_1 ?_ hok
  intro hok
  obtain ⟨b2, hb3, hw⟩ := hw
  rw [hb3]
  obtain ⟨ht4, hw⟩ := hw
  refine gx_getrN hE in_X1 (t := 2) rfl (by decide) 0 0 rfl (by decide) rfl (by decide) rfl q221 (Or.inl rfl) ht4 dX3_could_4 ?_ hok
  intro hok
  refine g_ildn2 hE1 dX3_could_7 ?_
  obtain ⟨b5, hb6, hw⟩ := hw
  rw [hb6]
  obtain ⟨ht7, hw⟩ := hw
  refine gx_callV hE hRm (As := [aI x2]) ht7 (by decide) (by decide) rfl hx_J0_get (tx_J0_get X hw) (lw_V q1430 q1229 q1230 q96 q1231) ⟨by decide, by decide⟩ ⟨(by decide), (by decide)⟩ rfl (Nat.le_of_ble_eq_true rfl) dX3_could_8 rfl (fun r9 Tz Iz Rz Lz hΦ => ?_) hok
  obtain ⟨r8, rfl, rfl, rfl, rfl, rfl, hw⟩ := hΦ
  show GX E X T I R L 0 0 11 [some (aR (some o)), some (aI x1), some (aI x2)] [aI r8]
  intro hok
  refine jn1_walk (fun (y0_47 : Int) => GX E X T I R L 0 0 47 [some (aR (some o)), some (aI x1), some (aI x2)] [aI y0_47]) hw (fun y0_47 hw => ?_) (fun J_47 hj_47 hw => ?_)
  · intro hok
    obtain ⟨h10, hw⟩ := hw
    exact gx_iret hE hR dX3_could_47 (by decide) (by decide) (narrow_bl h10) ⟨_, rfl, rfl, rfl, rfl, rfl, hw⟩ hok
  · skip
    refine jn0_walk (GX E X T I R L 0 0 46 [some (aR (some o)), some (aI x1), some (aI x2)] []) hw (fun  hw => ?_) (fun J_46 hj_46 hw => ?_)
    · intro hok
      refine g_iconst hE1 dX3_could_46 ?_
      exact hj_47 _ hw hok
    · skip
      obtain ⟨h27, h28, hT29, hN30⟩ := hw
      refine g_if_ne hE1 (tgt := 46) dX3_could_11 (by decide) h27 (fun q => ?_) (fun q => ?_)
      · have hw := hT29 q
        refine g_aldn0 hE1 dX3_could_14 ?_
        refine g_aldn0 hE1 dX3_could_15 ?_
        refine g_ildn1 hE1 dX3_could_16 ?_
        refine gx_callV hE hRm (As := [aI x1]) ht1 (by decide) (by decide) rfl hx_X3_before (tx_X3_before X hw) (lw_V q1568 q1570 qs29 q103 q1571) ⟨by decide, by decide⟩ ⟨(by decide), (by decide)⟩ rfl (Nat.le_of_ble_eq_true rfl) dX3_could_17 rfl (fun r9 Tz Iz Rz Lz hΦ => ?_) hok
        obtain ⟨r11, rfl, rfl, rfl, rfl, rfl, hw⟩ := hΦ
        show GX E X T I R L 0 0 20 [some (aR (some o)), some (aI x1), some (aI x2)] [aI r11, aR (some o)]
        intro hok
        refine g_ildn1 hE1 dX3_could_20 ?_
        refine g_ildn2 hE1 dX3_could_21 ?_
        refine gx_callV hE hRm (As := [aI r11, aI x1, aI x2]) ht1 (by decide) (by decide) rfl hx_X3_isNear (tx_X3_isNear X hw) (lw_V q1572 q1574 qs30 q103 q1575) ⟨by decide, by decide⟩ ⟨(by decide), (by decide)⟩ rfl (Nat.le_of_ble_eq_true rfl) dX3_could_22 rfl (fun r9 Tz Iz Rz Lz hΦ => ?_) hok
        obtain ⟨r13, rfl, rfl, rfl, rfl, rfl, hw⟩ := hΦ
        show GX E X T I R L 0 0 25 [some (aR (some o)), some (aI x1), some (aI x2)] [aI r13]
        intro hok
        obtain ⟨h23, h24, hT25, hN26⟩ := hw
        refine g_if_eq hE1 (tgt := 46) dX3_could_25 (by decide) h23 (fun q => ?_) (fun q => ?_)
        · have hw := hT25 q
          exact hj_46  hw hok
        · have hw := hN26 q
          refine g_aldn0 hE1 dX3_could_28 ?_
          refine g_aldn0 hE1 dX3_could_29 ?_
          refine g_ildn1 hE1 dX3_could_30 ?_
          refine gx_callV hE hRm (As := [aI x1]) ht1 (by decide) (by decide) rfl hx_X3_behind (tx_X3_behind X hw) (lw_V q1576 q1578 qs31 q103 q1579) ⟨by decide, by decide⟩ ⟨(by decide), (by decide)⟩ rfl (Nat.le_of_ble_eq_true rfl) dX3_could_31 rfl (fun r9 Tz Iz Rz Lz hΦ => ?_) hok
          obtain ⟨r15, rfl, rfl, rfl, rfl, rfl, hw⟩ := hΦ
          show GX E X T I R L 0 0 34 [some (aR (some o)), some (aI x1), some (aI x2)] [aI r15, aR (some o)]
          intro hok
          refine g_ildn1 hE1 dX3_could_34 ?_
          refine g_ildn2 hE1 dX3_could_35 ?_
          refine gx_callV hE hRm (As := [aI r15, aI x1, aI x2]) ht1 (by decide) (by decide) rfl hx_X3_isNear (tx_X3_isNear X hw) (lw_V q1572 q1574 qs30 q103 q1575) ⟨by decide, by decide⟩ ⟨(by decide), (by decide)⟩ rfl (Nat.le_of_ble_eq_true rfl) dX3_could_36 rfl (fun r9 Tz Iz Rz Lz hΦ => ?_) hok
          obtain ⟨r17, rfl, rfl, rfl, rfl, rfl, hw⟩ := hΦ
          show GX E X T I R L 0 0 39 [some (aR (some o)), some (aI x1), some (aI x2)] [aI r17]
          intro hok
          obtain ⟨h19, h20, hT21, hN22⟩ := hw
          refine g_if_eq hE1 (tgt := 46) dX3_could_39 (by decide) h19 (fun q => ?_) (fun q => ?_)
          · have hw := hT21 q
            exact hj_46  hw hok
          · have hw := hN22 q
            refine g_iconst hE1 dX3_could_42 ?_
            refine g_goto hE1 (tgt := 47) dX3_could_43 (by decide) ?_
            exact hj_47 _ hw hok
      · have hw := hN30 q
        exact hj_46  hw hok

/-- WhalingLogs.could(II)I -/
def wx_X0_could (X : XT) (o : Nat) (x1 : Int) (x2 : Int) (T : xT) (I : xI) (R : xR) (L : xL) (Q : Int → xT → xI → xR → Prop) : Prop :=
  wx_X0_isCell X x2 T I R L (fun (r1 : Int) => 
  cEq r1 0
    (
    Q (-1) T I R)
    (
    wx_X0_isIn X x1 0 999 T I R L (fun (r3 : Int) => 
    cEq r3 0
      (
      Q (-2) T I R)
      (
      xtag T o = 1 ∧ wx_X0_tracked X o T I R L (fun (r6 : Option Nat) (T7 : xT) (I8 : xI) (R9 : xR) => tle T T7 → 
      ∃ b11 : Nat, r6 = some b11 ∧ xtag T7 b11 = 7 ∧ wx_X3_could X b11 x1 x2 T7 I8 R9 L (fun (r14 : Int) => 
      jn1 (fun (y0_40 : Int) => 
          Q y0_40 T7 I8 R9)
        (fun (J_40 : Int → Prop) =>
        cEq r14 0
          (
          J_40 0)
          (
          J_40 1))))))))
theorem hx_X0_could : yX0_could.cls = RX0 ∧ yX0_could.cls ≠ "java/lang/invoke/MethodHandle" ∧ yX0_could.cls ≠ "java/lang/invoke/VarHandle" ∧ (parseMethodDescriptor yX0_could.desc).map (fun d => d.parameters.length) = some 2 := by decide +kernel
set_option maxHeartbeats 4000000 in
theorem tx_X0_could (X : XT) {o : Nat} {x1 : Int} {x2 : Int} {T : xT} {I : xI} {R : xR} {L : xL} {Q : Int → xT → xI → xR → Prop} (hw : wx_X0_could X o x1 x2 T I R L Q) : CtX X yX0_could cX0_could 3 (some .int) (rmX 9 1 5 191) [aR (some o), aI x1, aI x2] T I R L (PXiTIR T I R L Q) := by
  refine CtX.intro (by decide) (Nat.le_of_ble_eq_true rfl) (fun E hE hR hN => ?_)
  have hRm := hR.rm
  have hE : OkX E X RX0 cX0_could 3 (some .int) := hE
  have hE1 := hE.1
  show GX E X T I R L 0 0 0 [some (aR (some o)), some (aI x1), some (aI x2)] []
  unfold wx_X0_could at hw
  intro hok
  refine g_ildn2 hE1 dX0_could_0 ?_
  refine gx_callS hE hRm (As := [aI x2]) hx_X0_isCell (tx_X0_isCell X hw) (lw_S q389 q390 q94 q391) ⟨by decide, by decide⟩ ⟨(by decide), (by decide)⟩ rfl (Nat.le_of_ble_eq_true rfl) dX0_could_1 rfl (fun r9 Tz Iz Rz Lz hΦ => ?_) hok
  obtain ⟨r1, rfl, rfl, rfl, rfl, rfl, hw⟩ := hΦ
  show GX E X T I R L 0 0 4 [some (aR (some o)), some (aI x1), some (aI x2)] [aI r1]
  intro hok
  obtain ⟨h24, h25, hT26, hN27⟩ := hw
  refine g_if_ne hE1 (tgt := 9) dX0_could_4 (by decide) h24 (fun q => ?_) (fun q => ?_)
  · have hw := hT26 q
    refine g_iconst hE1 dX0_could_7 ?_
    exact gx_iret hE hR dX0_could_8 (by decide) (by decide) rfl ⟨_, rfl, rfl, tle.rf, hw⟩ hok
  · have hw := hN27 q
    refine g_ildn1 hE1 dX0_could_9 ?_
    refine g_iconst hE1 dX0_could_10 ?_
    refine g_sipush hE1 dX0_could_11 (by decide) ?_
    refine gx_callS hE hRm (As := [aI x1, aI 0, aI 999]) hx_X0_isIn (tx_X0_isIn X hw) (lw_S q392 q393 q94 q394) ⟨by decide, by decide⟩ ⟨(by decide), (by decide)⟩ rfl (Nat.le_of_ble_eq_true rfl) dX0_could_14 rfl (fun r9 Tz Iz Rz Lz hΦ => ?_) hok
    obtain ⟨r3, rfl, rfl, rfl, rfl, rfl, hw⟩ := hΦ
    show GX E X T I R L 0 0 17 [some (aR (some o)), some (aI x1), some (aI x2)] [aI r3]
    intro hok
    obtain ⟨h20, h21, hT22, hN23⟩ := hw
    refine g_if_ne hE1 (tgt := 23) dX0_could_17 (by decide) h20 (fun q => ?_) (fun q => ?_)
    · have hw := hT22 q
      refine g_bipush hE1 dX0_could_20 (by decide) ?_
      exact gx_iret hE hR dX0_could_22 (by decide) (by decide) rfl ⟨_, rfl, rfl, tle.rf, hw⟩ hok
    · have hw := hN23 q
      refine g_aldn0 hE1 dX0_could_23 ?_
      obtain ⟨ht5, hw⟩ := hw
      refine gx_callV hE hRm (As := []) ht5 (by decide) (by decide) rfl hx_X0_tracked (tx_X0_tracked X hw) (lw_V q1405 q1407 qs24 q94 q1408) ⟨by decide, by decide⟩ ⟨(by decide), (by decide)⟩ rfl (Nat.le_of_ble_eq_true rfl) dX0_could_24 rfl (fun r9 T7 I8 R9 Lz hΦ => ?_) hok
      obtain ⟨r6, rfl, rfl, hl10, hw⟩ := hΦ
      have hw := hw hl10
      show GX E X T7 I8 R9 L 1 5 27 [some (aR (some o)), some (aI x1), some (aI x2)] [aR r6]
      intro hok
      refine g_ildn1 hE1 dX0_could_27 ?_
      refine g_ildn2 hE1 dX0_could_28 ?_
      obtain ⟨b11, hb12, hw⟩ := hw
      rw [hb12]
      obtain ⟨ht13, hw⟩ := hw
      refine gx_callV hE hRm (As := [aI x1, aI x2]) ht13 (by decide) (by decide) rfl hx_X3_could (tx_X3_could X hw) (lw_V q1564 q1565 q1566 q103 q1567) ⟨by decide, by decide⟩ ⟨(by decide), (by decide)⟩ rfl (Nat.le_of_ble_eq_true rfl) dX0_could_29 rfl (fun r9 Tz Iz Rz Lz hΦ => ?_) hok
      obtain ⟨r14, rfl, rfl, rfl, rfl, rfl, hw⟩ := hΦ
      show GX E X T7 I8 R9 L 1 5 32 [some (aR (some o)), some (aI x1), some (aI x2)] [aI r14]
      intro hok
      refine jn1_walk (fun (y0_40 : Int) => GX E X T7 I8 R9 L 1 5 40 [some (aR (some o)), some (aI x1), some (aI x2)] [aI y0_40]) hw (fun y0_40 hw => ?_) (fun J_40 hj_40 hw => ?_)
      · intro hok
        exact gx_iret hE hR dX0_could_40 (by decide) (by decide) rfl ⟨_, rfl, rfl, hl10, hw⟩ hok
      · skip
        obtain ⟨h16, h17, hT18, hN19⟩ := hw
        refine g_if_eq hE1 (tgt := 39) dX0_could_32 (by decide) h16 (fun q => ?_) (fun q => ?_)
        · have hw := hT18 q
          refine g_iconst hE1 dX0_could_39 ?_
          exact hj_40 _ hw hok
        · have hw := hN19 q
          refine g_iconst hE1 dX0_could_35 ?_
          refine g_goto hE1 (tgt := 40) dX0_could_36 (by decide) ?_
          exact hj_40 _ hw hok

/-- WhalingLogs$Listing.chart(I)I -/
def wx_X3_chart (X : XT) (o : Nat) (x1 : Int) (T : xT) (I : xI) (R : xR) (L : xL) (Q : Int → Prop) : Prop :=
  xtag T o = 7 ∧ wx_X3_before X o x1 T I R L (fun (r2 : Int) => 
  wx_X3_behind X o x1 T I R L (fun (r4 : Int) => 
  lq2 (fun (x2_18 : Int) (x5_18 : Int) (K_18 : Int → Int → Prop) =>
    cLt x5_18 192
      (
      ∃ b6 : Nat, R o 6 = some b6 ∧ xtag T b6 = 2 ∧
      ∃ b9 : Nat, R b6 0 = some b9 ∧ xtag T b9 = 3 ∧ wx_J0_get X b9 x5_18 T I R L (fun (r12 : Int) => 
      jn1 (fun (y1_70 : Int) => 
          K_18 (x2_18 + y1_70) (x5_18 + 1))
        (fun (J_70 : Int → Prop) =>
        jn0 (
            J_70 0)
          (fun (J_69 : Prop) =>
          cEq r12 0
            (
            wx_X3_isNear X o r2 x1 x5_18 T I R L (fun (r14 : Int) => 
            cEq r14 0
              (
              J_69)
              (
              wx_X3_isNear X o r4 x1 x5_18 T I R L (fun (r16 : Int) => 
              cEq r16 0
                (
                J_69)
                (
                J_70 1)))))
            (
            J_69)))))
      (
      Q x2_18)) 0 0))
theorem hx_X3_chart : yX3_chart.cls = RX3 ∧ yX3_chart.cls ≠ "java/lang/invoke/MethodHandle" ∧ yX3_chart.cls ≠ "java/lang/invoke/VarHandle" ∧ (parseMethodDescriptor yX3_chart.desc).map (fun d => d.parameters.length) = some 1 := by decide +kernel
set_option maxHeartbeats 4000000 in
theorem tx_X3_chart (X : XT) {o : Nat} {x1 : Int} {T : xT} {I : xI} {R : xR} {L : xL} {Q : Int → Prop} (hw : wx_X3_chart X o x1 T I R L Q) : CtX X yX3_chart cX3_chart 6 (some .int) (rmX 2 0 0 87) [aR (some o), aI x1] T I R L (PXi T I R L Q) := by
  refine CtX.intro (by decide) (Nat.le_of_ble_eq_true rfl) (fun E hE hR hN => ?_)
  have hRm := hR.rm
  have hE : OkX E X RX3 cX3_chart 6 (some .int) := hE
  have hE1 := hE.1
  show GX E X T I R L 0 0 0 [some (aR (some o)), some (aI x1), none, none, none, none] []
  unfold wx_X3_chart at hw
  intro hok
  refine g_iconst hE1 dX3_chart_0 ?_
  refine g_istn2 hE1 dX3_chart_1 (by decide) rfl ?_
  refine g_aldn0 hE1 dX3_chart_2 ?_
  refine g_ildn1 hE1 dX3_chart_3 ?_
  obtain ⟨ht1, hw⟩ := hw
  refine gx_callV hE hRm (As := [aI x1]) ht1 (by decide) (by decide) rfl hx_X3_before (tx_X3_before X hw) (lw_V q1568 q1570 qs29 q103 q1571) ⟨by decide, by decide⟩ ⟨(by decide), (by decide)⟩ rfl (Nat.le_of_ble_eq_true rfl) dX3_chart_4 rfl (fun r9 Tz Iz Rz Lz hΦ => ?_) hok
  obtain ⟨r2, rfl, rfl, rfl, rfl, rfl, hw⟩ := hΦ
  show GX E X T I R L 0 0 7 [some (aR (some o)), some (aI x1), some (aI 0), none, none, none] [aI r2]
  intro hok
  refine g_istn3 hE1 dX3_chart_7 (by decide) rfl ?_
  refine g_aldn0 hE1 dX3_chart_8 ?_
  refine g_ildn1 hE1 dX3_chart_9 ?_
  refine gx_callV hE hRm (As := [aI x1]) ht1 (by decide) (by decide) rfl hx_X3_behind (tx_X3_behind X hw) (lw_V q1576 q1578 qs31 q103 q1579) ⟨by decide, by decide⟩ ⟨(by decide), (by decide)⟩ rfl (Nat.le_of_ble_eq_true rfl) dX3_chart_10 rfl (fun r9 Tz Iz Rz Lz hΦ => ?_) hok
  obtain ⟨r4, rfl, rfl, rfl, rfl, rfl, hw⟩ := hΦ
  show GX E X T I R L 0 0 13 [some (aR (some o)), some (aI x1), some (aI 0), some (aI r2), none, none] [aI r4]
  intro hok
  refine g_ist4 hE1 dX3_chart_13 (by decide) rfl ?_
  refine g_iconst hE1 dX3_chart_15 ?_
  refine g_ist5 hE1 dX3_chart_16 (by decide) rfl ?_
  refine lq2_walk (fun (x2_18 : Int) (x5_18 : Int) => GX E X T I R L 0 0 18 [some (aR (some o)), some (aI x1), some (aI x2_18), some (aI r2), some (aI r4), some (aI x5_18)] []) (fun K_18 hk_18 x2_18 x5_18 hw => ?_) _ _ hw hok
  intro hok
  refine g_ild5 hE1 dX3_chart_18 ?_
  refine g_sipush hE1 dX3_chart_20 (by decide) ?_
  obtain ⟨h30, h31, hT32, hN33⟩ := hw
  refine g_icmp_ge hE1 (tgt := 78) dX3_chart_23 (by decide) h30 h31 (fun q => ?_) (fun q => ?_)
  · have hw := hT32 q
    refine g_ildn2 hE1 dX3_chart_26 ?_
    refine g_aldn0 hE1 dX3_chart_27 ?_
    refine gx_getr hE in_X3 (t := 7) rfl (by decide) 6 6 rfl (by decide) rfl (by decide) rfl q296 (Or.inl rfl) ht1 dX3_chart_28 ?_ hok
    intro hok
    obtain ⟨b6, hb7, hw⟩ := hw
    rw [hb7]
    obtain ⟨ht8, hw⟩ := hw
    refine gx_getrN hE in_X1 (t := 2) rfl (by decide) 0 0 rfl (by decide) rfl (by decide) rfl q221 (Or.inl rfl) ht8 dX3_chart_31 ?_ hok
    intro hok
    refine g_ild5 hE1 dX3_chart_34 ?_
    obtain ⟨b9, hb10, hw⟩ := hw
    rw [hb10]
    obtain ⟨ht11, hw⟩ := hw
    refine gx_callV hE hRm (As := [aI x5_18]) ht11 (by decide) (by decide) rfl hx_J0_get (tx_J0_get X hw) (lw_V q1430 q1229 q1230 q96 q1231) ⟨by decide, by decide⟩ ⟨(by decide), (by decide)⟩ rfl (Nat.le_of_ble_eq_true rfl) dX3_chart_36 rfl (fun r9 Tz Iz Rz Lz hΦ => ?_) hok
    obtain ⟨r12, rfl, rfl, rfl, rfl, rfl, hw⟩ := hΦ
    show GX E X T I R L 0 0 39 [some (aR (some o)), some (aI x1), some (aI x2_18), some (aI r2), some (aI r4), some (aI x5_18)] [aI r12, aI x2_18]
    intro hok
    refine jn1_walk (fun (y1_70 : Int) => GX E X T I R L 0 0 70 [some (aR (some o)), some (aI x1), some (aI x2_18), some (aI r2), some (aI r4), some (aI x5_18)] [aI y1_70, aI x2_18]) hw (fun y1_70 hw => ?_) (fun J_70 hj_70 hw => ?_)
    · intro hok
      refine g_iadd hE1 dX3_chart_70 ?_
      refine g_istn2 hE1 dX3_chart_71 (by decide) rfl ?_
      refine g_iinc5 hE1 dX3_chart_72 (by decide) rfl ?_
      refine g_goto hE1 (tgt := 18) dX3_chart_75 (by decide) ?_
      exact hk_18 _ _ hw hok
    · skip
      refine jn0_walk (GX E X T I R L 0 0 69 [some (aR (some o)), some (aI x1), some (aI x2_18), some (aI r2), some (aI r4), some (aI x5_18)] [aI x2_18]) hw (fun  hw => ?_) (fun J_69 hj_69 hw => ?_)
      · intro hok
        refine g_iconst hE1 dX3_chart_69 ?_
        exact hj_70 _ hw hok
      · skip
        obtain ⟨h26, h27, hT28, hN29⟩ := hw
        refine g_if_ne hE1 (tgt := 69) dX3_chart_39 (by decide) h26 (fun q => ?_) (fun q => ?_)
        · have hw := hT28 q
          refine g_aldn0 hE1 dX3_chart_42 ?_
          refine g_ildn3 hE1 dX3_chart_43 ?_
          refine g_ildn1 hE1 dX3_chart_44 ?_
          refine g_ild5 hE1 dX3_chart_45 ?_
          refine gx_callV hE hRm (As := [aI r2, aI x1, aI x5_18]) ht1 (by decide) (by decide) rfl hx_X3_isNear (tx_X3_isNear X hw) (lw_V q1572 q1574 qs30 q103 q1575) ⟨by decide, by decide⟩ ⟨(by decide), (by decide)⟩ rfl (Nat.le_of_ble_eq_true rfl) dX3_chart_47 rfl (fun r9 Tz Iz Rz Lz hΦ => ?_) hok
          obtain ⟨r14, rfl, rfl, rfl, rfl, rfl, hw⟩ := hΦ
          show GX E X T I R L 0 0 50 [some (aR (some o)), some (aI x1), some (aI x2_18), some (aI r2), some (aI r4), some (aI x5_18)] [aI r14, aI x2_18]
          intro hok
          obtain ⟨h22, h23, hT24, hN25⟩ := hw
          refine g_if_eq hE1 (tgt := 69) dX3_chart_50 (by decide) h22 (fun q => ?_) (fun q => ?_)
          · have hw := hT24 q
            exact hj_69  hw hok
          · have hw := hN25 q
            refine g_aldn0 hE1 dX3_chart_53 ?_
            refine g_ild4 hE1 dX3_chart_54 ?_
            refine g_ildn1 hE1 dX3_chart_56 ?_
            refine g_ild5 hE1 dX3_chart_57 ?_
            refine gx_callV hE hRm (As := [aI r4, aI x1, aI x5_18]) ht1 (by decide) (by decide) rfl hx_X3_isNear (tx_X3_isNear X hw) (lw_V q1572 q1574 qs30 q103 q1575) ⟨by decide, by decide⟩ ⟨(by decide), (by decide)⟩ rfl (Nat.le_of_ble_eq_true rfl) dX3_chart_59 rfl (fun r9 Tz Iz Rz Lz hΦ => ?_) hok
            obtain ⟨r16, rfl, rfl, rfl, rfl, rfl, hw⟩ := hΦ
            show GX E X T I R L 0 0 62 [some (aR (some o)), some (aI x1), some (aI x2_18), some (aI r2), some (aI r4), some (aI x5_18)] [aI r16, aI x2_18]
            intro hok
            obtain ⟨h18, h19, hT20, hN21⟩ := hw
            refine g_if_eq hE1 (tgt := 69) dX3_chart_62 (by decide) h18 (fun q => ?_) (fun q => ?_)
            · have hw := hT20 q
              exact hj_69  hw hok
            · have hw := hN21 q
              refine g_iconst hE1 dX3_chart_65 ?_
              refine g_goto hE1 (tgt := 70) dX3_chart_66 (by decide) ?_
              exact hj_70 _ hw hok
        · have hw := hN29 q
          exact hj_69  hw hok
  · have hw := hN33 q
    refine g_ildn2 hE1 dX3_chart_78 ?_
    exact gx_iret hE hR dX3_chart_79 (by decide) (by decide) rfl ⟨_, rfl, rfl, rfl, rfl, rfl, hw⟩ hok

/-- WhalingLogs.chart(I)I -/
def wx_X0_chart (X : XT) (o : Nat) (x1 : Int) (T : xT) (I : xI) (R : xR) (L : xL) (Q : Int → xT → xI → xR → Prop) : Prop :=
  wx_X0_isIn X x1 0 999 T I R L (fun (r1 : Int) => 
  jn6 (fun (T_24 : xT) (I_24 : xI) (R_24 : xR) (k_24 : Nat) (n_24 : Nat) (y0_24 : Int) => 
      Q y0_24 T_24 I_24 R_24)
    (fun (J_24 : xT → xI → xR → Nat → Nat → Int → Prop) =>
    cEq r1 0
      (
      J_24 T I R 0 0 (-2))
      (
      xtag T o = 1 ∧ wx_X0_tracked X o T I R L (fun (r4 : Option Nat) (T5 : xT) (I6 : xI) (R7 : xR) => tle T T5 → 
      ∃ b9 : Nat, r4 = some b9 ∧ xtag T5 b9 = 7 ∧ wx_X3_chart X b9 x1 T5 I6 R7 L (fun (r12 : Int) => 
      J_24 T5 I6 R7 1 5 r12)))))
theorem hx_X0_chart : yX0_chart.cls = RX0 ∧ yX0_chart.cls ≠ "java/lang/invoke/MethodHandle" ∧ yX0_chart.cls ≠ "java/lang/invoke/VarHandle" ∧ (parseMethodDescriptor yX0_chart.desc).map (fun d => d.parameters.length) = some 1 := by decide +kernel
set_option maxHeartbeats 4000000 in
theorem tx_X0_chart (X : XT) {o : Nat} {x1 : Int} {T : xT} {I : xI} {R : xR} {L : xL} {Q : Int → xT → xI → xR → Prop} (hw : wx_X0_chart X o x1 T I R L Q) : CtX X yX0_chart cX0_chart 2 (some .int) (rmX 9 1 5 191) [aR (some o), aI x1] T I R L (PXiTIR T I R L Q) := by
  refine CtX.intro (by decide) (Nat.le_of_ble_eq_true rfl) (fun E hE hR hN => ?_)
  have hRm := hR.rm
  have hE : OkX E X RX0 cX0_chart 2 (some .int) := hE
  have hE1 := hE.1
  show GX E X T I R L 0 0 0 [some (aR (some o)), some (aI x1)] []
  unfold wx_X0_chart at hw
  intro hok
  refine g_ildn1 hE1 dX0_chart_0 ?_
  refine g_iconst hE1 dX0_chart_1 ?_
  refine g_sipush hE1 dX0_chart_2 (by decide) ?_
  refine gx_callS hE hRm (As := [aI x1, aI 0, aI 999]) hx_X0_isIn (tx_X0_isIn X hw) (lw_S q392 q393 q94 q394) ⟨by decide, by decide⟩ ⟨(by decide), (by decide)⟩ rfl (Nat.le_of_ble_eq_true rfl) dX0_chart_5 rfl (fun r9 Tz Iz Rz Lz hΦ => ?_) hok
  obtain ⟨r1, rfl, rfl, rfl, rfl, rfl, hw⟩ := hΦ
  show GX E X T I R L 0 0 8 [some (aR (some o)), some (aI x1)] [aI r1]
  intro hok
  refine jn6_walk (fun (T_24 : xT) (I_24 : xI) (R_24 : xR) (k_24 : Nat) (n_24 : Nat) (y0_24 : Int) => tle T T_24 → k_24 ≤ 1 → n_24 ≤ 5 → GX E X T_24 I_24 R_24 L k_24 n_24 24 [some (aR (some o)), some (aI x1)] [aI y0_24]) hw (fun T_24 I_24 R_24 k_24 n_24 y0_24 hw => ?_) (fun J_24 hj_24 hw => ?_)
  · intro hl_24 hkc_24 hnc_24; intro hok
    exact gx_iret hE hR dX0_chart_24 (show k_24 ≤ 1 by omega) (show n_24 ≤ 5 by omega) rfl ⟨_, rfl, rfl, hl_24, hw⟩ hok
  · skip
    obtain ⟨h14, h15, hT16, hN17⟩ := hw
    refine g_if_eq hE1 (tgt := 22) dX0_chart_8 (by decide) h14 (fun q => ?_) (fun q => ?_)
    · have hw := hT16 q
      refine g_bipush hE1 dX0_chart_22 (by decide) ?_
      exact hj_24 _ _ _ _ _ _ hw tle.rf (by omega) (by omega) hok
    · have hw := hN17 q
      refine g_aldn0 hE1 dX0_chart_11 ?_
      obtain ⟨ht3, hw⟩ := hw
      refine gx_callV hE hRm (As := []) ht3 (by decide) (by decide) rfl hx_X0_tracked (tx_X0_tracked X hw) (lw_V q1405 q1407 qs24 q94 q1408) ⟨by decide, by decide⟩ ⟨(by decide), (by decide)⟩ rfl (Nat.le_of_ble_eq_true rfl) dX0_chart_12 rfl (fun r9 T5 I6 R7 Lz hΦ => ?_) hok
      obtain ⟨r4, rfl, rfl, hl8, hw⟩ := hΦ
      have hw := hw hl8
      show GX E X T5 I6 R7 L 1 5 15 [some (aR (some o)), some (aI x1)] [aR r4]
      intro hok
      refine g_ildn1 hE1 dX0_chart_15 ?_
      obtain ⟨b9, hb10, hw⟩ := hw
      rw [hb10]
      obtain ⟨ht11, hw⟩ := hw
      refine gx_callV hE hRm (As := [aI x1]) ht11 (by decide) (by decide) rfl hx_X3_chart (tx_X3_chart X hw) (lw_V q1584 q1585 q1586 q103 q1587) ⟨by decide, by decide⟩ ⟨(by decide), (by decide)⟩ rfl (Nat.le_of_ble_eq_true rfl) dX0_chart_16 rfl (fun r9 Tz Iz Rz Lz hΦ => ?_) hok
      obtain ⟨r12, rfl, rfl, rfl, rfl, rfl, hw⟩ := hΦ
      show GX E X T5 I6 R7 L 1 5 19 [some (aR (some o)), some (aI x1)] [aI r12]
      intro hok
      refine g_goto hE1 (tgt := 24) dX0_chart_19 (by decide) ?_
      exact hj_24 _ _ _ _ _ _ hw hl8 (by omega) (by omega) hok

/-- java/lang/AbstractStringBuilder.length()I -/
def wx_J6_length_J7 (X : XT) (o : Nat)  (T : xT) (I : xI) (R : xR) (L : xL) (Q : Int → Prop) : Prop :=
  xtag T o = 8 ∧
  Q (I o 3)
theorem hx_J6_length_J7 : yJ6_length.cls = RJ6 ∧ yJ6_length.cls ≠ "java/lang/invoke/MethodHandle" ∧ yJ6_length.cls ≠ "java/lang/invoke/VarHandle" ∧ (parseMethodDescriptor yJ6_length.desc).map (fun d => d.parameters.length) = some 0 := by decide +kernel
set_option maxHeartbeats 4000000 in
theorem tx_J6_length_J7 (X : XT) {o : Nat}  {T : xT} {I : xI} {R : xR} {L : xL} {Q : Int → Prop} (hw : wx_J6_length_J7 X o T I R L Q) : CtX X yJ6_length cJ6_length 1 (some .int) (rmX 0 0 0 0) [aR (some o)] T I R L (PXi T I R L Q) := by
  refine CtX.intro (by decide) (Nat.le_of_ble_eq_true rfl) (fun E hE hR hN => ?_)
  have hRm := hR.rm
  have hE : OkX E X RJ6 cJ6_length 1 (some .int) := hE
  have hE1 := hE.1
  show GX E X T I R L 0 0 0 [some (aR (some o))] []
  unfold wx_J6_length_J7 at hw
  intro hok
  refine g_aldn0 hE1 dJ6_length_0 ?_
  obtain ⟨ht1, hw⟩ := hw
  refine gx_geti hE in_J7 (t := 8) rfl (by decide) 3 3 rfl (by decide) rfl (by decide) rfl q342 (Or.inl rfl) ht1 dJ6_length_1 ?_ hok
  intro hok
  exact gx_iret hE hR dJ6_length_4 (by decide) (by decide) rfl ⟨_, rfl, rfl, rfl, rfl, rfl, hw⟩ hok

/-- java/lang/StringBuilder.length()I -/
def wx_J7_length (X : XT) (o : Nat)  (T : xT) (I : xI) (R : xR) (L : xL) (Q : Int → Prop) : Prop :=
  xtag T o = 8 ∧ wx_J6_length_J7 X o T I R L (fun (r2 : Int) => 
  Q r2)
theorem hx_J7_length : yJ7_length.cls = RJ7 ∧ yJ7_length.cls ≠ "java/lang/invoke/MethodHandle" ∧ yJ7_length.cls ≠ "java/lang/invoke/VarHandle" ∧ (parseMethodDescriptor yJ7_length.desc).map (fun d => d.parameters.length) = some 0 := by decide +kernel
set_option maxHeartbeats 4000000 in
theorem tx_J7_length (X : XT) {o : Nat}  {T : xT} {I : xI} {R : xR} {L : xL} {Q : Int → Prop} (hw : wx_J7_length X o T I R L Q) : CtX X yJ7_length cJ7_length 1 (some .int) (rmX 1 0 0 20) [aR (some o)] T I R L (PXi T I R L Q) := by
  refine CtX.intro (by decide) (Nat.le_of_ble_eq_true rfl) (fun E hE hR hN => ?_)
  have hRm := hR.rm
  have hE : OkX E X RJ7 cJ7_length 1 (some .int) := hE
  have hE1 := hE.1
  show GX E X T I R L 0 0 0 [some (aR (some o))] []
  unfold wx_J7_length at hw
  intro hok
  refine g_aldn0 hE1 dJ7_length_0 ?_
  obtain ⟨ht1, hw⟩ := hw
  refine gx_callSU hE hRm (na := 0) (As := []) ht1 (by decide) (by decide) rfl (by decide +kernel) (tx_J6_length_J7 X hw) (lw_SU q852 q848 q351 q847 q104 q853) ⟨by decide, by decide⟩ ⟨(by decide), (by decide)⟩ rfl (Nat.le_of_ble_eq_true rfl) dJ7_length_1 rfl (fun r9 Tz Iz Rz Lz hΦ => ?_) hok
  obtain ⟨r2, rfl, rfl, rfl, rfl, rfl, hw⟩ := hΦ
  show GX E X T I R L 0 0 4 [some (aR (some o))] [aI r2]
  intro hok
  exact gx_iret hE hR dJ7_length_4 (by decide) (by decide) rfl ⟨_, rfl, rfl, rfl, rfl, rfl, hw⟩ hok

/-- jdk/internal/util/ArraysSupport.newLength(III)I -/
def wx_J22_newLength (X : XT) (x0 : Int) (x1 : Int) (x2 : Int) (T : xT) (I : xI) (R : xR) (L : xL) (Q : Int → Prop) : Prop :=
  inR x1 ∧ inR x2 ∧
  jn0 (
      False)
    (fun (J_21 : Prop) =>
    cLt 0 (x0 + (if x1 < x2 then x2 else x1))
      (
      cLt 2147483639 (x0 + (if x1 < x2 then x2 else x1))
        (
        J_21)
        (
        Q (x0 + (if x1 < x2 then x2 else x1))))
      (
      J_21))
theorem hx_J22_newLength : yJ22_newLength.cls ≠ "java/lang/invoke/MethodHandle" ∧ yJ22_newLength.cls ≠ "java/lang/invoke/VarHandle" ∧ (parseMethodDescriptor yJ22_newLength.desc).map (fun d => d.parameters.length) = some 3 := by decide +kernel
set_option maxHeartbeats 4000000 in
theorem tx_J22_newLength (X : XT) {x0 : Int} {x1 : Int} {x2 : Int} {T : xT} {I : xI} {R : xR} {L : xL} {Q : Int → Prop} (hw : wx_J22_newLength X x0 x1 x2 T I R L Q) : CtX X yJ22_newLength cJ22_newLength 4 (some .int) (rmX 1 0 0 64) [aI x0, aI x1, aI x2] T I R L (PXi T I R L Q) := by
  refine CtX.intro (by decide) (Nat.le_of_ble_eq_true rfl) (fun E hE hR hN => ?_)
  have hRm := hR.rm
  have hE : OkX E X RJ22 cJ22_newLength 4 (some .int) := hE
  have hE1 := hE.1
  show GX E X T I R L 0 0 0 [some (aI x0), some (aI x1), some (aI x2), none] []
  unfold wx_J22_newLength at hw
  intro hok
  refine g_ildn0 hE1 dJ22_newLength_0 ?_
  refine g_ildn1 hE1 dJ22_newLength_1 ?_
  refine g_ildn2 hE1 dJ22_newLength_2 ?_
  obtain ⟨h1, h2, hw⟩ := hw
  refine gx_max hE hRm h1 h2 q739 q413 q109 q414 (by decide) (by decide) (by decide) (by decide) (Nat.le_of_ble_eq_true rfl) dJ22_newLength_3 ?_ hok
  intro hok
  refine g_iadd hE1 dJ22_newLength_6 ?_
  refine g_istn3 hE1 dJ22_newLength_7 (by decide) rfl ?_
  refine g_iconst hE1 dJ22_newLength_8 ?_
  refine g_ildn3 hE1 dJ22_newLength_9 ?_
  refine jn0_walk (GX E X T I R L 0 0 21 [some (aI x0), some (aI x1), some (aI x2), some (aI (x0 + (if x1 < x2 then x2 else x1)))] []) hw (fun  hw => ?_) (fun J_21 hj_21 hw => ?_)
  · intro hok
    refine g_ildn0 hE1 dJ22_newLength_21 ?_
    refine g_ildn1 hE1 dJ22_newLength_22 ?_
    exact hw.elim
  · skip
    obtain ⟨h7, h8, hT9, hN10⟩ := hw
    refine g_icmp_ge hE1 (tgt := 21) dJ22_newLength_10 (by decide) h7 h8 (fun q => ?_) (fun q => ?_)
    · have hw := hT9 q
      refine g_ildn3 hE1 dJ22_newLength_13 ?_
      refine g_ldc hE1 (v := 2147483639) dJ22_newLength_14 q740 (by decide) ?_
      obtain ⟨h3, h4, hT5, hN6⟩ := hw
      refine g_icmp_gt hE1 (tgt := 21) dJ22_newLength_16 (by decide) h4 h3 (fun q => ?_) (fun q => ?_)
      · have hw := hT5 q
        exact hj_21  hw hok
      · have hw := hN6 q
        refine g_ildn3 hE1 dJ22_newLength_19 ?_
        exact gx_iret hE hR dJ22_newLength_20 (by decide) (by decide) rfl ⟨_, rfl, rfl, rfl, rfl, rfl, hw⟩ hok
    · have hw := hN10 q
      exact hj_21  hw hok

/-- java/lang/AbstractStringBuilder.newCapacity(I)I -/
def wx_J6_newCapacity_J7 (X : XT) (o : Nat) (x1 : Int) (T : xT) (I : xI) (R : xR) (L : xL) (Q : Int → Prop) : Prop :=
  xtag T o = 8 ∧
  ∃ b2 : Nat, R o 0 = some b2 ∧ xtag T b2 = 101 ∧
  wx_J22_newLength X (xlen T b2 : Int) ((bShl x1 (I o 1)) - (xlen T b2 : Int)) ((xlen T b2 : Int) + (bShl 2 (I o 1))) T I R L (fun (r5 : Int) => 
  cEq r5 2147483647
    (
    False)
    (
    Q (bShr r5 (I o 1))))
theorem hx_J6_newCapacity_J7 : yJ6_newCapacity.cls = RJ6 ∧ yJ6_newCapacity.cls ≠ "java/lang/invoke/MethodHandle" ∧ yJ6_newCapacity.cls ≠ "java/lang/invoke/VarHandle" ∧ (parseMethodDescriptor yJ6_newCapacity.desc).map (fun d => d.parameters.length) = some 1 := by decide +kernel
set_option maxHeartbeats 4000000 in
theorem tx_J6_newCapacity_J7 (X : XT) {o : Nat} {x1 : Int} {T : xT} {I : xI} {R : xR} {L : xL} {Q : Int → Prop} (hw : wx_J6_newCapacity_J7 X o x1 T I R L Q) : CtX X yJ6_newCapacity cJ6_newCapacity 6 (some .int) (rmX 2 0 0 87) [aR (some o), aI x1] T I R L (PXi T I R L Q) := by
  refine CtX.intro (by decide) (Nat.le_of_ble_eq_true rfl) (fun E hE hR hN => ?_)
  have hRm := hR.rm
  have hE : OkX E X RJ6 cJ6_newCapacity 6 (some .int) := hE
  have hE1 := hE.1
  show GX E X T I R L 0 0 0 [some (aR (some o)), some (aI x1), none, none, none, none] []
  unfold wx_J6_newCapacity_J7 at hw
  intro hok
  refine g_aldn0 hE1 dJ6_newCapacity_0 ?_
  obtain ⟨ht1, hw⟩ := hw
  refine gx_getr hE in_J7 (t := 8) rfl (by decide) 0 0 rfl (by decide) rfl (by decide) rfl q338 (Or.inl rfl) ht1 dJ6_newCapacity_1 ?_ hok
  intro hok
  obtain ⟨b2, hb3, hw⟩ := hw
  rw [hb3]
  obtain ⟨ht4, hw⟩ := hw
  refine gx_alenB hE ht4 dJ6_newCapacity_4 ?_ hok
  intro hok
  refine g_istn2 hE1 dJ6_newCapacity_5 (by decide) rfl ?_
  refine g_ildn1 hE1 dJ6_newCapacity_6 ?_
  refine g_aldn0 hE1 dJ6_newCapacity_7 ?_
  refine gx_geti hE in_J7 (t := 8) rfl (by decide) 1 1 rfl (by decide) rfl (by decide) rfl q339 (Or.inl rfl) ht1 dJ6_newCapacity_8 ?_ hok
  intro hok
  refine g_ishl hE1 dJ6_newCapacity_11 ?_
  refine g_istn3 hE1 dJ6_newCapacity_12 (by decide) rfl ?_
  refine g_ildn3 hE1 dJ6_newCapacity_13 ?_
  refine g_ildn2 hE1 dJ6_newCapacity_14 ?_
  refine g_isub hE1 dJ6_newCapacity_15 ?_
  refine g_ist4 hE1 dJ6_newCapacity_16 (by decide) rfl ?_
  refine g_ildn2 hE1 dJ6_newCapacity_18 ?_
  refine g_ild4 hE1 dJ6_newCapacity_19 ?_
  refine g_ildn2 hE1 dJ6_newCapacity_21 ?_
  refine g_iconst hE1 dJ6_newCapacity_22 ?_
  refine g_aldn0 hE1 dJ6_newCapacity_23 ?_
  refine gx_geti hE in_J7 (t := 8) rfl (by decide) 1 1 rfl (by decide) rfl (by decide) rfl q339 (Or.inl rfl) ht1 dJ6_newCapacity_24 ?_ hok
  intro hok
  refine g_ishl hE1 dJ6_newCapacity_27 ?_
  refine g_iadd hE1 dJ6_newCapacity_28 ?_
  refine gx_callS hE hRm (As := [aI (xlen T b2 : Int), aI ((bShl x1 (I o 1)) - (xlen T b2 : Int)), aI ((xlen T b2 : Int) + (bShl 2 (I o 1)))]) hx_J22_newLength (tx_J22_newLength X hw) (lw_S q736 q737 q123 q738) ⟨by decide, by decide⟩ ⟨(by decide), (by decide)⟩ rfl (Nat.le_of_ble_eq_true rfl) dJ6_newCapacity_29 rfl (fun r9 Tz Iz Rz Lz hΦ => ?_) hok
  obtain ⟨r5, rfl, rfl, rfl, rfl, rfl, hw⟩ := hΦ
  show GX E X T I R L 0 0 32 [some (aR (some o)), some (aI x1), some (aI (xlen T b2 : Int)), some (aI (bShl x1 (I o 1))), some (aI ((bShl x1 (I o 1)) - (xlen T b2 : Int))), none] [aI r5]
  intro hok
  refine g_ist5 hE1 dJ6_newCapacity_32 (by decide) rfl ?_
  refine g_ild5 hE1 dJ6_newCapacity_34 ?_
  refine g_ldc hE1 (v := 2147483647) dJ6_newCapacity_36 q744 (by decide) ?_
  obtain ⟨h7, h8, hT9, hN10⟩ := hw
  refine g_icmp_ne hE1 (tgt := 51) dJ6_newCapacity_38 (by decide) h7 h8 (fun q => ?_) (fun q => ?_)
  · have hw := hT9 q
    exact hw.elim
  · have hw := hN10 q
    refine g_ild5 hE1 dJ6_newCapacity_51 ?_
    refine g_aldn0 hE1 dJ6_newCapacity_53 ?_
    refine gx_geti hE in_J7 (t := 8) rfl (by decide) 1 1 rfl (by decide) rfl (by decide) rfl q339 (Or.inl rfl) ht1 dJ6_newCapacity_54 ?_ hok
    intro hok
    refine g_ishr hE1 dJ6_newCapacity_57 ?_
    exact gx_iret hE hR dJ6_newCapacity_58 (by decide) (by decide) rfl ⟨_, rfl, rfl, rfl, rfl, rfl, hw⟩ hok

/-- java/util/Arrays.copyOf([BI)[B -/
def wx_J11_copyOf_2 (X : XT) (x0 : Option Nat) (x1 : Int) (T : xT) (I : xI) (R : xR) (L : xL) (Q : Option Nat → xT → xI → Prop) : Prop :=
  ∃ b1 : Nat, x0 = some b1 ∧ xtag T b1 = 101 ∧
  cEq x1 (xlen T b1 : Int)
    (
    False)
    (
    ∃ N7 : Nat, x1 = (N7 : Int) ∧ N7 ≤ 1000000 ∧ 0 + N7 ≤ 150 ∧ ∀ q4 : Nat, xtag T q4 = 0 → bsX X ≤ q4 → ∀ T11 : xT, T11 = xnew T q4 101 N7 →
    inR (xlen T11 b1 : Int) ∧ inR x1 ∧
    ((0 : Int) ≤ 0 ∧ (0 : Int) < 2147483648) ∧ ((0 : Int) ≤ 0 ∧ (0 : Int) < 2147483648) ∧ ((0 : Int) ≤ (if x1 < (xlen T11 b1 : Int) then x1 else (xlen T11 b1 : Int)) ∧ ((if x1 < (xlen T11 b1 : Int) then x1 else (xlen T11 b1 : Int)) : Int) < 2147483648) ∧ (0 : Int) + (if x1 < (xlen T11 b1 : Int) then x1 else (xlen T11 b1 : Int)) ≤ xlen T11 b1 ∧ (0 : Int) + (if x1 < (xlen T11 b1 : Int) then x1 else (xlen T11 b1 : Int)) ≤ xlen T11 q4 ∧ (bsX X ≤ q4 ∧ (∀ j : Int, fits .byte (.int (iI (I b1 j))) = true)) ∧ ∀ I23 : xI, I23 = cpI I b1 0 q4 0 (if x1 < (xlen T11 b1 : Int) then x1 else (xlen T11 b1 : Int)) →
    Q (some q4) T11 I23)
theorem hx_J11_copyOf_2 : yJ11_copyOf_2.cls ≠ "java/lang/invoke/MethodHandle" ∧ yJ11_copyOf_2.cls ≠ "java/lang/invoke/VarHandle" ∧ (parseMethodDescriptor yJ11_copyOf_2.desc).map (fun d => d.parameters.length) = some 2 := by decide +kernel
set_option maxHeartbeats 4000000 in
theorem tx_J11_copyOf_2 (X : XT) {x0 : Option Nat} {x1 : Int} {T : xT} {I : xI} {R : xR} {L : xL} {Q : Option Nat → xT → xI → Prop} (hw : wx_J11_copyOf_2 X x0 x1 T I R L Q) : CtX X yJ11_copyOf_2 cJ11_copyOf_2 3 (some (.array .byte)) (rmX 1 1 150 64) [aR x0, aI x1] T I R L (PXqTI T I R L Q) := by
  refine CtX.intro (by decide) (Nat.le_of_ble_eq_true rfl) (fun E hE hR hN => ?_)
  have hRm := hR.rm
  have hE : OkX E X RJ11 cJ11_copyOf_2 3 (some (.array .byte)) := hE
  have hE1 := hE.1
  show GX E X T I R L 0 0 0 [some (aR x0), some (aI x1), none] []
  unfold wx_J11_copyOf_2 at hw
  intro hok
  refine g_ildn1 hE1 dJ11_copyOf_2_0 ?_
  refine g_aldn0 hE1 dJ11_copyOf_2_1 ?_
  obtain ⟨b1, hb2, hw⟩ := hw
  rw [hb2]
  obtain ⟨ht3, hw⟩ := hw
  refine gx_alenB hE ht3 dJ11_copyOf_2_2 ?_ hok
  intro hok
  obtain ⟨h24, h25, hT26, hN27⟩ := hw
  refine g_icmp_ne hE1 (tgt := 14) dJ11_copyOf_2_3 (by decide) h24 h25 (fun q => ?_) (fun q => ?_)
  · have hw := hT26 q
    refine g_aldn0 hE1 dJ11_copyOf_2_6 ?_
    exact hw.elim
  · have hw := hN27 q
    refine g_ildn1 hE1 dJ11_copyOf_2_14 ?_
    obtain ⟨N7, h8, h9, hw⟩ := hw
    obtain ⟨hc10, hw⟩ := hw
    refine gx_newa_byte hE hRm (N := N7) q352 h8 h9 (by decide) hc10 dJ11_copyOf_2_15 (fun q4 hq5 hbs6 => ?_) hok
    intro hok
    have hw := hw q4 hq5 hbs6 _ rfl
    have hl12 := tle.new (T := T) (q := q4) (t := 101) (n := N7) hq5
    have hT13 : xtag (xnew T q4 101 N7) q4 = 101 := if_pos rfl
    generalize xnew T q4 101 N7 = T11 at hw hl12 hok hT13 ⊢
    refine g_astn2 hE1 dJ11_copyOf_2_17 (by decide) rfl ?_
    refine g_aldn0 hE1 dJ11_copyOf_2_18 ?_
    refine g_iconst hE1 dJ11_copyOf_2_19 ?_
    refine g_aldn2 hE1 dJ11_copyOf_2_20 ?_
    refine g_iconst hE1 dJ11_copyOf_2_21 ?_
    refine g_aldn0 hE1 dJ11_copyOf_2_22 ?_
    have ht14 := hl12.tag ht3 (by decide)
    refine gx_alenB hE ht14 dJ11_copyOf_2_23 ?_ hok
    intro hok
    refine g_ildn1 hE1 dJ11_copyOf_2_24 ?_
    obtain ⟨h15, h16, hw⟩ := hw
    refine gx_min hE hRm h15 h16 q425 q406 q109 q407 (by decide) (by decide) (by decide) (show 0 + N7 ≤ 150 by omega) (Nat.le_of_ble_eq_true rfl) dJ11_copyOf_2_25 ?_ hok
    intro hok
    obtain ⟨h17, h18, h19, h20, h21, h22, hw⟩ := hw
    refine gx_copyB hE hRm q426 q428 q427 q111 ht14 hT13 h17 h18 h19 h20 h21 h22  (by decide) (by decide) (Nat.le_of_ble_eq_true rfl) dJ11_copyOf_2_28 ?_ hok
    intro hok
    have hw := hw _ rfl
    generalize cpI I b1 0 q4 0 (if x1 < (xlen T11 b1 : Int) then x1 else (xlen T11 b1 : Int)) = I23 at hw hok ⊢
    refine g_aldn2 hE1 dJ11_copyOf_2_31 ?_
    exact gx_aret hE hR dJ11_copyOf_2_32 (by decide) (show 0 + N7 ≤ 150 by omega) (Or.inr ⟨_, rfl⟩) ⟨_, rfl, rfl, rfl, hl12, hw⟩ hok

/-- java/lang/AbstractStringBuilder.ensureCapacityInternal(I)V -/
def wx_J6_ensureCapacityInternal_J7 (X : XT) (o : Nat) (x1 : Int) (T : xT) (I : xI) (R : xR) (L : xL) (Q : xT → xI → xR → Prop) : Prop :=
  xtag T o = 8 ∧
  ∃ b2 : Nat, R o 0 = some b2 ∧ xtag T b2 = 101 ∧
  jn5 (fun (T_38 : xT) (I_38 : xI) (R_38 : xR) (k_38 : Nat) (n_38 : Nat) => 
      Q T_38 I_38 R_38)
    (fun (J_38 : xT → xI → xR → Nat → Nat → Prop) =>
    cLt 0 (x1 - (bShr (xlen T b2 : Int) (I o 1)))
      (
      wx_J6_newCapacity_J7 X o x1 T I R L (fun (r5 : Int) => 
      wx_J11_copyOf_2 X (R o 0) (bShl r5 (I o 1)) T I R L (fun (r7 : Option Nat) (T8 : xT) (I9 : xI) => tle T T8 → 
      ∀ R12 : xR, R12 = uR R o 0 r7 →
      J_38 T8 I9 R12 1 150)))
      (
      J_38 T I R 0 0))
theorem hx_J6_ensureCapacityInternal_J7 : yJ6_ensureCapacityInternal.cls = RJ6 ∧ yJ6_ensureCapacityInternal.cls ≠ "java/lang/invoke/MethodHandle" ∧ yJ6_ensureCapacityInternal.cls ≠ "java/lang/invoke/VarHandle" ∧ (parseMethodDescriptor yJ6_ensureCapacityInternal.desc).map (fun d => d.parameters.length) = some 1 := by decide +kernel
set_option maxHeartbeats 4000000 in
theorem tx_J6_ensureCapacityInternal_J7 (X : XT) {o : Nat} {x1 : Int} {T : xT} {I : xI} {R : xR} {L : xL} {Q : xT → xI → xR → Prop} (hw : wx_J6_ensureCapacityInternal_J7 X o x1 T I R L Q) : CtX X yJ6_ensureCapacityInternal cJ6_ensureCapacityInternal 3 none (rmX 3 1 150 112) [aR (some o), aI x1] T I R L (PXvTIR T I R L Q) := by
  refine CtX.intro (by decide) (Nat.le_of_ble_eq_true rfl) (fun E hE hR hN => ?_)
  have hRm := hR.rm
  have hE : OkX E X RJ6 cJ6_ensureCapacityInternal 3 none := hE
  have hE1 := hE.1
  show GX E X T I R L 0 0 0 [some (aR (some o)), some (aI x1), none] []
  unfold wx_J6_ensureCapacityInternal_J7 at hw
  intro hok
  refine g_aldn0 hE1 dJ6_ensureCapacityInternal_0 ?_
  obtain ⟨ht1, hw⟩ := hw
  refine gx_getr hE in_J7 (t := 8) rfl (by decide) 0 0 rfl (by decide) rfl (by decide) rfl q338 (Or.inl rfl) ht1 dJ6_ensureCapacityInternal_1 ?_ hok
  intro hok
  obtain ⟨b2, hb3, hw⟩ := hw
  rw [hb3]
  obtain ⟨ht4, hw⟩ := hw
  refine gx_alenB hE ht4 dJ6_ensureCapacityInternal_4 ?_ hok
  intro hok
  refine g_aldn0 hE1 dJ6_ensureCapacityInternal_5 ?_
  refine gx_geti hE in_J7 (t := 8) rfl (by decide) 1 1 rfl (by decide) rfl (by decide) rfl q339 (Or.inl rfl) ht1 dJ6_ensureCapacityInternal_6 ?_ hok
  intro hok
  refine g_ishr hE1 dJ6_ensureCapacityInternal_9 ?_
  refine g_istn2 hE1 dJ6_ensureCapacityInternal_10 (by decide) rfl ?_
  refine g_ildn1 hE1 dJ6_ensureCapacityInternal_11 ?_
  refine g_ildn2 hE1 dJ6_ensureCapacityInternal_12 ?_
  refine g_isub hE1 dJ6_ensureCapacityInternal_13 ?_
  refine jn5_walk (fun (T_38 : xT) (I_38 : xI) (R_38 : xR) (k_38 : Nat) (n_38 : Nat) => tle T T_38 → k_38 ≤ 1 → n_38 ≤ 150 → GX E X T_38 I_38 R_38 L k_38 n_38 38 [some (aR (some o)), some (aI x1), some (aI (bShr (xlen T b2 : Int) (I o 1)))] []) hw (fun T_38 I_38 R_38 k_38 n_38 hw => ?_) (fun J_38 hj_38 hw => ?_)
  · intro hl_38 hkc_38 hnc_38; intro hok
    exact gx_vret hE hR dJ6_ensureCapacityInternal_38 (show k_38 ≤ 1 by omega) (show n_38 ≤ 150 by omega) ⟨rfl, rfl, hl_38, hw⟩ hok
  · skip
    obtain ⟨h13, h14, hT15, hN16⟩ := hw
    refine g_if_le hE1 (tgt := 38) dJ6_ensureCapacityInternal_14 (by decide) h14 (fun q => ?_) (fun q => ?_)
    · have hw := hT15 q
      refine g_aldn0 hE1 dJ6_ensureCapacityInternal_17 ?_
      refine g_aldn0 hE1 dJ6_ensureCapacityInternal_18 ?_
      refine gx_getr hE in_J7 (t := 8) rfl (by decide) 0 0 rfl (by decide) rfl (by decide) rfl q338 (Or.inl rfl) ht1 dJ6_ensureCapacityInternal_19 ?_ hok
      intro hok
      refine g_aldn0 hE1 dJ6_ensureCapacityInternal_22 ?_
      refine g_ildn1 hE1 dJ6_ensureCapacityInternal_23 ?_
      refine gx_callP hE hRm (As := [aI x1]) ht1 (by decide) (by decide) rfl (x0 := ⟨"java/lang/AbstractStringBuilder", "isLatin1", "()Z"⟩) hx_J6_newCapacity_J7.2 (tx_J6_newCapacity_J7 X hw) (lw_meth q735) q732 q104 q734 q756 rfl q733 ⟨by decide, by decide⟩ ⟨(by decide), (by decide)⟩ rfl (Nat.le_of_ble_eq_true rfl) dJ6_ensureCapacityInternal_24 rfl (fun r9 Tz Iz Rz Lz hΦ => ?_) hok
      obtain ⟨r5, rfl, rfl, rfl, rfl, rfl, hw⟩ := hΦ
      show GX E X T I R L 0 0 27 [some (aR (some o)), some (aI x1), some (aI (bShr (xlen T b2 : Int) (I o 1)))] [aI r5, aR (R o 0), aR (some o)]
      intro hok
      refine g_aldn0 hE1 dJ6_ensureCapacityInternal_27 ?_
      refine gx_geti hE in_J7 (t := 8) rfl (by decide) 1 1 rfl (by decide) rfl (by decide) rfl q339 (Or.inl rfl) ht1 dJ6_ensureCapacityInternal_28 ?_ hok
      intro hok
      refine g_ishl hE1 dJ6_ensureCapacityInternal_31 ?_
      refine gx_callS hE hRm (As := [aR (R o 0), aI (bShl r5 (I o 1))]) hx_J11_copyOf_2 (tx_J11_copyOf_2 X hw) (lw_S q745 q746 q110 q747) ⟨by decide, by decide⟩ ⟨(by decide), (by decide)⟩ rfl (Nat.le_of_ble_eq_true rfl) dJ6_ensureCapacityInternal_32 rfl (fun r9 T8 I9 Rz Lz hΦ => ?_) hok
      obtain ⟨r7, rfl, rfl, rfl, hl10, hw⟩ := hΦ
      have hw := hw hl10
      show GX E X T8 I9 R L 1 150 35 [some (aR (some o)), some (aI x1), some (aI (bShr (xlen T b2 : Int) (I o 1)))] [aR r7, aR (some o)]
      intro hok
      have ht11 := hl10.tag ht1 (by decide)
      refine gx_putr hE in_J7 (t := 8) rfl (by decide) 0 0 rfl (by decide) rfl (by decide) (ty := tyJ7 0) tyJ7 tyJ7_ok nmJ7 rfl q338 (Or.inl rfl) rfl (tyJ7_ok 0 (by decide)) nar_a fit_a ht11 dJ6_ensureCapacityInternal_35 ?_ hok
      intro hok
      have hw := hw _ rfl
      generalize uR R o 0 r7 = R12 at hw hok ⊢
      exact hj_38 _ _ _ _ _ hw hl10 (by omega) (by omega) hok
    · have hw := hN16 q
      exact hj_38 _ _ _ _ _ hw tle.rf (by omega) (by omega) hok

/-- java/lang/AbstractStringBuilder.isLatin1()Z -/
def wx_J6_isLatin1_J7 (X : XT) (o : Nat)  (T : xT) (I : xI) (R : xR) (L : xL) (Q : Int → Prop) : Prop :=
  jn1 (fun (y0_18 : Int) => 
      bl y0_18 ∧ Q y0_18)
    (fun (J_18 : Int → Prop) =>
    jn0 (
        J_18 0)
      (fun (J_17 : Prop) =>
      xtag T o = 8 ∧
      cEq (I o 1) 0
        (
        J_18 1)
        (
        J_17)))
theorem hx_J6_isLatin1_J7 : yJ6_isLatin1.cls = RJ6 ∧ yJ6_isLatin1.cls ≠ "java/lang/invoke/MethodHandle" ∧ yJ6_isLatin1.cls ≠ "java/lang/invoke/VarHandle" ∧ (parseMethodDescriptor yJ6_isLatin1.desc).map (fun d => d.parameters.length) = some 0 := by decide +kernel
set_option maxHeartbeats 4000000 in
theorem tx_J6_isLatin1_J7 (X : XT) {o : Nat}  {T : xT} {I : xI} {R : xR} {L : xL} {Q : Int → Prop} (hw : wx_J6_isLatin1_J7 X o T I R L Q) : CtX X yJ6_isLatin1 cJ6_isLatin1 1 (some .boolean) (rmX 0 0 0 0) [aR (some o)] T I R L (PXi T I R L Q) := by
  refine CtX.intro (by decide) (Nat.le_of_ble_eq_true rfl) (fun E hE hR hN => ?_)
  have hRm := hR.rm
  have hE : OkX E X RJ6 cJ6_isLatin1 1 (some .boolean) := hE
  have hE1 := hE.1
  show GX E X T I R L 0 0 0 [some (aR (some o))] []
  unfold wx_J6_isLatin1_J7 at hw
  intro hok
  refine gx_gets_i hE (List.mem_of_getElem? (i := 1) rfl : ("java/lang/String", "COMPACT_STRINGS", "Z", Sum.inl (1 : Int)) ∈ stL) q329 dJ6_isLatin1_0 ?_ hok
  intro hok
  refine jn1_walk (fun (y0_18 : Int) => GX E X T I R L 0 0 18 [some (aR (some o))] [aI y0_18]) hw (fun y0_18 hw => ?_) (fun J_18 hj_18 hw => ?_)
  · intro hok
    obtain ⟨h1, hw⟩ := hw
    exact gx_iret hE hR dJ6_isLatin1_18 (by decide) (by decide) (narrow_bl h1) ⟨_, rfl, rfl, rfl, rfl, rfl, hw⟩ hok
  · skip
    refine jn0_walk (GX E X T I R L 0 0 17 [some (aR (some o))] []) hw (fun  hw => ?_) (fun J_17 hj_17 hw => ?_)
    · intro hok
      refine g_iconst hE1 dJ6_isLatin1_17 ?_
      exact hj_18 _ hw hok
    · skip
      refine g_if_eq hE1 (tgt := 17) dJ6_isLatin1_3 (by decide) (by decide) (fun q => absurd q (by decide)) (fun _ => ?_)
      refine g_aldn0 hE1 dJ6_isLatin1_6 ?_
      obtain ⟨ht2, hw⟩ := hw
      refine gx_geti hE in_J7 (t := 8) rfl (by decide) 1 1 rfl (by decide) rfl (by decide) rfl q339 (Or.inl rfl) ht2 dJ6_isLatin1_7 ?_ hok
      intro hok
      obtain ⟨h3, h4, hT5, hN6⟩ := hw
      refine g_if_ne hE1 (tgt := 17) dJ6_isLatin1_10 (by decide) h3 (fun q => ?_) (fun q => ?_)
      · have hw := hT5 q
        refine g_iconst hE1 dJ6_isLatin1_13 ?_
        refine g_goto hE1 (tgt := 18) dJ6_isLatin1_14 (by decide) ?_
        exact hj_18 _ hw hok
      · have hw := hN6 q
        exact hj_17  hw hok

/-- java/lang/StringLatin1.canEncode(C)Z -/
def wx_J23_canEncode (X : XT) (x0 : Int) (T : xT) (I : xI) (R : xR) (L : xL) (Q : Int → Prop) : Prop :=
  jn1 (fun (y0_12 : Int) => 
      bl y0_12 ∧ Q y0_12)
    (fun (J_12 : Int → Prop) =>
    cLt 255 x0
      (
      J_12 0)
      (
      J_12 1))
theorem hx_J23_canEncode : yJ23_canEncode.cls ≠ "java/lang/invoke/MethodHandle" ∧ yJ23_canEncode.cls ≠ "java/lang/invoke/VarHandle" ∧ (parseMethodDescriptor yJ23_canEncode.desc).map (fun d => d.parameters.length) = some 1 := by decide +kernel
set_option maxHeartbeats 4000000 in
theorem tx_J23_canEncode (X : XT) {x0 : Int} {T : xT} {I : xI} {R : xR} {L : xL} {Q : Int → Prop} (hw : wx_J23_canEncode X x0 T I R L Q) : CtX X yJ23_canEncode cJ23_canEncode 1 (some .boolean) (rmX 0 0 0 0) [aI x0] T I R L (PXi T I R L Q) := by
  refine CtX.intro (by decide) (Nat.le_of_ble_eq_true rfl) (fun E hE hR hN => ?_)
  have hRm := hR.rm
  have hE : OkX E X RJ23 cJ23_canEncode 1 (some .boolean) := hE
  have hE1 := hE.1
  show GX E X T I R L 0 0 0 [some (aI x0)] []
  unfold wx_J23_canEncode at hw
  intro hok
  refine g_ildn0 hE1 dJ23_canEncode_0 ?_
  refine g_sipush hE1 dJ23_canEncode_1 (by decide) ?_
  refine jn1_walk (fun (y0_12 : Int) => GX E X T I R L 0 0 12 [some (aI x0)] [aI y0_12]) hw (fun y0_12 hw => ?_) (fun J_12 hj_12 hw => ?_)
  · intro hok
    obtain ⟨h1, hw⟩ := hw
    exact gx_iret hE hR dJ23_canEncode_12 (by decide) (by decide) (narrow_bl h1) ⟨_, rfl, rfl, rfl, rfl, rfl, hw⟩ hok
  · skip
    obtain ⟨h2, h3, hT4, hN5⟩ := hw
    refine g_icmp_gt hE1 (tgt := 11) dJ23_canEncode_4 (by decide) h3 h2 (fun q => ?_) (fun q => ?_)
    · have hw := hT4 q
      refine g_iconst hE1 dJ23_canEncode_11 ?_
      exact hj_12 _ hw hok
    · have hw := hN5 q
      refine g_iconst hE1 dJ23_canEncode_7 ?_
      refine g_goto hE1 (tgt := 12) dJ23_canEncode_8 (by decide) ?_
      exact hj_12 _ hw hok

/-- java/lang/AbstractStringBuilder.append(C)Ljava/lang/AbstractStringBuilder; -/
def wx_J6_append_2_J7 (X : XT) (o : Nat) (x1 : Int) (T : xT) (I : xI) (R : xR) (L : xL) (Q : Option Nat → xT → xI → xR → Prop) : Prop :=
  xtag T o = 8 ∧
  wx_J6_ensureCapacityInternal_J7 X o ((I o 3) + 1) T I R L (fun (T2 : xT) (I3 : xI) (R4 : xR) => tle T T2 → 
  wx_J6_isLatin1_J7 X o T2 I3 R4 L (fun (r7 : Int) => 
  jn0 (
      wx_J6_isLatin1_J7 X o T2 I3 R4 L (fun (r9 : Int) => 
      cEq r9 0
        (
        ∀ I11 : xI, I11 = uI I3 o 3 ((I3 o 3) + 1) →
        False)
        (
        False)))
    (fun (J_45 : Prop) =>
    cEq r7 0
      (
      J_45)
      (
      wx_J23_canEncode X x1 T2 I3 R4 L (fun (r16 : Int) => 
      cEq r16 0
        (
        J_45)
        (
        ∀ I18 : xI, I18 = uI I3 o 3 ((I3 o 3) + 1) →
        ∃ b19 : Nat, R4 o 0 = some b19 ∧ xtag T2 b19 = 101 ∧ ib (I3 o 3) (xlen T2 b19) ∧ xlen T2 b19 < 2147483648 ∧ bsX X ≤ b19 ∧ vp_nar .byte (iI (bB x1)) = iI (bB x1) ∧ ∀ I26 : xI, I26 = uI I18 b19 (I3 o 3) (bB x1) →
        Q (some o) T2 I26 R4))))))
theorem hx_J6_append_2_J7 : yJ6_append_2.cls = RJ6 ∧ yJ6_append_2.cls ≠ "java/lang/invoke/MethodHandle" ∧ yJ6_append_2.cls ≠ "java/lang/invoke/VarHandle" ∧ (parseMethodDescriptor yJ6_append_2.desc).map (fun d => d.parameters.length) = some 1 := by decide +kernel
set_option maxHeartbeats 4000000 in
theorem tx_J6_append_2_J7 (X : XT) {o : Nat} {x1 : Int} {T : xT} {I : xI} {R : xR} {L : xL} {Q : Option Nat → xT → xI → xR → Prop} (hw : wx_J6_append_2_J7 X o x1 T I R L Q) : CtX X yJ6_append_2 cJ6_append_2 2 (some (.object "java/lang/AbstractStringBuilder")) (rmX 4 1 150 134) [aR (some o), aI x1] T I R L (PXqTIR T I R L Q) := by
  refine CtX.intro (by decide) (Nat.le_of_ble_eq_true rfl) (fun E hE hR hN => ?_)
  have hRm := hR.rm
  have hE : OkX E X RJ6 cJ6_append_2 2 (some (.object "java/lang/AbstractStringBuilder")) := hE
  have hE1 := hE.1
  show GX E X T I R L 0 0 0 [some (aR (some o)), some (aI x1)] []
  unfold wx_J6_append_2_J7 at hw
  intro hok
  refine g_aldn0 hE1 dJ6_append_2_0 ?_
  refine g_aldn0 hE1 dJ6_append_2_1 ?_
  obtain ⟨ht1, hw⟩ := hw
  refine gx_geti hE in_J7 (t := 8) rfl (by decide) 3 3 rfl (by decide) rfl (by decide) rfl q342 (Or.inl rfl) ht1 dJ6_append_2_2 ?_ hok
  intro hok
  refine g_iconst hE1 dJ6_append_2_5 ?_
  refine g_iadd hE1 dJ6_append_2_6 ?_
  refine gx_callP hE hRm (As := [aI ((I o 3) + 1)]) ht1 (by decide) (by decide) rfl (x0 := ⟨"java/lang/AbstractStringBuilder", "isLatin1", "()Z"⟩) hx_J6_ensureCapacityInternal_J7.2 (tx_J6_ensureCapacityInternal_J7 X hw) (lw_meth q731) q728 q104 q730 q756 rfl q729 ⟨by decide, by decide⟩ ⟨(by decide), (by decide)⟩ rfl (Nat.le_of_ble_eq_true rfl) dJ6_append_2_7 rfl (fun r9 T2 I3 R4 Lz hΦ => ?_) hok
  obtain ⟨rfl, rfl, hl5, hw⟩ := hΦ
  have hw := hw hl5
  show GX E X T2 I3 R4 L 1 150 10 [some (aR (some o)), some (aI x1)] []
  intro hok
  refine g_aldn0 hE1 dJ6_append_2_10 ?_
  have ht6 := hl5.tag ht1 (by decide)
  refine gx_callU hE hRm (na := 0) (As := []) ht6 (by decide) (by decide) rfl (owner := "java/lang/AbstractStringBuilder") (x := ⟨"java/lang/AbstractStringBuilder", "isLatin1", "()Z"⟩) (by decide +kernel) (tx_J6_isLatin1_J7 X hw) (lw_U q753 q755 q756 q754 q104 q757) rfl ⟨by decide, by decide⟩ ⟨(by decide), (by decide)⟩ rfl (Nat.le_of_ble_eq_true rfl) dJ6_append_2_11 rfl (fun r9 Tz Iz Rz Lz hΦ => ?_) hok
  obtain ⟨r7, rfl, rfl, rfl, rfl, rfl, hw⟩ := hΦ
  show GX E X T2 I3 R4 L 1 150 14 [some (aR (some o)), some (aI x1)] [aI r7]
  intro hok
  refine jn0_walk (GX E X T2 I3 R4 L 1 150 45 [some (aR (some o)), some (aI x1)] []) hw (fun  hw => ?_) (fun J_45 hj_45 hw => ?_)
  · intro hok
    refine g_aldn0 hE1 dJ6_append_2_45 ?_
    refine gx_callU hE hRm (na := 0) (As := []) ht6 (by decide) (by decide) rfl (owner := "java/lang/AbstractStringBuilder") (x := ⟨"java/lang/AbstractStringBuilder", "isLatin1", "()Z"⟩) (by decide +kernel) (tx_J6_isLatin1_J7 X hw) (lw_U q753 q755 q756 q754 q104 q757) rfl ⟨by decide, by decide⟩ ⟨(by decide), (by decide)⟩ rfl (Nat.le_of_ble_eq_true rfl) dJ6_append_2_46 rfl (fun r9 Tz Iz Rz Lz hΦ => ?_) hok
    obtain ⟨r9, rfl, rfl, rfl, rfl, rfl, hw⟩ := hΦ
    show GX E X T2 I3 R4 L 1 150 49 [some (aR (some o)), some (aI x1)] [aI r9]
    intro hok
    obtain ⟨h12, h13, hT14, hN15⟩ := hw
    refine g_if_eq hE1 (tgt := 56) dJ6_append_2_49 (by decide) h12 (fun q => ?_) (fun q => ?_)
    · have hw := hT14 q
      refine g_aldn0 hE1 dJ6_append_2_56 ?_
      refine gx_getr hE in_J7 (t := 8) rfl (by decide) 0 0 rfl (by decide) rfl (by decide) rfl q338 (Or.inl rfl) ht6 dJ6_append_2_57 ?_ hok
      intro hok
      refine g_aldn0 hE1 dJ6_append_2_60 ?_
      refine g_dup hE1 dJ6_append_2_61 rfl ?_
      refine gx_geti hE in_J7 (t := 8) rfl (by decide) 3 3 rfl (by decide) rfl (by decide) rfl q342 (Or.inl rfl) ht6 dJ6_append_2_62 ?_ hok
      intro hok
      refine g_dup_x1 hE1 dJ6_append_2_65 rfl rfl ?_
      refine g_iconst hE1 dJ6_append_2_66 ?_
      refine g_iadd hE1 dJ6_append_2_67 ?_
      refine gx_puti hE in_J7 (t := 8) rfl (by decide) 3 3 rfl (by decide) rfl (by decide) (ty := tyJ7 3) tyJ7 tyJ7_ok nmJ7 rfl q342 (Or.inl rfl) rfl (tyJ7_ok 3 (by decide)) rfl rfl ht6 dJ6_append_2_68 ?_ hok
      intro hok
      have hw := hw _ rfl
      generalize uI I3 o 3 ((I3 o 3) + 1) = I11 at hw hok ⊢
      refine g_ildn1 hE1 dJ6_append_2_71 ?_
      exact hw.elim
    · have hw := hN15 q
      refine g_aldn0 hE1 dJ6_append_2_52 ?_
      exact hw.elim
  · skip
    obtain ⟨h31, h32, hT33, hN34⟩ := hw
    refine g_if_eq hE1 (tgt := 45) dJ6_append_2_14 (by decide) h31 (fun q => ?_) (fun q => ?_)
    · have hw := hT33 q
      exact hj_45  hw hok
    · have hw := hN34 q
      refine g_ildn1 hE1 dJ6_append_2_17 ?_
      refine gx_callS hE hRm (As := [aI x1]) hx_J23_canEncode (tx_J23_canEncode X hw) (lw_S q1600 q1601 q124 q1602) ⟨by decide, by decide⟩ ⟨(by decide), (by decide)⟩ rfl (Nat.le_of_ble_eq_true rfl) dJ6_append_2_18 rfl (fun r9 Tz Iz Rz Lz hΦ => ?_) hok
      obtain ⟨r16, rfl, rfl, rfl, rfl, rfl, hw⟩ := hΦ
      show GX E X T2 I3 R4 L 1 150 21 [some (aR (some o)), some (aI x1)] [aI r16]
      intro hok
      obtain ⟨h27, h28, hT29, hN30⟩ := hw
      refine g_if_eq hE1 (tgt := 45) dJ6_append_2_21 (by decide) h27 (fun q => ?_) (fun q => ?_)
      · have hw := hT29 q
        exact hj_45  hw hok
      · have hw := hN30 q
        refine g_aldn0 hE1 dJ6_append_2_24 ?_
        refine gx_getr hE in_J7 (t := 8) rfl (by decide) 0 0 rfl (by decide) rfl (by decide) rfl q338 (Or.inl rfl) ht6 dJ6_append_2_25 ?_ hok
        intro hok
        refine g_aldn0 hE1 dJ6_append_2_28 ?_
        refine g_dup hE1 dJ6_append_2_29 rfl ?_
        refine gx_geti hE in_J7 (t := 8) rfl (by decide) 3 3 rfl (by decide) rfl (by decide) rfl q342 (Or.inl rfl) ht6 dJ6_append_2_30 ?_ hok
        intro hok
        refine g_dup_x1 hE1 dJ6_append_2_33 rfl rfl ?_
        refine g_iconst hE1 dJ6_append_2_34 ?_
        refine g_iadd hE1 dJ6_append_2_35 ?_
        refine gx_puti hE in_J7 (t := 8) rfl (by decide) 3 3 rfl (by decide) rfl (by decide) (ty := tyJ7 3) tyJ7 tyJ7_ok nmJ7 rfl q342 (Or.inl rfl) rfl (tyJ7_ok 3 (by decide)) rfl rfl ht6 dJ6_append_2_36 ?_ hok
        intro hok
        have hw := hw _ rfl
        generalize uI I3 o 3 ((I3 o 3) + 1) = I18 at hw hok ⊢
        refine g_ildn1 hE1 dJ6_append_2_39 ?_
        refine g_i2b hE1 dJ6_append_2_40 ?_
        obtain ⟨b19, hb20, hw⟩ := hw
        rw [hb20]
        obtain ⟨ht21, hw⟩ := hw
        obtain ⟨h22, h23, hw⟩ := hw
        obtain ⟨h24, h25, hw⟩ := hw
        refine gx_bast hE ht21 h24 h22 h23 h25 dJ6_append_2_41 ?_ hok
        intro hok
        have hw := hw _ rfl
        generalize uI I18 b19 (I3 o 3) (bB x1) = I26 at hw hok ⊢
        refine g_goto hE1 (tgt := 75) dJ6_append_2_42 (by decide) ?_
        refine g_aldn0 hE1 dJ6_append_2_75 ?_
        exact gx_aret hE hR dJ6_append_2_76 (by decide) (by decide) (Or.inl ⟨_, rfl⟩) ⟨_, rfl, rfl, hl5, hw⟩ hok

/-- java/lang/StringBuilder.append(C)Ljava/lang/StringBuilder; -/
def wx_J7_append_2 (X : XT) (o : Nat) (x1 : Int) (T : xT) (I : xI) (R : xR) (L : xL) (Q : Option Nat → xT → xI → xR → Prop) : Prop :=
  xtag T o = 8 ∧ wx_J6_append_2_J7 X o x1 T I R L (fun (r2 : Option Nat) (T3 : xT) (I4 : xI) (R5 : xR) => tle T T3 → 
  Q (some o) T3 I4 R5)
theorem hx_J7_append_2 : yJ7_append_2.cls = RJ7 ∧ yJ7_append_2.cls ≠ "java/lang/invoke/MethodHandle" ∧ yJ7_append_2.cls ≠ "java/lang/invoke/VarHandle" ∧ (parseMethodDescriptor yJ7_append_2.desc).map (fun d => d.parameters.length) = some 1 := by decide +kernel
set_option maxHeartbeats 4000000 in
theorem tx_J7_append_2 (X : XT) {o : Nat} {x1 : Int} {T : xT} {I : xI} {R : xR} {L : xL} {Q : Option Nat → xT → xI → xR → Prop} (hw : wx_J7_append_2 X o x1 T I R L Q) : CtX X yJ7_append_2 cJ7_append_2 2 (some (.object "java/lang/StringBuilder")) (rmX 5 1 150 155) [aR (some o), aI x1] T I R L (PXqTIR T I R L Q) := by
  refine CtX.intro (by decide) (Nat.le_of_ble_eq_true rfl) (fun E hE hR hN => ?_)
  have hRm := hR.rm
  have hE : OkX E X RJ7 cJ7_append_2 2 (some (.object "java/lang/StringBuilder")) := hE
  have hE1 := hE.1
  show GX E X T I R L 0 0 0 [some (aR (some o)), some (aI x1)] []
  unfold wx_J7_append_2 at hw
  intro hok
  refine g_aldn0 hE1 dJ7_append_2_0 ?_
  refine g_ildn1 hE1 dJ7_append_2_1 ?_
  obtain ⟨ht1, hw⟩ := hw
  refine gx_callSU hE hRm (na := 1) (As := [aI x1]) ht1 (by decide) (by decide) rfl (by decide +kernel) (tx_J6_append_2_J7 X hw) (lw_SU q1597 q2597 q351 q1598 q104 q1599) ⟨by decide, by decide⟩ ⟨(by decide), (by decide)⟩ rfl (Nat.le_of_ble_eq_true rfl) dJ7_append_2_2 rfl (fun r9 T3 I4 R5 Lz hΦ => ?_) hok
  obtain ⟨r2, rfl, rfl, hl6, hw⟩ := hΦ
  have hw := hw hl6
  show GX E X T3 I4 R5 L 1 150 5 [some (aR (some o)), some (aI x1)] [aR r2]
  intro hok
  refine g_pop hE1 dJ7_append_2_5 rfl ?_
  refine g_aldn0 hE1 dJ7_append_2_6 ?_
  exact gx_aret hE hR dJ7_append_2_7 (by decide) (by decide) (Or.inl ⟨_, rfl⟩) ⟨_, rfl, rfl, hl6, hw⟩ hok

/-- WhalingLogs.append(I)I -/
def wx_X0_append (X : XT) (o : Nat) (x1 : Int) (T : xT) (I : xI) (R : xR) (L : xL) (Q : Int → xT → xI → xR → Prop) : Prop :=
  wx_X0_isIn X x1 32 126 T I R L (fun (r1 : Int) => 
  cEq r1 0
    (
    Q (-2) T I R)
    (
    xtag T o = 1 ∧
    ∃ b4 : Nat, R o 8 = some b4 ∧ xtag T b4 = 8 ∧ wx_J7_length X b4 T I R L (fun (r7 : Int) => 
    cEq r7 70
      (
      Q (-3) T I R)
      (
      ∃ b9 : Nat, R o 8 = some b9 ∧ xtag T b9 = 8 ∧ wx_J7_append_2 X b9 (bC x1) T I R L (fun (r12 : Option Nat) (T13 : xT) (I14 : xI) (R15 : xR) => tle T T13 → 
      ∃ b18 : Nat, R15 o 8 = some b18 ∧ xtag T13 b18 = 8 ∧ wx_J7_length X b18 T13 I14 R15 L (fun (r21 : Int) => 
      Q r21 T13 I14 R15))))))
theorem hx_X0_append : yX0_append.cls = RX0 ∧ yX0_append.cls ≠ "java/lang/invoke/MethodHandle" ∧ yX0_append.cls ≠ "java/lang/invoke/VarHandle" ∧ (parseMethodDescriptor yX0_append.desc).map (fun d => d.parameters.length) = some 1 := by decide +kernel
set_option maxHeartbeats 4000000 in
theorem tx_X0_append (X : XT) {o : Nat} {x1 : Int} {T : xT} {I : xI} {R : xR} {L : xL} {Q : Int → xT → xI → xR → Prop} (hw : wx_X0_append X o x1 T I R L Q) : CtX X yX0_append cX0_append 2 (some .int) (rmX 6 1 150 176) [aR (some o), aI x1] T I R L (PXiTIR T I R L Q) := by
  refine CtX.intro (by decide) (Nat.le_of_ble_eq_true rfl) (fun E hE hR hN => ?_)
  have hRm := hR.rm
  have hE : OkX E X RX0 cX0_append 2 (some .int) := hE
  have hE1 := hE.1
  show GX E X T I R L 0 0 0 [some (aR (some o)), some (aI x1)] []
  unfold wx_X0_append at hw
  intro hok
  refine g_ildn1 hE1 dX0_append_0 ?_
  refine g_bipush hE1 dX0_append_1 (by decide) ?_
  refine g_bipush hE1 dX0_append_3 (by decide) ?_
  refine gx_callS hE hRm (As := [aI x1, aI 32, aI 126]) hx_X0_isIn (tx_X0_isIn X hw) (lw_S q392 q393 q94 q394) ⟨by decide, by decide⟩ ⟨(by decide), (by decide)⟩ rfl (Nat.le_of_ble_eq_true rfl) dX0_append_5 rfl (fun r9 Tz Iz Rz Lz hΦ => ?_) hok
  obtain ⟨r1, rfl, rfl, rfl, rfl, rfl, hw⟩ := hΦ
  show GX E X T I R L 0 0 8 [some (aR (some o)), some (aI x1)] [aI r1]
  intro hok
  obtain ⟨h27, h28, hT29, hN30⟩ := hw
  refine g_if_ne hE1 (tgt := 14) dX0_append_8 (by decide) h27 (fun q => ?_) (fun q => ?_)
  · have hw := hT29 q
    refine g_bipush hE1 dX0_append_11 (by decide) ?_
    exact gx_iret hE hR dX0_append_13 (by decide) (by decide) rfl ⟨_, rfl, rfl, tle.rf, hw⟩ hok
  · have hw := hN30 q
    refine g_aldn0 hE1 dX0_append_14 ?_
    obtain ⟨ht3, hw⟩ := hw
    refine gx_getr hE in_X0 (t := 1) rfl (by decide) 8 8 rfl (by decide) rfl (by decide) rfl q361 (Or.inl rfl) ht3 dX0_append_15 ?_ hok
    intro hok
    obtain ⟨b4, hb5, hw⟩ := hw
    rw [hb5]
    obtain ⟨ht6, hw⟩ := hw
    refine gx_callV hE hRm (As := []) ht6 (by decide) (by decide) rfl hx_J7_length (tx_J7_length X hw) (lw_V q1592 q850 q2596 q105 q851) ⟨by decide, by decide⟩ ⟨(by decide), (by decide)⟩ rfl (Nat.le_of_ble_eq_true rfl) dX0_append_18 rfl (fun r9 Tz Iz Rz Lz hΦ => ?_) hok
    obtain ⟨r7, rfl, rfl, rfl, rfl, rfl, hw⟩ := hΦ
    show GX E X T I R L 0 0 21 [some (aR (some o)), some (aI x1)] [aI r7]
    intro hok
    refine g_bipush hE1 dX0_append_21 (by decide) ?_
    obtain ⟨h23, h24, hT25, hN26⟩ := hw
    refine g_icmp_ne hE1 (tgt := 29) dX0_append_23 (by decide) h23 h24 (fun q => ?_) (fun q => ?_)
    · have hw := hT25 q
      refine g_bipush hE1 dX0_append_26 (by decide) ?_
      exact gx_iret hE hR dX0_append_28 (by decide) (by decide) rfl ⟨_, rfl, rfl, tle.rf, hw⟩ hok
    · have hw := hN26 q
      refine g_aldn0 hE1 dX0_append_29 ?_
      refine gx_getr hE in_X0 (t := 1) rfl (by decide) 8 8 rfl (by decide) rfl (by decide) rfl q361 (Or.inl rfl) ht3 dX0_append_30 ?_ hok
      intro hok
      refine g_ildn1 hE1 dX0_append_33 ?_
      refine g_i2c hE1 dX0_append_34 ?_
      obtain ⟨b9, hb10, hw⟩ := hw
      rw [hb10]
      obtain ⟨ht11, hw⟩ := hw
      refine gx_callV hE hRm (As := [aI (bC x1)]) ht11 (by decide) (by decide) rfl hx_J7_append_2 (tx_J7_append_2 X hw) (lw_V q1593 q1594 q1595 q105 q1596) ⟨by decide, by decide⟩ ⟨(by decide), (by decide)⟩ rfl (Nat.le_of_ble_eq_true rfl) dX0_append_35 rfl (fun r9 T13 I14 R15 Lz hΦ => ?_) hok
      obtain ⟨r12, rfl, rfl, hl16, hw⟩ := hΦ
      have hw := hw hl16
      show GX E X T13 I14 R15 L 1 150 38 [some (aR (some o)), some (aI x1)] [aR r12]
      intro hok
      refine g_pop hE1 dX0_append_38 rfl ?_
      refine g_aldn0 hE1 dX0_append_39 ?_
      have ht17 := hl16.tag ht3 (by decide)
      refine gx_getr hE in_X0 (t := 1) rfl (by decide) 8 8 rfl (by decide) rfl (by decide) rfl q361 (Or.inl rfl) ht17 dX0_append_40 ?_ hok
      intro hok
      obtain ⟨b18, hb19, hw⟩ := hw
      rw [hb19]
      obtain ⟨ht20, hw⟩ := hw
      refine gx_callV hE hRm (As := []) ht20 (by decide) (by decide) rfl hx_J7_length (tx_J7_length X hw) (lw_V q1592 q850 q2596 q105 q851) ⟨by decide, by decide⟩ ⟨(by decide), (by decide)⟩ rfl (Nat.le_of_ble_eq_true rfl) dX0_append_43 rfl (fun r9 Tz Iz Rz Lz hΦ => ?_) hok
      obtain ⟨r21, rfl, rfl, rfl, rfl, rfl, hw⟩ := hΦ
      show GX E X T13 I14 R15 L 1 150 46 [some (aR (some o)), some (aI x1)] [aI r21]
      intro hok
      exact gx_iret hE hR dX0_append_46 (by decide) (by decide) rfl ⟨_, rfl, rfl, hl16, hw⟩ hok

/-- WhalingLogs$Reader.<init>(LWhalingLogs;Ljava/lang/CharSequence;)V -/
def wx_X8_init (X : XT) (o : Nat) (x1 : Option Nat) (x2 : Option Nat) (T : xT) (I : xI) (R : xR) (L : xL) (Q : xR → Prop) : Prop :=
  xtag T o = 16 ∧ ∀ R2 : xR, R2 = uR R o 2 x1 →
  ∀ R3 : xR, R3 = uR R2 o 0 x2 →
  Q R3
theorem hx_X8_init : yX8_init.cls ≠ "java/lang/invoke/MethodHandle" ∧ yX8_init.cls ≠ "java/lang/invoke/VarHandle" ∧ (parseMethodDescriptor yX8_init.desc).map (fun d => d.parameters.length) = some 2 := by decide +kernel
set_option maxHeartbeats 4000000 in
theorem tx_X8_init (X : XT) {o : Nat} {x1 : Option Nat} {x2 : Option Nat} {T : xT} {I : xI} {R : xR} {L : xL} {Q : xR → Prop} (hw : wx_X8_init X o x1 x2 T I R L Q) : CtX X yX8_init cX8_init 3 none (rmX 1 0 0 20) [aR (some o), aR x1, aR x2] T I R L (PXvR T I R L Q) := by
  refine CtX.intro (by decide) (Nat.le_of_ble_eq_true rfl) (fun E hE hR hN => ?_)
  have hRm := hR.rm
  have hE : OkX E X RX8 cX8_init 3 none := hE
  have hE1 := hE.1
  have hI : isInit E := hN
  show GX E X T I R L 0 0 0 [some (aR (some o)), some (aR x1), some (aR x2)] []
  unfold wx_X8_init at hw
  intro hok
  refine g_aldn0 hE1 dX8_init_0 ?_
  refine g_aldn1 hE1 dX8_init_1 ?_
  obtain ⟨ht1, hw⟩ := hw
  refine gx_putrF hE in_X8 (t := 16) rfl (by decide) 2 2 rfl (by decide) rfl (by decide) (ty := tyX8 2) tyX8 tyX8_ok nmX8 rfl q1626 (Or.inl rfl) rfl hI rfl (tyX8_ok 2 (by decide)) nar_o fit_o ht1 dX8_init_2 ?_ hok
  intro hok
  have hw := hw _ rfl
  generalize uR R o 2 x1 = R2 at hw hok ⊢
  refine g_aldn0 hE1 dX8_init_5 ?_
  refine gx_objInit hE hRm rfl q1623 q151 q152 (by decide) (by decide) (Nat.le_of_ble_eq_true rfl) dX8_init_6 ?_ hok
  intro hok
  refine g_aldn0 hE1 dX8_init_9 ?_
  refine g_aldn2 hE1 dX8_init_10 ?_
  refine gx_putrF hE in_X8 (t := 16) rfl (by decide) 0 0 rfl (by decide) rfl (by decide) (ty := tyX8 0) tyX8 tyX8_ok nmX8 rfl q1624 (Or.inl rfl) rfl hI rfl (tyX8_ok 0 (by decide)) nar_o fit_o ht1 dX8_init_11 ?_ hok
  intro hok
  have hw := hw _ rfl
  generalize uR R2 o 0 x2 = R3 at hw hok ⊢
  exact gx_vret hE hR dX8_init_14 (by decide) (by decide) ⟨rfl, rfl, rfl, rfl, hw⟩ hok

/-- java/lang/String.checkIndex(II)V -/
def wx_J8_checkIndex (X : XT) (x0 : Int) (x1 : Int) (T : xT) (I : xI) (R : xR) (L : xL) (Q : Prop) : Prop :=
  wx_J17_checkIndex X x0 x1 (srX X 5) T I R L (fun (r1 : Int) => 
  Q)
theorem hx_J8_checkIndex : yJ8_checkIndex.cls ≠ "java/lang/invoke/MethodHandle" ∧ yJ8_checkIndex.cls ≠ "java/lang/invoke/VarHandle" ∧ (parseMethodDescriptor yJ8_checkIndex.desc).map (fun d => d.parameters.length) = some 2 := by decide +kernel
set_option maxHeartbeats 4000000 in
theorem tx_J8_checkIndex (X : XT) {x0 : Int} {x1 : Int} {T : xT} {I : xI} {R : xR} {L : xL} {Q : Prop} (hw : wx_J8_checkIndex X x0 x1 T I R L Q) : CtX X yJ8_checkIndex cJ8_checkIndex 2 none (rmX 1 0 0 22) [aI x0, aI x1] T I R L (PXv T I R L Q) := by
  refine CtX.intro (by decide) (Nat.le_of_ble_eq_true rfl) (fun E hE hR hN => ?_)
  have hRm := hR.rm
  have hE : OkX E X RJ8 cJ8_checkIndex 2 none := hE
  have hE1 := hE.1
  show GX E X T I R L 0 0 0 [some (aI x0), some (aI x1)] []
  unfold wx_J8_checkIndex at hw
  intro hok
  refine g_ildn0 hE1 dJ8_checkIndex_0 ?_
  refine g_ildn1 hE1 dJ8_checkIndex_1 ?_
  refine gx_gets_r hE (List.mem_of_getElem? (i := 7) rfl : ("jdk/internal/util/Preconditions", "SIOOBE_FORMATTER", "Ljava/util/function/BiFunction;", Sum.inr (5 : Nat)) ∈ stL) q770 dJ8_checkIndex_2 ?_ hok
  intro hok
  refine gx_callS hE hRm (As := [aI x0, aI x1, aR (srX X 5)]) hx_J17_checkIndex (tx_J17_checkIndex X hw) (lw_S q1612 q589 q118 q590) ⟨by decide, by decide⟩ ⟨(by decide), (by decide)⟩ rfl (Nat.le_of_ble_eq_true rfl) dJ8_checkIndex_5 rfl (fun r9 Tz Iz Rz Lz hΦ => ?_) hok
  obtain ⟨r1, rfl, rfl, rfl, rfl, rfl, hw⟩ := hΦ
  show GX E X T I R L 0 0 8 [some (aI x0), some (aI x1)] [aI r1]
  intro hok
  refine g_pop hE1 dJ8_checkIndex_8 rfl ?_
  exact gx_vret hE hR dJ8_checkIndex_9 (by decide) (by decide) ⟨rfl, rfl, rfl, rfl, rfl, hw⟩ hok

/-- java/lang/AbstractStringBuilder.charAt(I)C -/
def wx_J6_charAt_J7 (X : XT) (o : Nat) (x1 : Int) (T : xT) (I : xI) (R : xR) (L : xL) (Q : Int → Prop) : Prop :=
  xtag T o = 8 ∧
  ∃ b2 : Nat, R o 0 = some b2 ∧ xtag T b2 = 101 ∧
  inR (I o 3) ∧ inR (bShr (xlen T b2 : Int) (I o 1)) ∧
  wx_J8_checkIndex X x1 (if (bShr (xlen T b2 : Int) (I o 1)) < (I o 3) then (bShr (xlen T b2 : Int) (I o 1)) else (I o 3)) T I R L (
  cEq (I o 1) 0
    (
    ib x1 (xlen T b2) ∧ xlen T b2 < 2147483648 ∧
    ((0 : Int) ≤ (bC (bAnd (I b2 x1) 255)) ∧ ((bC (bAnd (I b2 x1) 255)) : Int) < 65536) ∧ Q (bC (bAnd (I b2 x1) 255)))
    (
    False))
theorem hx_J6_charAt_J7 : yJ6_charAt.cls = RJ6 ∧ yJ6_charAt.cls ≠ "java/lang/invoke/MethodHandle" ∧ yJ6_charAt.cls ≠ "java/lang/invoke/VarHandle" ∧ (parseMethodDescriptor yJ6_charAt.desc).map (fun d => d.parameters.length) = some 1 := by decide +kernel
set_option maxHeartbeats 4000000 in
theorem tx_J6_charAt_J7 (X : XT) {o : Nat} {x1 : Int} {T : xT} {I : xI} {R : xR} {L : xL} {Q : Int → Prop} (hw : wx_J6_charAt_J7 X o x1 T I R L Q) : CtX X yJ6_charAt cJ6_charAt 5 (some .char) (rmX 2 0 0 64) [aR (some o), aI x1] T I R L (PXi T I R L Q) := by
  refine CtX.intro (by decide) (Nat.le_of_ble_eq_true rfl) (fun E hE hR hN => ?_)
  have hRm := hR.rm
  have hE : OkX E X RJ6 cJ6_charAt 5 (some .char) := hE
  have hE1 := hE.1
  show GX E X T I R L 0 0 0 [some (aR (some o)), some (aI x1), none, none, none] []
  unfold wx_J6_charAt_J7 at hw
  intro hok
  refine g_aldn0 hE1 dJ6_charAt_0 ?_
  obtain ⟨ht1, hw⟩ := hw
  refine gx_geti hE in_J7 (t := 8) rfl (by decide) 1 1 rfl (by decide) rfl (by decide) rfl q339 (Or.inl rfl) ht1 dJ6_charAt_1 ?_ hok
  intro hok
  refine g_istn2 hE1 dJ6_charAt_4 (by decide) rfl ?_
  refine g_aldn0 hE1 dJ6_charAt_5 ?_
  refine gx_getr hE in_J7 (t := 8) rfl (by decide) 0 0 rfl (by decide) rfl (by decide) rfl q338 (Or.inl rfl) ht1 dJ6_charAt_6 ?_ hok
  intro hok
  refine g_astn3 hE1 dJ6_charAt_9 (by decide) rfl ?_
  refine g_aldn0 hE1 dJ6_charAt_10 ?_
  refine gx_geti hE in_J7 (t := 8) rfl (by decide) 3 3 rfl (by decide) rfl (by decide) rfl q342 (Or.inl rfl) ht1 dJ6_charAt_11 ?_ hok
  intro hok
  refine g_aldn3 hE1 dJ6_charAt_14 ?_
  obtain ⟨b2, hb3, hw⟩ := hw
  rw [hb3]
  obtain ⟨ht4, hw⟩ := hw
  refine gx_alenB hE ht4 dJ6_charAt_15 ?_ hok
  intro hok
  refine g_ildn2 hE1 dJ6_charAt_16 ?_
  refine g_ishr hE1 dJ6_charAt_17 ?_
  obtain ⟨h5, h6, hw⟩ := hw
  refine gx_min hE hRm h5 h6 q1694 q406 q109 q407 (by decide) (by decide) (by decide) (by decide) (Nat.le_of_ble_eq_true rfl) dJ6_charAt_18 ?_ hok
  intro hok
  refine g_ist4 hE1 dJ6_charAt_21 (by decide) rfl ?_
  refine g_ildn1 hE1 dJ6_charAt_23 ?_
  refine g_ild4 hE1 dJ6_charAt_24 ?_
  refine gx_callS hE hRm (As := [aI x1, aI (if (bShr (xlen T b2 : Int) (I o 1)) < (I o 3) then (bShr (xlen T b2 : Int) (I o 1)) else (I o 3))]) hx_J8_checkIndex (tx_J8_checkIndex X hw) (lw_S q1695 q1610 q106 q1611) ⟨by decide, by decide⟩ ⟨(by decide), (by decide)⟩ rfl (Nat.le_of_ble_eq_true rfl) dJ6_charAt_26 rfl (fun r9 Tz Iz Rz Lz hΦ => ?_) hok
  obtain ⟨rfl, rfl, rfl, rfl, rfl, hw⟩ := hΦ
  show GX E X T I R L 0 0 29 [some (aR (some o)), some (aI x1), some (aI (I o 1)), some (aR (some b2)), some (aI (if (bShr (xlen T b2 : Int) (I o 1)) < (I o 3) then (bShr (xlen T b2 : Int) (I o 1)) else (I o 3)))] []
  intro hok
  refine g_ildn2 hE1 dJ6_charAt_29 ?_
  obtain ⟨h11, h12, hT13, hN14⟩ := hw
  refine g_if_ne hE1 (tgt := 42) dJ6_charAt_30 (by decide) h11 (fun q => ?_) (fun q => ?_)
  · have hw := hT13 q
    refine g_aldn3 hE1 dJ6_charAt_33 ?_
    refine g_ildn1 hE1 dJ6_charAt_34 ?_
    obtain ⟨h8, h9, hw⟩ := hw
    refine gx_bald hE ht4 h8 h9 dJ6_charAt_35 ?_ hok
    intro hok
    refine g_sipush hE1 dJ6_charAt_36 (by decide) ?_
    refine g_iand hE1 dJ6_charAt_39 ?_
    refine g_i2c hE1 dJ6_charAt_40 ?_
    obtain ⟨h10, hw⟩ := hw
    exact gx_iret hE hR dJ6_charAt_41 (by decide) (by decide) (narrow_ch h10) ⟨_, rfl, rfl, rfl, rfl, rfl, hw⟩ hok
  · have hw := hN14 q
    refine g_aldn3 hE1 dJ6_charAt_42 ?_
    refine g_ildn1 hE1 dJ6_charAt_43 ?_
    exact hw.elim

/-- java/lang/StringBuilder.charAt(I)C -/
def wx_J7_charAt (X : XT) (o : Nat) (x1 : Int) (T : xT) (I : xI) (R : xR) (L : xL) (Q : Int → Prop) : Prop :=
  xtag T o = 8 ∧ wx_J6_charAt_J7 X o x1 T I R L (fun (r2 : Int) => 
  ((0 : Int) ≤ r2 ∧ (r2 : Int) < 65536) ∧ Q r2)
theorem hx_J7_charAt : yJ7_charAt.cls = RJ7 ∧ yJ7_charAt.cls ≠ "java/lang/invoke/MethodHandle" ∧ yJ7_charAt.cls ≠ "java/lang/invoke/VarHandle" ∧ (parseMethodDescriptor yJ7_charAt.desc).map (fun d => d.parameters.length) = some 1 := by decide +kernel
set_option maxHeartbeats 4000000 in
theorem tx_J7_charAt (X : XT) {o : Nat} {x1 : Int} {T : xT} {I : xI} {R : xR} {L : xL} {Q : Int → Prop} (hw : wx_J7_charAt X o x1 T I R L Q) : CtX X yJ7_charAt cJ7_charAt 2 (some .char) (rmX 3 0 0 88) [aR (some o), aI x1] T I R L (PXi T I R L Q) := by
  refine CtX.intro (by decide) (Nat.le_of_ble_eq_true rfl) (fun E hE hR hN => ?_)
  have hRm := hR.rm
  have hE : OkX E X RJ7 cJ7_charAt 2 (some .char) := hE
  have hE1 := hE.1
  show GX E X T I R L 0 0 0 [some (aR (some o)), some (aI x1)] []
  unfold wx_J7_charAt at hw
  intro hok
  refine g_aldn0 hE1 dJ7_charAt_0 ?_
  refine g_ildn1 hE1 dJ7_charAt_1 ?_
  obtain ⟨ht1, hw⟩ := hw
  refine gx_callSU hE hRm (na := 1) (As := [aI x1]) ht1 (by decide) (by decide) rfl (by decide +kernel) (tx_J6_charAt_J7 X hw) (lw_SU q1691 q2598 q351 q1692 q104 q1693) ⟨by decide, by decide⟩ ⟨(by decide), (by decide)⟩ rfl (Nat.le_of_ble_eq_true rfl) dJ7_charAt_2 rfl (fun r9 Tz Iz Rz Lz hΦ => ?_) hok
  obtain ⟨r2, rfl, rfl, rfl, rfl, rfl, hw⟩ := hΦ
  show GX E X T I R L 0 0 5 [some (aR (some o)), some (aI x1)] [aI r2]
  intro hok
  obtain ⟨h4, hw⟩ := hw
  exact gx_iret hE hR dJ7_charAt_5 (by decide) (by decide) (narrow_ch h4) ⟨_, rfl, rfl, rfl, rfl, rfl, hw⟩ hok

/-- WhalingLogs$Reader.here()I -/
def wx_X8_here (X : XT) (o : Nat)  (T : xT) (I : xI) (R : xR) (L : xL) (Q : Int → Prop) : Prop :=
  xtag T o = 16 ∧
  ∃ b2 : Nat, R o 0 = some b2 ∧ xtag T b2 = 8 ∧ wx_J7_length X b2 T I R L (fun (r5 : Int) => 
  jn1 (fun (y0_33 : Int) => 
      Q y0_33)
    (fun (J_33 : Int → Prop) =>
    cLt (I o 1) r5
      (
      ∃ b7 : Nat, R o 0 = some b7 ∧ xtag T b7 = 8 ∧ wx_J7_charAt X b7 (I o 1) T I R L (fun (r10 : Int) => 
      J_33 r10))
      (
      J_33 (-1))))
theorem hx_X8_here : yX8_here.cls = RX8 ∧ yX8_here.cls ≠ "java/lang/invoke/MethodHandle" ∧ yX8_here.cls ≠ "java/lang/invoke/VarHandle" ∧ (parseMethodDescriptor yX8_here.desc).map (fun d => d.parameters.length) = some 0 := by decide +kernel
set_option maxHeartbeats 4000000 in
theorem tx_X8_here (X : XT) {o : Nat}  {T : xT} {I : xI} {R : xR} {L : xL} {Q : Int → Prop} (hw : wx_X8_here X o T I R L Q) : CtX X yX8_here cX8_here 1 (some .int) (rmX 4 0 0 109) [aR (some o)] T I R L (PXi T I R L Q) := by
  refine CtX.intro (by decide) (Nat.le_of_ble_eq_true rfl) (fun E hE hR hN => ?_)
  have hRm := hR.rm
  have hE : OkX E X RX8 cX8_here 1 (some .int) := hE
  have hE1 := hE.1
  show GX E X T I R L 0 0 0 [some (aR (some o))] []
  unfold wx_X8_here at hw
  intro hok
  refine g_aldn0 hE1 dX8_here_0 ?_
  obtain ⟨ht1, hw⟩ := hw
  refine gx_geti hE in_X8 (t := 16) rfl (by decide) 1 1 rfl (by decide) rfl (by decide) rfl q1625 (Or.inl rfl) ht1 dX8_here_1 ?_ hok
  intro hok
  refine g_aldn0 hE1 dX8_here_4 ?_
  refine gx_getr hE in_X8 (t := 16) rfl (by decide) 0 0 rfl (by decide) rfl (by decide) rfl q1624 (Or.inl rfl) ht1 dX8_here_5 ?_ hok
  intro hok
  obtain ⟨b2, hb3, hw⟩ := hw
  rw [hb3]
  obtain ⟨ht4, hw⟩ := hw
  refine gx_callF hE hRm (na := 0) (As := []) ht4 (by decide) (by decide) rfl (x := ⟨"java/lang/CharSequence", "length", "()I"⟩) (by unfold fwL; simp; decide) (by decide +kernel) (tx_J7_length X hw) (lw_F q1655 q1663 q850 q105 q851) ⟨by decide, by decide⟩ ⟨(by decide), (by decide)⟩ rfl (Nat.le_of_ble_eq_true rfl) dX8_here_8 rfl (fun r9 Tz Iz Rz Lz hΦ => ?_) hok
  obtain ⟨r5, rfl, rfl, rfl, rfl, rfl, hw⟩ := hΦ
  show GX E X T I R L 0 0 13 [some (aR (some o))] [aI r5, aI (I o 1)]
  intro hok
  refine jn1_walk (fun (y0_33 : Int) => GX E X T I R L 0 0 33 [some (aR (some o))] [aI y0_33]) hw (fun y0_33 hw => ?_) (fun J_33 hj_33 hw => ?_)
  · intro hok
    exact gx_iret hE hR dX8_here_33 (by decide) (by decide) rfl ⟨_, rfl, rfl, rfl, rfl, rfl, hw⟩ hok
  · skip
    obtain ⟨h12, h13, hT14, hN15⟩ := hw
    refine g_icmp_ge hE1 (tgt := 32) dX8_here_13 (by decide) h12 h13 (fun q => ?_) (fun q => ?_)
    · have hw := hT14 q
      refine g_aldn0 hE1 dX8_here_16 ?_
      refine gx_getr hE in_X8 (t := 16) rfl (by decide) 0 0 rfl (by decide) rfl (by decide) rfl q1624 (Or.inl rfl) ht1 dX8_here_17 ?_ hok
      intro hok
      refine g_aldn0 hE1 dX8_here_20 ?_
      refine gx_geti hE in_X8 (t := 16) rfl (by decide) 1 1 rfl (by decide) rfl (by decide) rfl q1625 (Or.inl rfl) ht1 dX8_here_21 ?_ hok
      intro hok
      obtain ⟨b7, hb8, hw⟩ := hw
      rw [hb8]
      obtain ⟨ht9, hw⟩ := hw
      refine gx_callF hE hRm (na := 1) (As := [aI (I o 1)]) ht9 (by decide) (by decide) rfl (x := ⟨"java/lang/CharSequence", "charAt", "(I)C"⟩) (by unfold fwL; simp; decide) (by decide +kernel) (tx_J7_charAt X hw) (lw_F q1667 q1686 q1688 q105 q1690) ⟨by decide, by decide⟩ ⟨(by decide), (by decide)⟩ rfl (Nat.le_of_ble_eq_true rfl) dX8_here_24 rfl (fun r9 Tz Iz Rz Lz hΦ => ?_) hok
      obtain ⟨r10, rfl, rfl, rfl, rfl, rfl, hw⟩ := hΦ
      show GX E X T I R L 0 0 29 [some (aR (some o))] [aI r10]
      intro hok
      refine g_goto hE1 (tgt := 33) dX8_here_29 (by decide) ?_
      exact hj_33 _ hw hok
    · have hw := hN15 q
      refine g_iconst hE1 dX8_here_32 ?_
      exact hj_33 _ hw hok

/-- java/lang/AbstractStringBuilder.getValue()[B -/
def wx_J6_getValue_J7 (X : XT) (o : Nat)  (T : xT) (I : xI) (R : xR) (L : xL) (Q : Option Nat → Prop) : Prop :=
  xtag T o = 8 ∧
  Q (R o 0)
theorem hx_J6_getValue_J7 : yJ6_getValue.cls = RJ6 ∧ yJ6_getValue.cls ≠ "java/lang/invoke/MethodHandle" ∧ yJ6_getValue.cls ≠ "java/lang/invoke/VarHandle" ∧ (parseMethodDescriptor yJ6_getValue.desc).map (fun d => d.parameters.length) = some 0 := by decide +kernel
set_option maxHeartbeats 4000000 in
theorem tx_J6_getValue_J7 (X : XT) {o : Nat}  {T : xT} {I : xI} {R : xR} {L : xL} {Q : Option Nat → Prop} (hw : wx_J6_getValue_J7 X o T I R L Q) : CtX X yJ6_getValue cJ6_getValue 1 (some (.array .byte)) (rmX 0 0 0 0) [aR (some o)] T I R L (PXq T I R L Q) := by
  refine CtX.intro (by decide) (Nat.le_of_ble_eq_true rfl) (fun E hE hR hN => ?_)
  have hRm := hR.rm
  have hE : OkX E X RJ6 cJ6_getValue 1 (some (.array .byte)) := hE
  have hE1 := hE.1
  show GX E X T I R L 0 0 0 [some (aR (some o))] []
  unfold wx_J6_getValue_J7 at hw
  intro hok
  refine g_aldn0 hE1 dJ6_getValue_0 ?_
  obtain ⟨ht1, hw⟩ := hw
  refine gx_getr hE in_J7 (t := 8) rfl (by decide) 0 0 rfl (by decide) rfl (by decide) rfl q338 (Or.inl rfl) ht1 dJ6_getValue_1 ?_ hok
  intro hok
  exact gx_aret hE hR dJ6_getValue_4 (by decide) (by decide) (Or.inr ⟨_, rfl⟩) ⟨_, rfl, rfl, rfl, rfl, rfl, hw⟩ hok

/-- java/util/Arrays.copyOfRangeByte([BII)[B -/
def wx_J11_copyOfRangeByte (X : XT) (x0 : Option Nat) (x1 : Int) (x2 : Int) (T : xT) (I : xI) (R : xR) (L : xL) (Q : Option Nat → Prop) : Prop :=
  False
theorem hx_J11_copyOfRangeByte : yJ11_copyOfRangeByte.cls ≠ "java/lang/invoke/MethodHandle" ∧ yJ11_copyOfRangeByte.cls ≠ "java/lang/invoke/VarHandle" ∧ (parseMethodDescriptor yJ11_copyOfRangeByte.desc).map (fun d => d.parameters.length) = some 3 := by decide +kernel
set_option maxHeartbeats 4000000 in
theorem tx_J11_copyOfRangeByte (X : XT) {x0 : Option Nat} {x1 : Int} {x2 : Int} {T : xT} {I : xI} {R : xR} {L : xL} {Q : Option Nat → Prop} (hw : wx_J11_copyOfRangeByte X x0 x1 x2 T I R L Q) : CtX X yJ11_copyOfRangeByte cJ11_copyOfRangeByte 5 (some (.array .byte)) (rmX 0 0 0 0) [aR x0, aI x1, aI x2] T I R L (PXq T I R L Q) := by
  refine CtX.intro (by decide) (Nat.le_of_ble_eq_true rfl) (fun E hE hR hN => ?_)
  have hRm := hR.rm
  have hE : OkX E X RJ11 cJ11_copyOfRangeByte 5 (some (.array .byte)) := hE
  have hE1 := hE.1
  show GX E X T I R L 0 0 0 [some (aR x0), some (aI x1), some (aI x2), none, none] []
  unfold wx_J11_copyOfRangeByte at hw
  intro hok
  refine g_ildn1 hE1 dJ11_copyOfRangeByte_0 ?_
  refine g_ildn2 hE1 dJ11_copyOfRangeByte_1 ?_
  exact hw.elim

/-- java/util/Arrays.copyOfRange([BII)[B -/
def wx_J11_copyOfRange (X : XT) (x0 : Option Nat) (x1 : Int) (x2 : Int) (T : xT) (I : xI) (R : xR) (L : xL) (Q : Option Nat → xT → xI → Prop) : Prop :=
  jn0 (
      wx_J11_copyOfRangeByte X x0 x1 x2 T I R L (fun (r1 : Option Nat) => 
      Q r1 T I))
    (fun (J_10 : Prop) =>
    cEq x1 0
      (
      ∃ b3 : Nat, x0 = some b3 ∧ xtag T b3 = 101 ∧
      cEq x2 (xlen T b3 : Int)
        (
        bsX X ≤ b3 ∧ (∀ j : Int, fits .byte (.int (iI (I b3 j))) = true) ∧ 0 + xlen T b3 ≤ 150 ∧ ∀ q9 : Nat, xtag T q9 = 0 → bsX X ≤ q9 → ∀ T12 : xT, T12 = xnew T q9 101 (xlen T b3) → ∀ I13 : xI, I13 = clI I b3 q9 →
        Q (some q9) T12 I13)
        (
        J_10))
      (
      J_10))
theorem hx_J11_copyOfRange : yJ11_copyOfRange.cls ≠ "java/lang/invoke/MethodHandle" ∧ yJ11_copyOfRange.cls ≠ "java/lang/invoke/VarHandle" ∧ (parseMethodDescriptor yJ11_copyOfRange.desc).map (fun d => d.parameters.length) = some 3 := by decide +kernel
set_option maxHeartbeats 4000000 in
theorem tx_J11_copyOfRange (X : XT) {x0 : Option Nat} {x1 : Int} {x2 : Int} {T : xT} {I : xI} {R : xR} {L : xL} {Q : Option Nat → xT → xI → Prop} (hw : wx_J11_copyOfRange X x0 x1 x2 T I R L Q) : CtX X yJ11_copyOfRange cJ11_copyOfRange 3 (some (.array .byte)) (rmX 1 1 150 64) [aR x0, aI x1, aI x2] T I R L (PXqTI T I R L Q) := by
  refine CtX.intro (by decide) (Nat.le_of_ble_eq_true rfl) (fun E hE hR hN => ?_)
  have hRm := hR.rm
  have hE : OkX E X RJ11 cJ11_copyOfRange 3 (some (.array .byte)) := hE
  have hE1 := hE.1
  show GX E X T I R L 0 0 0 [some (aR x0), some (aI x1), some (aI x2)] []
  unfold wx_J11_copyOfRange at hw
  intro hok
  refine g_ildn1 hE1 dJ11_copyOfRange_0 ?_
  refine jn0_walk (GX E X T I R L 0 0 10 [some (aR x0), some (aI x1), some (aI x2)] []) hw (fun  hw => ?_) (fun J_10 hj_10 hw => ?_)
  · intro hok
    refine g_aldn0 hE1 dJ11_copyOfRange_10 ?_
    refine g_ildn1 hE1 dJ11_copyOfRange_11 ?_
    refine g_ildn2 hE1 dJ11_copyOfRange_12 ?_
    refine gx_callS hE hRm (As := [aR x0, aI x1, aI x2]) hx_J11_copyOfRangeByte (tx_J11_copyOfRangeByte X hw) (lw_S q858 q859 q110 q860) ⟨by decide, by decide⟩ ⟨(by decide), (by decide)⟩ rfl (Nat.le_of_ble_eq_true rfl) dJ11_copyOfRange_13 rfl (fun r9 Tz Iz Rz Lz hΦ => ?_) hok
    obtain ⟨r1, rfl, rfl, rfl, rfl, rfl, hw⟩ := hΦ
    show GX E X T I R L 0 0 16 [some (aR x0), some (aI x1), some (aI x2)] [aR r1]
    intro hok
    exact gx_aret hE hR dJ11_copyOfRange_16 (by decide) (by decide) (Or.inr ⟨_, rfl⟩) ⟨_, rfl, rfl, rfl, tle.rf, hw⟩ hok
  · skip
    obtain ⟨h20, h21, hT22, hN23⟩ := hw
    refine g_if_ne hE1 (tgt := 10) dJ11_copyOfRange_1 (by decide) h20 (fun q => ?_) (fun q => ?_)
    · have hw := hT22 q
      refine g_ildn2 hE1 dJ11_copyOfRange_4 ?_
      refine g_aldn0 hE1 dJ11_copyOfRange_5 ?_
      obtain ⟨b3, hb4, hw⟩ := hw
      rw [hb4]
      obtain ⟨ht5, hw⟩ := hw
      refine gx_alenB hE ht5 dJ11_copyOfRange_6 ?_ hok
      intro hok
      obtain ⟨h16, h17, hT18, hN19⟩ := hw
      refine g_icmp_eq hE1 (tgt := 17) dJ11_copyOfRange_7 (by decide) h16 h17 (fun q => ?_) (fun q => ?_)
      · have hw := hT18 q
        refine g_aldn0 hE1 dJ11_copyOfRange_17 ?_
        obtain ⟨h6, h7, hw⟩ := hw
        obtain ⟨hc8, hw⟩ := hw
        refine gx_cloneB hE hRm q748 q749 q420 q421 q750 q751 ht5 h6 h7 (by decide) (by decide) (by decide) hc8 (Nat.le_of_ble_eq_true rfl) dJ11_copyOfRange_18 (fun q9 hq10 hbs11 => ?_) hok
        intro hok
        have hw := hw q9 hq10 hbs11 _ rfl _ rfl
        have hl14 := tle.new (T := T) (q := q9) (t := 101) (n := xlen T b3) hq10
        have hT15 : xtag (xnew T q9 101 (xlen T b3)) q9 = 101 := if_pos rfl
        generalize xnew T q9 101 (xlen T b3) = T12 at hw hl14 hok hT15 ⊢
        generalize clI I b3 q9 = I13 at hw hok ⊢
        refine gx_castB hE hT15 q752 dJ11_copyOfRange_21 ?_ hok
        intro hok
        exact gx_aret hE hR dJ11_copyOfRange_24 (by decide) (show 0 + xlen T b3 ≤ 150 by omega) (Or.inr ⟨_, rfl⟩) ⟨_, rfl, rfl, rfl, hl14, hw⟩ hok
      · have hw := hN19 q
        simpa only [hb4] using hj_10  hw hok
    · have hw := hN23 q
      exact hj_10  hw hok

/-- java/lang/String.<init>(Ljava/lang/AbstractStringBuilder;Ljava/lang/Void;)V -/
def wx_J8_init_2 (X : XT) (o : Nat) (x1 : Option Nat) (x2 : Option Nat) (T : xT) (I : xI) (R : xR) (L : xL) (Q : xT → xI → xR → Prop) : Prop :=
  ∃ b1 : Nat, x1 = some b1 ∧ xtag T b1 = 8 ∧ wx_J6_getValue_J7 X b1 T I R L (fun (r4 : Option Nat) => 
  wx_J7_length X b1 T I R L (fun (r6 : Int) => 
  wx_J6_isLatin1_J7 X b1 T I R L (fun (r8 : Int) => 
  jn5 (fun (T_97 : xT) (I_97 : xI) (R_97 : xR) (k_97 : Nat) (n_97 : Nat) => 
      Q T_97 I_97 R_97)
    (fun (J_97 : xT → xI → xR → Nat → Nat → Prop) =>
    cEq r8 0
      (
      jn0 (
          xtag T o = 25 ∧ bsX X ≤ o ∧ ∀ I12 : xI, I12 = uI I o 1 1 →
          wx_J11_copyOfRange X r4 0 (bShl r6 1) T I12 R L (fun (r13 : Option Nat) (T14 : xT) (I15 : xI) => tle T T14 → 
          bsX X ≤ o ∧ ∀ R19 : xR, R19 = uR R o 0 r13 →
          J_97 T14 I15 R19 1 150))
        (fun (J_79 : Prop) =>
        cEq (I b1 2) 0
          (
          J_79)
          (
          False)))
      (
      xtag T o = 25 ∧ bsX X ≤ o ∧ ∀ I26 : xI, I26 = uI I o 1 0 →
      wx_J11_copyOfRange X r4 0 r6 T I26 R L (fun (r27 : Option Nat) (T28 : xT) (I29 : xI) => tle T T28 → 
      bsX X ≤ o ∧ ∀ R33 : xR, R33 = uR R o 0 r27 →
      J_97 T28 I29 R33 1 150))))))
theorem hx_J8_init_2 : yJ8_init_2.cls ≠ "java/lang/invoke/MethodHandle" ∧ yJ8_init_2.cls ≠ "java/lang/invoke/VarHandle" ∧ (parseMethodDescriptor yJ8_init_2.desc).map (fun d => d.parameters.length) = some 2 := by decide +kernel
set_option maxHeartbeats 4000000 in
theorem tx_J8_init_2 (X : XT) {o : Nat} {x1 : Option Nat} {x2 : Option Nat} {T : xT} {I : xI} {R : xR} {L : xL} {Q : xT → xI → xR → Prop} (hw : wx_J8_init_2 X o x1 x2 T I R L Q) : CtX X yJ8_init_2 cJ8_init_2 5 none (rmX 2 2 300 86) [aR (some o), aR x1, aR x2] T I R L (PXvTIR T I R L Q) := by
  refine CtX.intro (by decide) (Nat.le_of_ble_eq_true rfl) (fun E hE hR hN => ?_)
  have hRm := hR.rm
  have hE : OkX E X RJ8 cJ8_init_2 5 none := hE
  have hE1 := hE.1
  have hI : isInit E := hN
  show GX E X T I R L 0 0 0 [some (aR (some o)), some (aR x1), some (aR x2), none, none] []
  unfold wx_J8_init_2 at hw
  intro hok
  refine g_aldn0 hE1 dJ8_init_2_0 ?_
  refine gx_objInit hE hRm rfl q840 q151 q152 (by decide) (by decide) (Nat.le_of_ble_eq_true rfl) dJ8_init_2_1 ?_ hok
  intro hok
  refine g_aldn1 hE1 dJ8_init_2_4 ?_
  obtain ⟨b1, hb2, hw⟩ := hw
  rw [hb2]
  obtain ⟨ht3, hw⟩ := hw
  refine gx_callU hE hRm (na := 0) (As := []) ht3 (by decide) (by decide) rfl (owner := "java/lang/AbstractStringBuilder") (x := ⟨"java/lang/AbstractStringBuilder", "getValue", "()[B"⟩) (by decide +kernel) (tx_J6_getValue_J7 X hw) (lw_U q841 q843 q844 q842 q104 q845) rfl ⟨by decide, by decide⟩ ⟨(by decide), (by decide)⟩ rfl (Nat.le_of_ble_eq_true rfl) dJ8_init_2_5 rfl (fun r9 Tz Iz Rz Lz hΦ => ?_) hok
  obtain ⟨r4, rfl, rfl, rfl, rfl, rfl, hw⟩ := hΦ
  show GX E X T I R L 0 0 8 [some (aR (some o)), some (aR (some b1)), some (aR x2), none, none] [aR r4]
  intro hok
  refine g_astn3 hE1 dJ8_init_2_8 (by decide) rfl ?_
  refine g_aldn1 hE1 dJ8_init_2_9 ?_
  refine gx_callO hE hRm (na := 0) (As := []) ht3 (by decide) (by decide) rfl (owner := "java/lang/AbstractStringBuilder") (x := ⟨"java/lang/AbstractStringBuilder", "length", "()I"⟩) (by decide +kernel) (tx_J7_length X hw) (lw_O q846 q848 q847 q849 q850 q105 q851) q853 ⟨by decide, by decide⟩ ⟨(by decide), (by decide)⟩ rfl (Nat.le_of_ble_eq_true rfl) dJ8_init_2_10 rfl (fun r9 Tz Iz Rz Lz hΦ => ?_) hok
  obtain ⟨r6, rfl, rfl, rfl, rfl, rfl, hw⟩ := hΦ
  show GX E X T I R L 0 0 13 [some (aR (some o)), some (aR (some b1)), some (aR x2), some (aR r4), none] [aI r6]
  intro hok
  refine g_ist4 hE1 dJ8_init_2_13 (by decide) rfl ?_
  refine g_aldn1 hE1 dJ8_init_2_15 ?_
  refine gx_callU hE hRm (na := 0) (As := []) ht3 (by decide) (by decide) rfl (owner := "java/lang/AbstractStringBuilder") (x := ⟨"java/lang/AbstractStringBuilder", "isLatin1", "()Z"⟩) (by decide +kernel) (tx_J6_isLatin1_J7 X hw) (lw_U q854 q755 q756 q754 q104 q757) rfl ⟨by decide, by decide⟩ ⟨(by decide), (by decide)⟩ rfl (Nat.le_of_ble_eq_true rfl) dJ8_init_2_16 rfl (fun r9 Tz Iz Rz Lz hΦ => ?_) hok
  obtain ⟨r8, rfl, rfl, rfl, rfl, rfl, hw⟩ := hΦ
  show GX E X T I R L 0 0 19 [some (aR (some o)), some (aR (some b1)), some (aR x2), some (aR r4), some (aI r6)] [aI r8]
  intro hok
  refine jn5_walk (fun (T_97 : xT) (I_97 : xI) (R_97 : xR) (k_97 : Nat) (n_97 : Nat) => tle T T_97 → k_97 ≤ 2 → n_97 ≤ 300 → GX E X T_97 I_97 R_97 L k_97 n_97 97 [some (aR (some o)), some (aR (some b1)), some (aR x2), some (aR r4), some (aI r6)] []) hw (fun T_97 I_97 R_97 k_97 n_97 hw => ?_) (fun J_97 hj_97 hw => ?_)
  · intro hl_97 hkc_97 hnc_97; intro hok
    exact gx_vret hE hR dJ8_init_2_97 (show k_97 ≤ 2 by omega) (show n_97 ≤ 300 by omega) ⟨rfl, rfl, hl_97, hw⟩ hok
  · skip
    obtain ⟨h34, h35, hT36, hN37⟩ := hw
    refine g_if_eq hE1 (tgt := 41) dJ8_init_2_19 (by decide) h34 (fun q => ?_) (fun q => ?_)
    · have hw := hT36 q
      refine gx_gets_i hE (List.mem_of_getElem? (i := 1) rfl : ("java/lang/String", "COMPACT_STRINGS", "Z", Sum.inl (1 : Int)) ∈ stL) q792 dJ8_init_2_41 ?_ hok
      intro hok
      refine jn0_walk (GX E X T I R L 0 0 79 [some (aR (some o)), some (aR (some b1)), some (aR x2), some (aR r4), some (aI r6)] []) hw (fun  hw => ?_) (fun J_79 hj_79 hw => ?_)
      · intro hok
        refine g_aldn0 hE1 dJ8_init_2_79 ?_
        refine g_iconst hE1 dJ8_init_2_80 ?_
        obtain ⟨ht10, hw⟩ := hw
        obtain ⟨h11, hw⟩ := hw
        refine gx_putiFS hE in_J8 (t := 25) rfl (by decide) 1 1 rfl (by decide) rfl rfl h11 (ty := tyJ8 1) tyJ8 tyJ8_ok nmJ8 rfl q878 (Or.inl rfl) rfl hI rfl (tyJ8_ok 1 (by decide)) (narrow_by (by decide)) (fits_by (by decide)) ht10 dJ8_init_2_81 ?_ hok
        intro hok
        have hw := hw _ rfl
        generalize uI I o 1 1 = I12 at hw hok ⊢
        refine g_aldn0 hE1 dJ8_init_2_84 ?_
        refine g_aldn3 hE1 dJ8_init_2_85 ?_
        refine g_iconst hE1 dJ8_init_2_86 ?_
        refine g_ild4 hE1 dJ8_init_2_87 ?_
        refine g_iconst hE1 dJ8_init_2_89 ?_
        refine g_ishl hE1 dJ8_init_2_90 ?_
        refine gx_callS hE hRm (As := [aR r4, aI 0, aI (bShl r6 1)]) hx_J11_copyOfRange (tx_J11_copyOfRange X hw) (lw_S q855 q856 q110 q857) ⟨by decide, by decide⟩ ⟨(by decide), (by decide)⟩ rfl (Nat.le_of_ble_eq_true rfl) dJ8_init_2_91 rfl (fun r9 T14 I15 Rz Lz hΦ => ?_) hok
        obtain ⟨r13, rfl, rfl, rfl, hl16, hw⟩ := hΦ
        have hw := hw hl16
        show GX E X T14 I15 R L 1 150 94 [some (aR (some o)), some (aR (some b1)), some (aR x2), some (aR r4), some (aI r6)] [aR r13, aR (some o)]
        intro hok
        have ht17 := hl16.tag ht10 (by decide)
        obtain ⟨h18, hw⟩ := hw
        refine gx_putrFS hE in_J8 (t := 25) rfl (by decide) 0 0 rfl (by decide) rfl rfl h18 (ty := tyJ8 0) tyJ8 tyJ8_ok nmJ8 rfl q877 (Or.inl rfl) rfl hI rfl (tyJ8_ok 0 (by decide)) nar_a fit_a ht17 dJ8_init_2_94 ?_ hok
        intro hok
        have hw := hw _ rfl
        generalize uR R o 0 r13 = R19 at hw hok ⊢
        exact hj_97 _ _ _ _ _ hw hl16 (by omega) (by omega) hok
      · skip
        refine g_if_eq hE1 (tgt := 79) dJ8_init_2_44 (by decide) (by decide) (fun q => absurd q (by decide)) (fun _ => ?_)
        refine g_aldn1 hE1 dJ8_init_2_47 ?_
        refine gx_geti hE in_J7 (t := 8) rfl (by decide) 2 2 rfl (by decide) rfl (by decide) rfl q341 (Or.inl rfl) ht3 dJ8_init_2_48 ?_ hok
        intro hok
        obtain ⟨h20, h21, hT22, hN23⟩ := hw
        refine g_if_eq hE1 (tgt := 79) dJ8_init_2_51 (by decide) h20 (fun q => ?_) (fun q => ?_)
        · have hw := hT22 q
          exact hj_79  hw hok
        · have hw := hN23 q
          refine g_aldn0 hE1 dJ8_init_2_54 ?_
          refine g_aldn3 hE1 dJ8_init_2_55 ?_
          refine g_iconst hE1 dJ8_init_2_56 ?_
          refine g_ild4 hE1 dJ8_init_2_57 ?_
          exact hw.elim
    · have hw := hN37 q
      refine g_aldn0 hE1 dJ8_init_2_22 ?_
      refine g_iconst hE1 dJ8_init_2_23 ?_
      obtain ⟨ht24, hw⟩ := hw
      obtain ⟨h25, hw⟩ := hw
      refine gx_putiFS hE in_J8 (t := 25) rfl (by decide) 1 1 rfl (by decide) rfl rfl h25 (ty := tyJ8 1) tyJ8 tyJ8_ok nmJ8 rfl q878 (Or.inl rfl) rfl hI rfl (tyJ8_ok 1 (by decide)) (narrow_by (by decide)) (fits_by (by decide)) ht24 dJ8_init_2_24 ?_ hok
      intro hok
      have hw := hw _ rfl
      generalize uI I o 1 0 = I26 at hw hok ⊢
      refine g_aldn0 hE1 dJ8_init_2_27 ?_
      refine g_aldn3 hE1 dJ8_init_2_28 ?_
      refine g_iconst hE1 dJ8_init_2_29 ?_
      refine g_ild4 hE1 dJ8_init_2_30 ?_
      refine gx_callS hE hRm (As := [aR r4, aI 0, aI r6]) hx_J11_copyOfRange (tx_J11_copyOfRange X hw) (lw_S q855 q856 q110 q857) ⟨by decide, by decide⟩ ⟨(by decide), (by decide)⟩ rfl (Nat.le_of_ble_eq_true rfl) dJ8_init_2_32 rfl (fun r9 T28 I29 Rz Lz hΦ => ?_) hok
      obtain ⟨r27, rfl, rfl, rfl, hl30, hw⟩ := hΦ
      have hw := hw hl30
      show GX E X T28 I29 R L 1 150 35 [some (aR (some o)), some (aR (some b1)), some (aR x2), some (aR r4), some (aI r6)] [aR r27, aR (some o)]
      intro hok
      have ht31 := hl30.tag ht24 (by decide)
      obtain ⟨h32, hw⟩ := hw
      refine gx_putrFS hE in_J8 (t := 25) rfl (by decide) 0 0 rfl (by decide) rfl rfl h32 (ty := tyJ8 0) tyJ8 tyJ8_ok nmJ8 rfl q877 (Or.inl rfl) rfl hI rfl (tyJ8_ok 0 (by decide)) nar_a fit_a ht31 dJ8_init_2_35 ?_ hok
      intro hok
      have hw := hw _ rfl
      generalize uR R o 0 r27 = R33 at hw hok ⊢
      refine g_goto hE1 (tgt := 97) dJ8_init_2_38 (by decide) ?_
      exact hj_97 _ _ _ _ _ hw hl30 (by omega) (by omega) hok

