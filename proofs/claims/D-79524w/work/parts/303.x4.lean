set_option maxRecDepth 100000
/-- WhalingLogs.isSpeed(I)Z -/
def wx_X0_isSpeed (X : XT) (x0 : Int) (T : xT) (I : xI) (R : xR) (L : xL) (Q : Int → Prop) : Prop :=
  wx_X0_isIn X x0 1 9 T I R L (fun (r1 : Int) => 
  bl r1 ∧ Q r1)
theorem hx_X0_isSpeed : yX0_isSpeed.cls ≠ "java/lang/invoke/MethodHandle" ∧ yX0_isSpeed.cls ≠ "java/lang/invoke/VarHandle" ∧ (parseMethodDescriptor yX0_isSpeed.desc).map (fun d => d.parameters.length) = some 1 := by decide +kernel
set_option maxHeartbeats 4000000 in
theorem tx_X0_isSpeed (X : XT) {x0 : Int} {T : xT} {I : xI} {R : xR} {L : xL} {Q : Int → Prop} (hw : wx_X0_isSpeed X x0 T I R L Q) : CtX X yX0_isSpeed cX0_isSpeed 1 (some .boolean) (rmX 1 0 0 22) [aI x0] T I R L (PXi T I R L Q) := by
  refine CtX.intro (by decide) (Nat.le_of_ble_eq_true rfl) (fun E hE hR hN => ?_)
  have hRm := hR.rm
  have hE : OkX E X RX0 cX0_isSpeed 1 (some .boolean) := hE
  have hE1 := hE.1
  show GX E X T I R L 0 0 0 [some (aI x0)] []
  unfold wx_X0_isSpeed at hw
  intro hok
  refine g_ildn0 hE1 dX0_isSpeed_0 ?_
  refine g_iconst hE1 dX0_isSpeed_1 ?_
  refine g_bipush hE1 dX0_isSpeed_2 (by decide) ?_
  refine gx_callS hE hRm (As := [aI x0, aI 1, aI 9]) hx_X0_isIn (tx_X0_isIn X hw) (lw_S q392 q393 q94 q394) ⟨by decide, by decide⟩ ⟨(by decide), (by decide)⟩ rfl (Nat.le_of_ble_eq_true rfl) dX0_isSpeed_4 rfl (fun r9 Tz Iz Rz Lz hΦ => ?_) hok
  obtain ⟨r1, rfl, rfl, rfl, rfl, rfl, hw⟩ := hΦ
  show GX E X T I R L 0 0 7 [some (aI x0)] [aI r1]
  intro hok
  obtain ⟨h3, hw⟩ := hw
  exact gx_iret hE hR dX0_isSpeed_7 (by decide) (by decide) (narrow_bl h3) ⟨_, rfl, rfl, rfl, rfl, rfl, hw⟩ hok

/-- WhalingLogs.set(II)I -/
def wx_X0_set (X : XT) (o : Nat) (x1 : Int) (x2 : Int) (T : xT) (I : xI) (R : xR) (L : xL) (Q : Int → xT → xI → xR → xL → Prop) : Prop :=
  wx_X0_isIn X x1 0 3 T I R L (fun (r1 : Int) => 
  jn0 (
      Q (-2) T I R L)
    (fun (J_33 : Prop) =>
    cEq r1 0
      (
      J_33)
      (
      jn0 (
          xtag T o = 1 ∧
          ∃ b4 : Nat, R o 0 = some b4 ∧ xtag T b4 = 2 ∧ wx_X1_copy X b4 T I R L (fun (r7 : Option Nat) (T8 : xT) (I9 : xI) (R10 : xR) (L11 : xL) => tle T T8 → 
          jn1 (fun (y0_69 : Int) => 
              jn1 (fun (I_98 : xI) => 
                  wx_X0_changed X o r7 y0_69 T8 I_98 R10 L11 (fun (r14 : Int) (I15 : xI) (R16 : xR) => 
                  Q r14 T8 I15 R16 L11))
                (fun (J_98 : xI → Prop) =>
                cEq x1 0
                  (
                  ∃ b19 : Nat, R10 o 0 = some b19 ∧ xtag T8 b19 = 2 ∧ ∀ I22 : xI, I22 = uI I9 b19 4 x2 →
                  J_98 I22)
                  (
                  ∃ b24 : Nat, R10 o 0 = some b24 ∧ xtag T8 b24 = 2 ∧
                  ∃ b27 : Nat, R10 b24 2 = some b27 ∧ xtag T8 b27 = 100 ∧ ib (x1 - 1) (xlen T8 b27) ∧ xlen T8 b27 < 2147483648 ∧ ∀ I32 : xI, I32 = uI I9 b27 (x1 - 1) x2 →
                  J_98 I32)))
            (fun (J_69 : Int → Prop) =>
            cEq x1 0
              (
              ∃ b38 : Nat, R10 o 0 = some b38 ∧ xtag T8 b38 = 2 ∧
              J_69 (I9 b38 4))
              (
              ∃ b42 : Nat, R10 o 0 = some b42 ∧ xtag T8 b42 = 2 ∧
              ∃ b45 : Nat, R10 b42 2 = some b45 ∧ xtag T8 b45 = 100 ∧ ib (x1 - 1) (xlen T8 b45) ∧ xlen T8 b45 < 2147483648 ∧
              J_69 (I9 b45 (x1 - 1))))))
        (fun (J_36 : Prop) =>
        cEq x1 0
          (
          wx_X0_isSpeed X x2 T I R L (fun (r54 : Int) => 
          cEq r54 0
            (
            J_33)
            (
            J_36)))
          (
          wx_X0_isIn X x2 0 99 T I R L (fun (r60 : Int) => 
          cEq r60 0
            (
            J_33)
            (
            J_36)))))))
theorem hx_X0_set : yX0_set.cls = RX0 ∧ yX0_set.cls ≠ "java/lang/invoke/MethodHandle" ∧ yX0_set.cls ≠ "java/lang/invoke/VarHandle" ∧ (parseMethodDescriptor yX0_set.desc).map (fun d => d.parameters.length) = some 2 := by decide +kernel
set_option maxHeartbeats 4000000 in
theorem tx_X0_set (X : XT) {o : Nat} {x1 : Int} {x2 : Int} {T : xT} {I : xI} {R : xR} {L : xL} {Q : Int → xT → xI → xR → xL → Prop} (hw : wx_X0_set X o x1 x2 T I R L Q) : CtX X yX0_set cX0_set 5 (some .int) (rmX 7 160 1400 147) [aR (some o), aI x1, aI x2] T I R L (PXiTIRL T I R L Q) := by
  refine CtX.intro (by decide) (Nat.le_of_ble_eq_true rfl) (fun E hE hR hN => ?_)
  have hRm := hR.rm
  have hE : OkX E X RX0 cX0_set 5 (some .int) := hE
  have hE1 := hE.1
  show GX E X T I R L 0 0 0 [some (aR (some o)), some (aI x1), some (aI x2), none, none] []
  unfold wx_X0_set at hw
  intro hok
  refine g_ildn1 hE1 dX0_set_0 ?_
  refine g_iconst hE1 dX0_set_1 ?_
  refine g_iconst hE1 dX0_set_2 ?_
  refine gx_callS hE hRm (As := [aI x1, aI 0, aI 3]) hx_X0_isIn (tx_X0_isIn X hw) (lw_S q392 q393 q94 q394) ⟨by decide, by decide⟩ ⟨(by decide), (by decide)⟩ rfl (Nat.le_of_ble_eq_true rfl) dX0_set_3 rfl (fun r9 Tz Iz Rz Lz hΦ => ?_) hok
  obtain ⟨r1, rfl, rfl, rfl, rfl, rfl, hw⟩ := hΦ
  show GX E X T I R L 0 0 6 [some (aR (some o)), some (aI x1), some (aI x2), none, none] [aI r1]
  intro hok
  refine jn0_walk (GX E X T I R L 0 0 33 [some (aR (some o)), some (aI x1), some (aI x2), none, none] []) hw (fun  hw => ?_) (fun J_33 hj_33 hw => ?_)
  · intro hok
    refine g_bipush hE1 dX0_set_33 (by decide) ?_
    exact gx_iret hE hR dX0_set_35 (by decide) (by decide) rfl ⟨_, rfl, tle.rf, hw⟩ hok
  · skip
    obtain ⟨h70, h71, hT72, hN73⟩ := hw
    refine g_if_eq hE1 (tgt := 33) dX0_set_6 (by decide) h70 (fun q => ?_) (fun q => ?_)
    · have hw := hT72 q
      exact hj_33  hw hok
    · have hw := hN73 q
      refine g_ildn1 hE1 dX0_set_9 ?_
      refine jn0_walk (GX E X T I R L 0 0 36 [some (aR (some o)), some (aI x1), some (aI x2), none, none] []) hw (fun  hw => ?_) (fun J_36 hj_36 hw => ?_)
      · intro hok
        refine g_aldn0 hE1 dX0_set_36 ?_
        obtain ⟨ht3, hw⟩ := hw
        refine gx_getr hE in_X0 (t := 1) rfl (by decide) 0 0 rfl (by decide) rfl (by decide) rfl q353 (Or.inl rfl) ht3 dX0_set_37 ?_ hok
        intro hok
        obtain ⟨b4, hb5, hw⟩ := hw
        rw [hb5]
        obtain ⟨ht6, hw⟩ := hw
        refine gx_callV hE hRm (As := []) ht6 (by decide) (by decide) rfl hx_X1_copy (tx_X1_copy X hw) (lw_V q395 q396 q397 q95 q398) ⟨by decide, by decide⟩ ⟨(by decide), (by decide)⟩ rfl (Nat.le_of_ble_eq_true rfl) dX0_set_40 rfl (fun r9 T8 I9 R10 L11 hΦ => ?_) hok
        obtain ⟨r7, rfl, hl12, hw⟩ := hΦ
        have hw := hw hl12
        show GX E X T8 I9 R10 L11 160 1400 43 [some (aR (some o)), some (aI x1), some (aI x2), none, none] [aR r7]
        intro hok
        refine g_astn3 hE1 dX0_set_43 (by decide) rfl ?_
        refine g_ildn1 hE1 dX0_set_44 ?_
        refine jn1_walk (fun (y0_69 : Int) => GX E X T8 I9 R10 L11 160 1400 69 [some (aR (some o)), some (aI x1), some (aI x2), some (aR r7), none] [aI y0_69]) hw (fun y0_69 hw => ?_) (fun J_69 hj_69 hw => ?_)
        · intro hok
          refine g_ist4 hE1 dX0_set_69 (by decide) rfl ?_
          refine g_ildn1 hE1 dX0_set_71 ?_
          refine jn1_walk (fun (I_98 : xI) => GX E X T8 I_98 R10 L11 160 1400 98 [some (aR (some o)), some (aI x1), some (aI x2), some (aR r7), some (aI y0_69)] []) hw (fun I_98 hw => ?_) (fun J_98 hj_98 hw => ?_)
          · intro hok
            refine g_aldn0 hE1 dX0_set_98 ?_
            refine g_aldn3 hE1 dX0_set_99 ?_
            refine g_ild4 hE1 dX0_set_100 ?_
            have ht13 := hl12.tag ht3 (by decide)
            refine gx_callV hE hRm (As := [aR r7, aI y0_69]) ht13 (by decide) (by decide) rfl hx_X0_changed (tx_X0_changed X hw) (lw_V q1163 q1165 qs16 q94 q1166) ⟨by decide, by decide⟩ ⟨(by decide), (by decide)⟩ rfl (Nat.le_of_ble_eq_true rfl) dX0_set_102 rfl (fun r9 Tz I15 R16 Lz hΦ => ?_) hok
            obtain ⟨r14, rfl, rfl, rfl, hw⟩ := hΦ
            show GX E X T8 I15 R16 L11 160 1400 105 [some (aR (some o)), some (aI x1), some (aI x2), some (aR r7), some (aI y0_69)] [aI r14]
            intro hok
            exact gx_iret hE hR dX0_set_105 (by decide) (by decide) rfl ⟨_, rfl, hl12, hw⟩ hok
          · skip
            obtain ⟨h33, h34, hT35, hN36⟩ := hw
            refine g_if_ne hE1 (tgt := 86) dX0_set_72 (by decide) h33 (fun q => ?_) (fun q => ?_)
            · have hw := hT35 q
              refine g_aldn0 hE1 dX0_set_75 ?_
              have ht18 := hl12.tag ht3 (by decide)
              refine gx_getr hE in_X0 (t := 1) rfl (by decide) 0 0 rfl (by decide) rfl (by decide) rfl q353 (Or.inl rfl) ht18 dX0_set_76 ?_ hok
              intro hok
              refine g_ildn2 hE1 dX0_set_79 ?_
              obtain ⟨b19, hb20, hw⟩ := hw
              rw [hb20]
              obtain ⟨ht21, hw⟩ := hw
              refine gx_putiN hE in_X1 (t := 2) rfl (by decide) 4 4 rfl (by decide) rfl (by decide) (ty := tyX1 4) tyX1 tyX1_ok nmX1 rfl q233 (Or.inl rfl) rfl (tyX1_ok 4 (by decide)) rfl rfl ht21 dX0_set_80 ?_ hok
              intro hok
              have hw := hw _ rfl
              generalize uI I9 b19 4 x2 = I22 at hw hok ⊢
              refine g_goto hE1 (tgt := 98) dX0_set_83 (by decide) ?_
              exact hj_98 _ hw hok
            · have hw := hN36 q
              refine g_aldn0 hE1 dX0_set_86 ?_
              have ht23 := hl12.tag ht3 (by decide)
              refine gx_getr hE in_X0 (t := 1) rfl (by decide) 0 0 rfl (by decide) rfl (by decide) rfl q353 (Or.inl rfl) ht23 dX0_set_87 ?_ hok
              intro hok
              obtain ⟨b24, hb25, hw⟩ := hw
              rw [hb25]
              obtain ⟨ht26, hw⟩ := hw
              refine gx_getrN hE in_X1 (t := 2) rfl (by decide) 2 2 rfl (by decide) rfl (by decide) rfl q227 (Or.inl rfl) ht26 dX0_set_90 ?_ hok
              intro hok
              refine g_ildn1 hE1 dX0_set_93 ?_
              refine g_iconst hE1 dX0_set_94 ?_
              refine g_isub hE1 dX0_set_95 ?_
              refine g_ildn2 hE1 dX0_set_96 ?_
              obtain ⟨b27, hb28, hw⟩ := hw
              rw [hb28]
              obtain ⟨ht29, hw⟩ := hw
              obtain ⟨h30, h31, hw⟩ := hw
              refine gx_iast hE ht29 h30 h31 dX0_set_97 ?_ hok
              intro hok
              have hw := hw _ rfl
              generalize uI I9 b27 (x1 - 1) x2 = I32 at hw hok ⊢
              exact hj_98 _ hw hok
        · skip
          obtain ⟨h50, h51, hT52, hN53⟩ := hw
          refine g_if_ne hE1 (tgt := 58) dX0_set_45 (by decide) h50 (fun q => ?_) (fun q => ?_)
          · have hw := hT52 q
            refine g_aldn0 hE1 dX0_set_48 ?_
            have ht37 := hl12.tag ht3 (by decide)
            refine gx_getr hE in_X0 (t := 1) rfl (by decide) 0 0 rfl (by decide) rfl (by decide) rfl q353 (Or.inl rfl) ht37 dX0_set_49 ?_ hok
            intro hok
            obtain ⟨b38, hb39, hw⟩ := hw
            rw [hb39]
            obtain ⟨ht40, hw⟩ := hw
            refine gx_getiN hE in_X1 (t := 2) rfl (by decide) 4 4 rfl (by decide) rfl (by decide) rfl q233 (Or.inl rfl) ht40 dX0_set_52 ?_ hok
            intro hok
            refine g_goto hE1 (tgt := 69) dX0_set_55 (by decide) ?_
            exact hj_69 _ hw hok
          · have hw := hN53 q
            refine g_aldn0 hE1 dX0_set_58 ?_
            have ht41 := hl12.tag ht3 (by decide)
            refine gx_getr hE in_X0 (t := 1) rfl (by decide) 0 0 rfl (by decide) rfl (by decide) rfl q353 (Or.inl rfl) ht41 dX0_set_59 ?_ hok
            intro hok
            obtain ⟨b42, hb43, hw⟩ := hw
            rw [hb43]
            obtain ⟨ht44, hw⟩ := hw
            refine gx_getrN hE in_X1 (t := 2) rfl (by decide) 2 2 rfl (by decide) rfl (by decide) rfl q227 (Or.inl rfl) ht44 dX0_set_62 ?_ hok
            intro hok
            refine g_ildn1 hE1 dX0_set_65 ?_
            refine g_iconst hE1 dX0_set_66 ?_
            refine g_isub hE1 dX0_set_67 ?_
            obtain ⟨b45, hb46, hw⟩ := hw
            rw [hb46]
            obtain ⟨ht47, hw⟩ := hw
            obtain ⟨h48, h49, hw⟩ := hw
            refine gx_iald hE ht47 h48 h49 dX0_set_68 ?_ hok
            intro hok
            exact hj_69 _ hw hok
      · skip
        obtain ⟨h66, h67, hT68, hN69⟩ := hw
        refine g_if_ne hE1 (tgt := 23) dX0_set_10 (by decide) h66 (fun q => ?_) (fun q => ?_)
        · have hw := hT68 q
          refine g_ildn2 hE1 dX0_set_13 ?_
          refine gx_callS hE hRm (As := [aI x2]) hx_X0_isSpeed (tx_X0_isSpeed X hw) (lw_S q1212 q1213 q94 q1214) ⟨by decide, by decide⟩ ⟨(by decide), (by decide)⟩ rfl (Nat.le_of_ble_eq_true rfl) dX0_set_14 rfl (fun r9 Tz Iz Rz Lz hΦ => ?_) hok
          obtain ⟨r54, rfl, rfl, rfl, rfl, rfl, hw⟩ := hΦ
          show GX E X T I R L 0 0 17 [some (aR (some o)), some (aI x1), some (aI x2), none, none] [aI r54]
          intro hok
          obtain ⟨h56, h57, hT58, hN59⟩ := hw
          refine g_if_ne hE1 (tgt := 36) dX0_set_17 (by decide) h56 (fun q => ?_) (fun q => ?_)
          · have hw := hT58 q
            refine g_goto hE1 (tgt := 33) dX0_set_20 (by decide) ?_
            exact hj_33  hw hok
          · have hw := hN59 q
            exact hj_36  hw hok
        · have hw := hN69 q
          refine g_ildn2 hE1 dX0_set_23 ?_
          refine g_iconst hE1 dX0_set_24 ?_
          refine g_bipush hE1 dX0_set_25 (by decide) ?_
          refine gx_callS hE hRm (As := [aI x2, aI 0, aI 99]) hx_X0_isIn (tx_X0_isIn X hw) (lw_S q392 q393 q94 q394) ⟨by decide, by decide⟩ ⟨(by decide), (by decide)⟩ rfl (Nat.le_of_ble_eq_true rfl) dX0_set_27 rfl (fun r9 Tz Iz Rz Lz hΦ => ?_) hok
          obtain ⟨r60, rfl, rfl, rfl, rfl, rfl, hw⟩ := hΦ
          show GX E X T I R L 0 0 30 [some (aR (some o)), some (aI x1), some (aI x2), none, none] [aI r60]
          intro hok
          obtain ⟨h62, h63, hT64, hN65⟩ := hw
          refine g_if_ne hE1 (tgt := 36) dX0_set_30 (by decide) h62 (fun q => ?_) (fun q => ?_)
          · have hw := hT64 q
            exact hj_33  hw hok
          · have hw := hN65 q
            exact hj_36  hw hok

/-- java/util/BitSet.get(I)Z -/
def wx_J0_get (X : XT) (o : Nat) (x1 : Int) (T : xT) (I : xI) (R : xR) (L : xL) (Q : Int → Prop) : Prop :=
  cLt x1 0
    (
    False)
    (
    xtag T o = 3 ∧ wx_J0_checkInvariants X o T I R L (
    wx_J0_wordIndex X x1 T I R L (fun (r3 : Int) => 
    jn1 (fun (y0_68 : Int) => 
        bl y0_68 ∧ Q y0_68)
      (fun (J_68 : Int → Prop) =>
      jn0 (
          J_68 0)
        (fun (J_67 : Prop) =>
        cLt r3 (I o 1)
          (
          ∃ b6 : Nat, R o 0 = some b6 ∧ xtag T b6 = 102 ∧ ib r3 (xlen T b6) ∧ xlen T b6 < 2147483648 ∧
          cEq (lcI ((L b6 r3) &&& (1 <<< ((iI x1).toInt64 &&& 63))) 0) 0
            (
            J_67)
            (
            J_68 1))
          (
          J_67))))))
theorem hx_J0_get : yJ0_get.cls = RJ0 ∧ yJ0_get.cls ≠ "java/lang/invoke/MethodHandle" ∧ yJ0_get.cls ≠ "java/lang/invoke/VarHandle" ∧ (parseMethodDescriptor yJ0_get.desc).map (fun d => d.parameters.length) = some 1 := by decide +kernel
set_option maxHeartbeats 4000000 in
theorem tx_J0_get (X : XT) {o : Nat} {x1 : Int} {T : xT} {I : xI} {R : xR} {L : xL} {Q : Int → Prop} (hw : wx_J0_get X o x1 T I R L Q) : CtX X yJ0_get cJ0_get 3 (some .boolean) (rmX 1 0 0 20) [aR (some o), aI x1] T I R L (PXi T I R L Q) := by
  refine CtX.intro (by decide) (Nat.le_of_ble_eq_true rfl) (fun E hE hR hN => ?_)
  have hRm := hR.rm
  have hE : OkX E X RJ0 cJ0_get 3 (some .boolean) := hE
  have hE1 := hE.1
  show GX E X T I R L 0 0 0 [some (aR (some o)), some (aI x1), none] []
  unfold wx_J0_get at hw
  intro hok
  refine g_ildn1 hE1 dJ0_get_0 ?_
  obtain ⟨h19, h20, hT21, hN22⟩ := hw
  refine g_if_ge hE1 (tgt := 31) dJ0_get_1 (by decide) h19 (fun q => ?_) (fun q => ?_)
  · have hw := hT21 q
    exact hw.elim
  · have hw := hN22 q
    refine g_aldn0 hE1 dJ0_get_31 ?_
    obtain ⟨ht1, hw⟩ := hw
    refine gx_callV hE hRm (As := []) ht1 (by decide) (by decide) rfl hx_J0_checkInvariants (tx_J0_checkInvariants X hw) (lw_V q430 q432 qs2 q96 q433) ⟨by decide, by decide⟩ ⟨(by decide), (by decide)⟩ rfl (Nat.le_of_ble_eq_true rfl) dJ0_get_32 rfl (fun r9 Tz Iz Rz Lz hΦ => ?_) hok
    obtain ⟨rfl, rfl, rfl, rfl, rfl, hw⟩ := hΦ
    show GX E X T I R L 0 0 35 [some (aR (some o)), some (aI x1), none] []
    intro hok
    refine g_ildn1 hE1 dJ0_get_35 ?_
    refine gx_callS hE hRm (As := [aI x1]) hx_J0_wordIndex (tx_J0_wordIndex X hw) (lw_S q169 q170 q96 q171) ⟨by decide, by decide⟩ ⟨(by decide), (by decide)⟩ rfl (Nat.le_of_ble_eq_true rfl) dJ0_get_36 rfl (fun r9 Tz Iz Rz Lz hΦ => ?_) hok
    obtain ⟨r3, rfl, rfl, rfl, rfl, rfl, hw⟩ := hΦ
    show GX E X T I R L 0 0 39 [some (aR (some o)), some (aI x1), none] [aI r3]
    intro hok
    refine g_istn2 hE1 dJ0_get_39 (by decide) rfl ?_
    refine g_ildn2 hE1 dJ0_get_40 ?_
    refine g_aldn0 hE1 dJ0_get_41 ?_
    refine gx_geti hE in_J0 (t := 3) rfl (by decide) 1 1 rfl (by decide) rfl (by decide) rfl q173 (Or.inl rfl) ht1 dJ0_get_42 ?_ hok
    intro hok
    refine jn1_walk (fun (y0_68 : Int) => GX E X T I R L 0 0 68 [some (aR (some o)), some (aI x1), some (aI r3)] [aI y0_68]) hw (fun y0_68 hw => ?_) (fun J_68 hj_68 hw => ?_)
    · intro hok
      obtain ⟨h5, hw⟩ := hw
      exact gx_iret hE hR dJ0_get_68 (by decide) (by decide) (narrow_bl h5) ⟨_, rfl, rfl, rfl, rfl, rfl, hw⟩ hok
    · skip
      refine jn0_walk (GX E X T I R L 0 0 67 [some (aR (some o)), some (aI x1), some (aI r3)] []) hw (fun  hw => ?_) (fun J_67 hj_67 hw => ?_)
      · intro hok
        refine g_iconst hE1 dJ0_get_67 ?_
        exact hj_68 _ hw hok
      · skip
        obtain ⟨h15, h16, hT17, hN18⟩ := hw
        refine g_icmp_ge hE1 (tgt := 67) dJ0_get_45 (by decide) h15 h16 (fun q => ?_) (fun q => ?_)
        · have hw := hT17 q
          refine g_aldn0 hE1 dJ0_get_48 ?_
          refine gx_getr hE in_J0 (t := 3) rfl (by decide) 0 0 rfl (by decide) rfl (by decide) rfl q172 (Or.inl rfl) ht1 dJ0_get_49 ?_ hok
          intro hok
          refine g_ildn2 hE1 dJ0_get_52 ?_
          obtain ⟨b6, hb7, hw⟩ := hw
          rw [hb7]
          obtain ⟨ht8, hw⟩ := hw
          obtain ⟨h9, h10, hw⟩ := hw
          refine gx_lald hE ht8 h9 h10 dJ0_get_53 ?_ hok
          intro hok
          refine g_lconst hE1 (v := 1) dJ0_get_54 rfl ?_
          refine g_ildn1 hE1 dJ0_get_55 ?_
          refine g_lshl hE1 dJ0_get_56 ?_
          refine g_land hE1 dJ0_get_57 ?_
          refine g_lconst hE1 (v := 0) dJ0_get_58 rfl ?_
          refine gx_lcmp hE dJ0_get_59 ?_ hok
          intro hok
          obtain ⟨h11, h12, hT13, hN14⟩ := hw
          refine g_if_eq hE1 (tgt := 67) dJ0_get_60 (by decide) h11 (fun q => ?_) (fun q => ?_)
          · have hw := hT13 q
            exact hj_67  hw hok
          · have hw := hN14 q
            refine g_iconst hE1 dJ0_get_63 ?_
            refine g_goto hE1 (tgt := 68) dJ0_get_64 (by decide) ?_
            exact hj_68 _ hw hok
        · have hw := hN18 q
          exact hj_67  hw hok

/-- WhalingLogs$Waters.toward(II)I -/
def wx_X2_toward (X : XT) (x0 : Int) (x1 : Int) (T : xT) (I : xI) (R : xR) (L : xL) (Q : Int → Prop) : Prop :=
  ((0 : Int) ≤ x0 ∧ (x0 : Int) < 2147483648) ∧
  inR x1 ∧ ((x1 < 0 ∨ 2 < x1) →
    jn1 (fun (y0_67 : Int) => 
        Q y0_67)
      (fun (J_67 : Int → Prop) =>
      cEq (x0 % 16) 0
        (
        J_67 (-1))
        (
        J_67 (x0 - 1)))) ∧
  (x1 = 0 →
    Q (x0 - 16)) ∧
  (x1 = 1 →
    jn1 (fun (y0_50 : Int) => 
        Q y0_50)
      (fun (J_50 : Int → Prop) =>
      cEq (x0 % 16) 15
        (
        J_50 (-1))
        (
        J_50 (x0 + 1)))) ∧
  (x1 = 2 →
    Q (x0 + 16))
theorem hx_X2_toward : yX2_toward.cls ≠ "java/lang/invoke/MethodHandle" ∧ yX2_toward.cls ≠ "java/lang/invoke/VarHandle" ∧ (parseMethodDescriptor yX2_toward.desc).map (fun d => d.parameters.length) = some 2 := by decide +kernel
set_option maxHeartbeats 4000000 in
theorem tx_X2_toward (X : XT) {x0 : Int} {x1 : Int} {T : xT} {I : xI} {R : xR} {L : xL} {Q : Int → Prop} (hw : wx_X2_toward X x0 x1 T I R L Q) : CtX X yX2_toward cX2_toward 3 (some .int) (rmX 0 0 0 0) [aI x0, aI x1] T I R L (PXi T I R L Q) := by
  refine CtX.intro (by decide) (Nat.le_of_ble_eq_true rfl) (fun E hE hR hN => ?_)
  have hRm := hR.rm
  have hE : OkX E X RX2 cX2_toward 3 (some .int) := hE
  have hE1 := hE.1
  show GX E X T I R L 0 0 0 [some (aI x0), some (aI x1), none] []
  unfold wx_X2_toward at hw
  intro hok
  refine g_ildn0 hE1 dX2_toward_0 ?_
  refine g_bipush hE1 dX2_toward_1 (by decide) ?_
  obtain ⟨h1, hw⟩ := hw
  refine g_irem hE1 dX2_toward_3 h1 (by decide) ?_
  refine g_istn2 hE1 dX2_toward_4 (by decide) rfl ?_
  refine g_ildn1 hE1 dX2_toward_5 ?_
  obtain ⟨h6, h7, h8, h13, h14⟩ := hw
  refine g_table hE1 dX2_toward_6 h6 56 (by decide) [32, 37, 51] (by decide) (by decide) (fun q => ?_) (fun i t hi he => ?_)
  · have hw := h7 q
    refine g_ildn2 hE1 dX2_toward_56 ?_
    refine jn1_walk (fun (y0_67 : Int) => GX E X T I R L 0 0 67 [some (aI x0), some (aI x1), some (aI (x0 % 16))] [aI y0_67]) hw (fun y0_67 hw => ?_) (fun J_67 hj_67 hw => ?_)
    · intro hok
      exact gx_iret hE hR dX2_toward_67 (by decide) (by decide) rfl ⟨_, rfl, rfl, rfl, rfl, rfl, hw⟩ hok
    · skip
      obtain ⟨h2, h3, hT4, hN5⟩ := hw
      refine g_if_ne hE1 (tgt := 64) dX2_toward_57 (by decide) h2 (fun q => ?_) (fun q => ?_)
      · have hw := hT4 q
        refine g_iconst hE1 dX2_toward_60 ?_
        refine g_goto hE1 (tgt := 67) dX2_toward_61 (by decide) ?_
        exact hj_67 _ hw hok
      · have hw := hN5 q
        refine g_ildn0 hE1 dX2_toward_64 ?_
        refine g_iconst hE1 dX2_toward_65 ?_
        refine g_isub hE1 dX2_toward_66 ?_
        exact hj_67 _ hw hok
  rcases i with _ | i
  · obtain rfl : 32 = t := Option.some.inj hi
    have hw := h8 (by omega)
    refine g_ildn0 hE1 dX2_toward_32 ?_
    refine g_bipush hE1 dX2_toward_33 (by decide) ?_
    refine g_isub hE1 dX2_toward_35 ?_
    exact gx_iret hE hR dX2_toward_36 (by decide) (by decide) rfl ⟨_, rfl, rfl, rfl, rfl, rfl, hw⟩ hok
  rcases i with _ | i
  · obtain rfl : 37 = t := Option.some.inj hi
    have hw := h13 (by omega)
    refine g_ildn2 hE1 dX2_toward_37 ?_
    refine g_bipush hE1 dX2_toward_38 (by decide) ?_
    refine jn1_walk (fun (y0_50 : Int) => GX E X T I R L 0 0 50 [some (aI x0), some (aI x1), some (aI (x0 % 16))] [aI y0_50]) hw (fun y0_50 hw => ?_) (fun J_50 hj_50 hw => ?_)
    · intro hok
      exact gx_iret hE hR dX2_toward_50 (by decide) (by decide) rfl ⟨_, rfl, rfl, rfl, rfl, rfl, hw⟩ hok
    · skip
      obtain ⟨h9, h10, hT11, hN12⟩ := hw
      refine g_icmp_ne hE1 (tgt := 47) dX2_toward_40 (by decide) h9 h10 (fun q => ?_) (fun q => ?_)
      · have hw := hT11 q
        refine g_iconst hE1 dX2_toward_43 ?_
        refine g_goto hE1 (tgt := 50) dX2_toward_44 (by decide) ?_
        exact hj_50 _ hw hok
      · have hw := hN12 q
        refine g_ildn0 hE1 dX2_toward_47 ?_
        refine g_iconst hE1 dX2_toward_48 ?_
        refine g_iadd hE1 dX2_toward_49 ?_
        exact hj_50 _ hw hok
  rcases i with _ | i
  · obtain rfl : 51 = t := Option.some.inj hi
    have hw := h14 (by omega)
    refine g_ildn0 hE1 dX2_toward_51 ?_
    refine g_bipush hE1 dX2_toward_52 (by decide) ?_
    refine g_iadd hE1 dX2_toward_54 ?_
    exact gx_iret hE hR dX2_toward_55 (by decide) (by decide) rfl ⟨_, rfl, rfl, rfl, rfl, rfl, hw⟩ hok
  exact absurd hi (by simp)

/-- WhalingLogs$Waters.spreads(Ljava/util/BitSet;I[II)V -/
def wx_X2_spreads (X : XT) (o : Nat) (x1 : Option Nat) (x2 : Int) (x3 : Option Nat) (x4 : Int) (T : xT) (I : xI) (R : xR) (L : xL) (Q : xI → Prop) : Prop :=
  lq2 (fun (x5_3 : Int) (I_3 : xI) (K_3 : Int → xI → Prop) =>
    cLt x5_3 192
      (
      ∃ b1 : Nat, x3 = some b1 ∧ xtag T b1 = 100 ∧ ib (x4 + x5_3) (xlen T b1) ∧ xlen T b1 < 2147483648 ∧ ∀ I6 : xI, I6 = uI I_3 b1 (x4 + x5_3) 1048576 →
      K_3 (x5_3 + 1) I6)
      (
      ∃ b7 : Nat, x1 = some b7 ∧ xtag T b7 = 3 ∧ wx_J0_get X b7 x2 T I_3 R L (fun (r10 : Int) => 
      cEq r10 0
        (
        ∃ b12 : Nat, x3 = some b12 ∧ xtag T b12 = 100 ∧ ib (x4 + x2) (xlen T b12) ∧ xlen T b12 < 2147483648 ∧ ∀ I17 : xI, I17 = uI I_3 b12 (x4 + x2) 0 →
        xtag T o = 6 ∧
        ∃ b19 : Nat, R o 0 = some b19 ∧ xtag T b19 = 100 ∧ ib 0 (xlen T b19) ∧ xlen T b19 < 2147483648 ∧ ∀ I24 : xI, I24 = uI I17 b19 0 x2 →
        lq3 (fun (x5_55 : Int) (x6_55 : Int) (I_55 : xI) (K_55 : Int → Int → xI → Prop) =>
          cLt x6_55 x5_55
            (
            lq3 (fun (x5_65 : Int) (x7_65 : Int) (I_65 : xI) (K_65 : Int → Int → xI → Prop) =>
              cLt x7_65 4
                (
                ∃ b25 : Nat, R o 0 = some b25 ∧ xtag T b25 = 100 ∧ ib x6_55 (xlen T b25) ∧ xlen T b25 < 2147483648 ∧
                wx_X2_toward X (I_65 b25 x6_55) x7_65 T I_65 R L (fun (r30 : Int) => 
                wx_X0_isCell X r30 T I_65 R L (fun (r32 : Int) => 
                jn2 (fun (x5_147 : Int) (I_147 : xI) => 
                    K_65 x5_147 (x7_65 + 1) I_147)
                  (fun (J_147 : Int → xI → Prop) =>
                  cEq r32 0
                    (
                    J_147 x5_65 I_65)
                    (
                    wx_J0_get X b7 r30 T I_65 R L (fun (r34 : Int) => 
                    cEq r34 0
                      (
                      ib (x4 + r30) (xlen T b12) ∧ xlen T b12 < 2147483648 ∧
                      cEq (I_65 b12 (x4 + r30)) 1048576
                        (
                        ∃ b38 : Nat, R o 0 = some b38 ∧ xtag T b38 = 100 ∧ ib x6_55 (xlen T b38) ∧ xlen T b38 < 2147483648 ∧
                        ib (x4 + (I_65 b38 x6_55)) (xlen T b12) ∧ xlen T b12 < 2147483648 ∧
                        ib (x4 + r30) (xlen T b12) ∧ xlen T b12 < 2147483648 ∧ ∀ I47 : xI, I47 = uI I_65 b12 (x4 + r30) ((I_65 b12 (x4 + (I_65 b38 x6_55))) + 1) →
                        ∃ b48 : Nat, R o 0 = some b48 ∧ xtag T b48 = 100 ∧ ib x5_65 (xlen T b48) ∧ xlen T b48 < 2147483648 ∧ ∀ I53 : xI, I53 = uI I47 b48 x5_65 r30 →
                        J_147 (x5_65 + 1) I53)
                        (
                        J_147 x5_65 I_65))
                      (
                      J_147 x5_65 I_65)))))))
                (
                K_55 x5_65 (x6_55 + 1) I_65)) x5_55 0 I_55)
            (
            Q I_55)) 1 0 I24)
        (
        Q I_3)))) 0 I
theorem hx_X2_spreads : yX2_spreads.cls = RX2 ∧ yX2_spreads.cls ≠ "java/lang/invoke/MethodHandle" ∧ yX2_spreads.cls ≠ "java/lang/invoke/VarHandle" ∧ (parseMethodDescriptor yX2_spreads.desc).map (fun d => d.parameters.length) = some 4 := by decide +kernel
set_option maxHeartbeats 4000000 in
theorem tx_X2_spreads (X : XT) {o : Nat} {x1 : Option Nat} {x2 : Int} {x3 : Option Nat} {x4 : Int} {T : xT} {I : xI} {R : xR} {L : xL} {Q : xI → Prop} (hw : wx_X2_spreads X o x1 x2 x3 x4 T I R L Q) : CtX X yX2_spreads cX2_spreads 9 none (rmX 2 0 0 42) [aR (some o), aR x1, aI x2, aR x3, aI x4] T I R L (PXvI T I R L Q) := by
  refine CtX.intro (by decide) (Nat.le_of_ble_eq_true rfl) (fun E hE hR hN => ?_)
  have hRm := hR.rm
  have hE : OkX E X RX2 cX2_spreads 9 none := hE
  have hE1 := hE.1
  show GX E X T I R L 0 0 0 [some (aR (some o)), some (aR x1), some (aI x2), some (aR x3), some (aI x4), none, none, none, none] []
  unfold wx_X2_spreads at hw
  intro hok
  refine g_iconst hE1 dX2_spreads_0 ?_
  refine g_ist5 hE1 dX2_spreads_1 (by decide) rfl ?_
  refine lq2_walk (fun (x5_3 : Int) (I_3 : xI) => GX E X T I_3 R L 0 0 3 [some (aR (some o)), some (aR x1), some (aI x2), some (aR x3), some (aI x4), some (aI x5_3), none, none, none] []) (fun K_3 hk_3 x5_3 I_3 hw => ?_) _ _ hw hok
  intro hok
  refine g_ild5 hE1 dX2_spreads_3 ?_
  refine g_sipush hE1 dX2_spreads_5 (by decide) ?_
  obtain ⟨h78, h79, hT80, hN81⟩ := hw
  refine g_icmp_ge hE1 (tgt := 26) dX2_spreads_8 (by decide) h78 h79 (fun q => ?_) (fun q => ?_)
  · have hw := hT80 q
    refine g_aldn3 hE1 dX2_spreads_11 ?_
    refine g_ild4 hE1 dX2_spreads_12 ?_
    refine g_ild5 hE1 dX2_spreads_14 ?_
    refine g_iadd hE1 dX2_spreads_16 ?_
    refine g_ldc hE1 (v := 1048576) dX2_spreads_17 q1227 (by decide) ?_
    obtain ⟨b1, hb2, hw⟩ := hw
    rw [hb2]
    obtain ⟨ht3, hw⟩ := hw
    obtain ⟨h4, h5, hw⟩ := hw
    refine gx_iast hE ht3 h4 h5 dX2_spreads_19 ?_ hok
    intro hok
    have hw := hw _ rfl
    generalize uI I_3 b1 (x4 + x5_3) 1048576 = I6 at hw hok ⊢
    refine g_iinc5 hE1 dX2_spreads_20 (by decide) rfl ?_
    refine g_goto hE1 (tgt := 3) dX2_spreads_23 (by decide) ?_
    simpa only [hb2] using hk_3 _ _ hw hok
  · have hw := hN81 q
    refine g_aldn1 hE1 dX2_spreads_26 ?_
    refine g_ildn2 hE1 dX2_spreads_27 ?_
    obtain ⟨b7, hb8, hw⟩ := hw
    rw [hb8]
    obtain ⟨ht9, hw⟩ := hw
    refine gx_callV hE hRm (As := [aI x2]) ht9 (by decide) (by decide) rfl hx_J0_get (tx_J0_get X hw) (lw_V q1228 q1229 q1230 q96 q1231) ⟨by decide, by decide⟩ ⟨(by decide), (by decide)⟩ rfl (Nat.le_of_ble_eq_true rfl) dX2_spreads_28 rfl (fun r9 Tz Iz Rz Lz hΦ => ?_) hok
    obtain ⟨r10, rfl, rfl, rfl, rfl, rfl, hw⟩ := hΦ
    show GX E X T I_3 R L 0 0 31 [some (aR (some o)), some (aR (some b7)), some (aI x2), some (aR x3), some (aI x4), some (aI x5_3), none, none, none] [aI r10]
    intro hok
    obtain ⟨h74, h75, hT76, hN77⟩ := hw
    refine g_if_eq hE1 (tgt := 35) dX2_spreads_31 (by decide) h74 (fun q => ?_) (fun q => ?_)
    · have hw := hT76 q
      refine g_aldn3 hE1 dX2_spreads_35 ?_
      refine g_ild4 hE1 dX2_spreads_36 ?_
      refine g_ildn2 hE1 dX2_spreads_38 ?_
      refine g_iadd hE1 dX2_spreads_39 ?_
      refine g_iconst hE1 dX2_spreads_40 ?_
      obtain ⟨b12, hb13, hw⟩ := hw
      rw [hb13]
      obtain ⟨ht14, hw⟩ := hw
      obtain ⟨h15, h16, hw⟩ := hw
      refine gx_iast hE ht14 h15 h16 dX2_spreads_41 ?_ hok
      intro hok
      have hw := hw _ rfl
      generalize uI I_3 b12 (x4 + x2) 0 = I17 at hw hok ⊢
      refine g_aldn0 hE1 dX2_spreads_42 ?_
      obtain ⟨ht18, hw⟩ := hw
      refine gx_getr hE in_X2 (t := 6) rfl (by decide) 0 0 rfl (by decide) rfl (by decide) rfl q274 (Or.inl rfl) ht18 dX2_spreads_43 ?_ hok
      intro hok
      refine g_iconst hE1 dX2_spreads_46 ?_
      refine g_ildn2 hE1 dX2_spreads_47 ?_
      obtain ⟨b19, hb20, hw⟩ := hw
      rw [hb20]
      obtain ⟨ht21, hw⟩ := hw
      obtain ⟨h22, h23, hw⟩ := hw
      refine gx_iast hE ht21 h22 h23 dX2_spreads_48 ?_ hok
      intro hok
      have hw := hw _ rfl
      generalize uI I17 b19 0 x2 = I24 at hw hok ⊢
      refine g_iconst hE1 dX2_spreads_49 ?_
      refine g_ist5 hE1 dX2_spreads_50 (by decide) rfl ?_
      refine g_iconst hE1 dX2_spreads_52 ?_
      refine g_ist6 hE1 dX2_spreads_53 (by decide) rfl ?_
      refine lq3_walk (fun (x5_55 : Int) (x6_55 : Int) (I_55 : xI) => GX E X T I_55 R L 0 0 55 [some (aR (some o)), some (aR (some b7)), some (aI x2), some (aR (some b12)), some (aI x4), some (aI x5_55), some (aI x6_55), none, none] []) (fun K_55 hk_55 x5_55 x6_55 I_55 hw => ?_) _ _ _ hw hok
      intro hok
      refine g_ild6 hE1 dX2_spreads_55 ?_
      refine g_ild5 hE1 dX2_spreads_57 ?_
      obtain ⟨h70, h71, hT72, hN73⟩ := hw
      refine g_icmp_ge hE1 (tgt := 159) dX2_spreads_59 (by decide) h70 h71 (fun q => ?_) (fun q => ?_)
      · have hw := hT72 q
        refine g_iconst hE1 dX2_spreads_62 ?_
        refine g_ist7 hE1 dX2_spreads_63 (by decide) rfl ?_
        refine lq3_walk (fun (x5_65 : Int) (x7_65 : Int) (I_65 : xI) => GX E X T I_65 R L 0 0 65 [some (aR (some o)), some (aR (some b7)), some (aI x2), some (aR (some b12)), some (aI x4), some (aI x5_65), some (aI x6_55), some (aI x7_65), none] []) (fun K_65 hk_65 x5_65 x7_65 I_65 hw => ?_) _ _ _ hw hok
        intro hok
        refine g_ild7 hE1 dX2_spreads_65 ?_
        refine g_iconst hE1 dX2_spreads_67 ?_
        obtain ⟨h66, h67, hT68, hN69⟩ := hw
        refine g_icmp_ge hE1 (tgt := 153) dX2_spreads_68 (by decide) h66 h67 (fun q => ?_) (fun q => ?_)
        · have hw := hT68 q
          refine g_aldn0 hE1 dX2_spreads_71 ?_
          refine gx_getr hE in_X2 (t := 6) rfl (by decide) 0 0 rfl (by decide) rfl (by decide) rfl q274 (Or.inl rfl) ht18 dX2_spreads_72 ?_ hok
          intro hok
          refine g_ild6 hE1 dX2_spreads_75 ?_
          obtain ⟨b25, hb26, hw⟩ := hw
          rw [hb26]
          obtain ⟨ht27, hw⟩ := hw
          obtain ⟨h28, h29, hw⟩ := hw
          refine gx_iald hE ht27 h28 h29 dX2_spreads_77 ?_ hok
          intro hok
          refine g_ild7 hE1 dX2_spreads_78 ?_
          refine gx_callS hE hRm (As := [aI (I_65 b25 x6_55), aI x7_65]) hx_X2_toward (tx_X2_toward X hw) (lw_S q1232 q1233 q102 q1234) ⟨by decide, by decide⟩ ⟨(by decide), (by decide)⟩ rfl (Nat.le_of_ble_eq_true rfl) dX2_spreads_80 rfl (fun r9 Tz Iz Rz Lz hΦ => ?_) hok
          obtain ⟨r30, rfl, rfl, rfl, rfl, rfl, hw⟩ := hΦ
          show GX E X T I_65 R L 0 0 83 [some (aR (some o)), some (aR (some b7)), some (aI x2), some (aR (some b12)), some (aI x4), some (aI x5_65), some (aI x6_55), some (aI x7_65), none] [aI r30]
          intro hok
          refine g_ist8 hE1 dX2_spreads_83 (by decide) rfl ?_
          refine g_ild8 hE1 dX2_spreads_85 ?_
          refine gx_callSN hE hRm (As := [aI r30]) hx_X0_isCell (tx_X0_isCell X hw) (lw_meth q391) q1235 q94 q390 ⟨by decide, by decide⟩ ⟨(by decide), (by decide)⟩ rfl (Nat.le_of_ble_eq_true rfl) dX2_spreads_87 rfl (fun r9 Tz Iz Rz Lz hΦ => ?_) hok
          obtain ⟨r32, rfl, rfl, rfl, rfl, rfl, hw⟩ := hΦ
          show GX E X T I_65 R L 0 0 90 [some (aR (some o)), some (aR (some b7)), some (aI x2), some (aR (some b12)), some (aI x4), some (aI x5_65), some (aI x6_55), some (aI x7_65), some (aI r30)] [aI r32]
          intro hok
          refine jn2_walk (fun (x5_147 : Int) (I_147 : xI) => GX E X T I_147 R L 0 0 147 [some (aR (some o)), some (aR (some b7)), some (aI x2), some (aR (some b12)), some (aI x4), some (aI x5_147), some (aI x6_55), some (aI x7_65), some (aI r30)] []) hw (fun x5_147 I_147 hw => ?_) (fun J_147 hj_147 hw => ?_)
          · intro hok
            refine g_iinc7 hE1 dX2_spreads_147 (by decide) rfl ?_
            refine g_goto hE1 (tgt := 65) dX2_spreads_150 (by decide) ?_
            refine g_kl8 ?_
            exact hk_65 _ _ _ hw hok
          · skip
            obtain ⟨h62, h63, hT64, hN65⟩ := hw
            refine g_if_eq hE1 (tgt := 147) dX2_spreads_90 (by decide) h62 (fun q => ?_) (fun q => ?_)
            · have hw := hT64 q
              exact hj_147 _ _ hw hok
            · have hw := hN65 q
              refine g_aldn1 hE1 dX2_spreads_93 ?_
              refine g_ild8 hE1 dX2_spreads_94 ?_
              refine gx_callV hE hRm (As := [aI r30]) ht9 (by decide) (by decide) rfl hx_J0_get (tx_J0_get X hw) (lw_V q1228 q1229 q1230 q96 q1231) ⟨by decide, by decide⟩ ⟨(by decide), (by decide)⟩ rfl (Nat.le_of_ble_eq_true rfl) dX2_spreads_96 rfl (fun r9 Tz Iz Rz Lz hΦ => ?_) hok
              obtain ⟨r34, rfl, rfl, rfl, rfl, rfl, hw⟩ := hΦ
              show GX E X T I_65 R L 0 0 99 [some (aR (some o)), some (aR (some b7)), some (aI x2), some (aR (some b12)), some (aI x4), some (aI x5_65), some (aI x6_55), some (aI x7_65), some (aI r30)] [aI r34]
              intro hok
              obtain ⟨h58, h59, hT60, hN61⟩ := hw
              refine g_if_ne hE1 (tgt := 147) dX2_spreads_99 (by decide) h58 (fun q => ?_) (fun q => ?_)
              · have hw := hT60 q
                refine g_aldn3 hE1 dX2_spreads_102 ?_
                refine g_ild4 hE1 dX2_spreads_103 ?_
                refine g_ild8 hE1 dX2_spreads_105 ?_
                refine g_iadd hE1 dX2_spreads_107 ?_
                obtain ⟨h36, h37, hw⟩ := hw
                refine gx_iald hE ht14 h36 h37 dX2_spreads_108 ?_ hok
                intro hok
                refine g_ldc hE1 (v := 1048576) dX2_spreads_109 q1227 (by decide) ?_
                obtain ⟨h54, h55, hT56, hN57⟩ := hw
                refine g_icmp_ne hE1 (tgt := 147) dX2_spreads_111 (by decide) h54 h55 (fun q => ?_) (fun q => ?_)
                · have hw := hT56 q
                  refine g_aldn3 hE1 dX2_spreads_114 ?_
                  refine g_ild4 hE1 dX2_spreads_115 ?_
                  refine g_ild8 hE1 dX2_spreads_117 ?_
                  refine g_iadd hE1 dX2_spreads_119 ?_
                  refine g_aldn3 hE1 dX2_spreads_120 ?_
                  refine g_ild4 hE1 dX2_spreads_121 ?_
                  refine g_aldn0 hE1 dX2_spreads_123 ?_
                  refine gx_getr hE in_X2 (t := 6) rfl (by decide) 0 0 rfl (by decide) rfl (by decide) rfl q274 (Or.inl rfl) ht18 dX2_spreads_124 ?_ hok
                  intro hok
                  refine g_ild6 hE1 dX2_spreads_127 ?_
                  obtain ⟨b38, hb39, hw⟩ := hw
                  rw [hb39]
                  obtain ⟨ht40, hw⟩ := hw
                  obtain ⟨h41, h42, hw⟩ := hw
                  refine gx_iald hE ht40 h41 h42 dX2_spreads_129 ?_ hok
                  intro hok
                  refine g_iadd hE1 dX2_spreads_130 ?_
                  obtain ⟨h43, h44, hw⟩ := hw
                  refine gx_iald hE ht14 h43 h44 dX2_spreads_131 ?_ hok
                  intro hok
                  refine g_iconst hE1 dX2_spreads_132 ?_
                  refine g_iadd hE1 dX2_spreads_133 ?_
                  obtain ⟨h45, h46, hw⟩ := hw
                  refine gx_iast hE ht14 h45 h46 dX2_spreads_134 ?_ hok
                  intro hok
                  have hw := hw _ rfl
                  generalize uI I_65 b12 (x4 + r30) ((I_65 b12 (x4 + (I_65 b38 x6_55))) + 1) = I47 at hw hok ⊢
                  refine g_aldn0 hE1 dX2_spreads_135 ?_
                  refine gx_getr hE in_X2 (t := 6) rfl (by decide) 0 0 rfl (by decide) rfl (by decide) rfl q274 (Or.inl rfl) ht18 dX2_spreads_136 ?_ hok
                  intro hok
                  refine g_ild5 hE1 dX2_spreads_139 ?_
                  refine g_ild8 hE1 dX2_spreads_141 ?_
                  obtain ⟨b48, hb49, hw⟩ := hw
                  rw [hb49]
                  obtain ⟨ht50, hw⟩ := hw
                  obtain ⟨h51, h52, hw⟩ := hw
                  refine gx_iast hE ht50 h51 h52 dX2_spreads_143 ?_ hok
                  intro hok
                  have hw := hw _ rfl
                  generalize uI I47 b48 x5_65 r30 = I53 at hw hok ⊢
                  refine g_iinc5 hE1 dX2_spreads_144 (by decide) rfl ?_
                  exact hj_147 _ _ hw hok
                · have hw := hN57 q
                  exact hj_147 _ _ hw hok
              · have hw := hN61 q
                exact hj_147 _ _ hw hok
        · have hw := hN69 q
          refine g_iinc6 hE1 dX2_spreads_153 (by decide) rfl ?_
          refine g_goto hE1 (tgt := 55) dX2_spreads_156 (by decide) ?_
          refine g_kl7 ?_
          exact hk_55 _ _ _ hw hok
      · have hw := hN73 q
        exact gx_vret hE hR dX2_spreads_159 (by decide) (by decide) ⟨rfl, rfl, rfl, rfl, hw⟩ hok
    · have hw := hN77 q
      exact gx_vret hE hR dX2_spreads_34 (by decide) (by decide) ⟨rfl, rfl, rfl, rfl, hw⟩ hok

/-- WhalingLogs.distanceOf(II)I -/
def wx_X0_distanceOf (X : XT) (o : Nat) (x1 : Int) (x2 : Int) (T : xT) (I : xI) (R : xR) (L : xL) (Q : Int → xI → Prop) : Prop :=
  xtag T o = 1 ∧
  ∃ b2 : Nat, R o 0 = some b2 ∧ xtag T b2 = 2 ∧
  ∃ b5 : Nat, R o 5 = some b5 ∧ xtag T b5 = 6 ∧ wx_X2_spreads X b5 (R b2 0) x1 (R o 7) 0 T I R L (fun (I8 : xI) => 
  ∃ b10 : Nat, R o 7 = some b10 ∧ xtag T b10 = 100 ∧ ib x2 (xlen T b10) ∧ xlen T b10 < 2147483648 ∧
  jn1 (fun (y0_42 : Int) => 
      Q y0_42 I8)
    (fun (J_42 : Int → Prop) =>
    cEq (I8 b10 x2) 1048576
      (
      J_42 (-5))
      (
      ∃ b15 : Nat, R o 7 = some b15 ∧ xtag T b15 = 100 ∧ ib x2 (xlen T b15) ∧ xlen T b15 < 2147483648 ∧
      J_42 (I8 b15 x2))))
theorem hx_X0_distanceOf : yX0_distanceOf.cls = RX0 ∧ yX0_distanceOf.cls ≠ "java/lang/invoke/MethodHandle" ∧ yX0_distanceOf.cls ≠ "java/lang/invoke/VarHandle" ∧ (parseMethodDescriptor yX0_distanceOf.desc).map (fun d => d.parameters.length) = some 2 := by decide +kernel
set_option maxHeartbeats 4000000 in
theorem tx_X0_distanceOf (X : XT) {o : Nat} {x1 : Int} {x2 : Int} {T : xT} {I : xI} {R : xR} {L : xL} {Q : Int → xI → Prop} (hw : wx_X0_distanceOf X o x1 x2 T I R L Q) : CtX X yX0_distanceOf cX0_distanceOf 3 (some .int) (rmX 3 0 0 70) [aR (some o), aI x1, aI x2] T I R L (PXiI T I R L Q) := by
  refine CtX.intro (by decide) (Nat.le_of_ble_eq_true rfl) (fun E hE hR hN => ?_)
  have hRm := hR.rm
  have hE : OkX E X RX0 cX0_distanceOf 3 (some .int) := hE
  have hE1 := hE.1
  show GX E X T I R L 0 0 0 [some (aR (some o)), some (aI x1), some (aI x2)] []
  unfold wx_X0_distanceOf at hw
  intro hok
  refine g_aldn0 hE1 dX0_distanceOf_0 ?_
  obtain ⟨ht1, hw⟩ := hw
  refine gx_getr hE in_X0 (t := 1) rfl (by decide) 5 5 rfl (by decide) rfl (by decide) rfl q358 (Or.inl rfl) ht1 dX0_distanceOf_1 ?_ hok
  intro hok
  refine g_aldn0 hE1 dX0_distanceOf_4 ?_
  refine gx_getr hE in_X0 (t := 1) rfl (by decide) 0 0 rfl (by decide) rfl (by decide) rfl q353 (Or.inl rfl) ht1 dX0_distanceOf_5 ?_ hok
  intro hok
  obtain ⟨b2, hb3, hw⟩ := hw
  rw [hb3]
  obtain ⟨ht4, hw⟩ := hw
  refine gx_getrN hE in_X1 (t := 2) rfl (by decide) 0 0 rfl (by decide) rfl (by decide) rfl q222 (Or.inl rfl) ht4 dX0_distanceOf_8 ?_ hok
  intro hok
  refine g_ildn1 hE1 dX0_distanceOf_11 ?_
  refine g_aldn0 hE1 dX0_distanceOf_12 ?_
  refine gx_getr hE in_X0 (t := 1) rfl (by decide) 7 7 rfl (by decide) rfl (by decide) rfl q360 (Or.inl rfl) ht1 dX0_distanceOf_13 ?_ hok
  intro hok
  refine g_iconst hE1 dX0_distanceOf_16 ?_
  obtain ⟨b5, hb6, hw⟩ := hw
  rw [hb6]
  obtain ⟨ht7, hw⟩ := hw
  refine gx_callV hE hRm (As := [aR (R b2 0), aI x1, aR (R o 7), aI 0]) ht7 (by decide) (by decide) rfl hx_X2_spreads (tx_X2_spreads X hw) (lw_V q1223 q1224 q1225 q102 q1226) ⟨by decide, by decide⟩ ⟨(by decide), (by decide)⟩ rfl (Nat.le_of_ble_eq_true rfl) dX0_distanceOf_17 rfl (fun r9 Tz I8 Rz Lz hΦ => ?_) hok
  obtain ⟨rfl, rfl, rfl, rfl, hw⟩ := hΦ
  show GX E X T I8 R L 0 0 20 [some (aR (some o)), some (aI x1), some (aI x2)] []
  intro hok
  refine g_aldn0 hE1 dX0_distanceOf_20 ?_
  refine gx_getr hE in_X0 (t := 1) rfl (by decide) 7 7 rfl (by decide) rfl (by decide) rfl q360 (Or.inl rfl) ht1 dX0_distanceOf_21 ?_ hok
  intro hok
  refine g_ildn2 hE1 dX0_distanceOf_24 ?_
  obtain ⟨b10, hb11, hw⟩ := hw
  rw [hb11]
  obtain ⟨ht12, hw⟩ := hw
  obtain ⟨h13, h14, hw⟩ := hw
  refine gx_iald hE ht12 h13 h14 dX0_distanceOf_25 ?_ hok
  intro hok
  refine g_ldc hE1 (v := 1048576) dX0_distanceOf_26 q1236 (by decide) ?_
  refine jn1_walk (fun (y0_42 : Int) => GX E X T I8 R L 0 0 42 [some (aR (some o)), some (aI x1), some (aI x2)] [aI y0_42]) hw (fun y0_42 hw => ?_) (fun J_42 hj_42 hw => ?_)
  · intro hok
    exact gx_iret hE hR dX0_distanceOf_42 (by decide) (by decide) rfl ⟨_, rfl, rfl, rfl, rfl, hw⟩ hok
  · skip
    obtain ⟨h20, h21, hT22, hN23⟩ := hw
    refine g_icmp_ne hE1 (tgt := 36) dX0_distanceOf_28 (by decide) h20 h21 (fun q => ?_) (fun q => ?_)
    · have hw := hT22 q
      refine g_bipush hE1 dX0_distanceOf_31 (by decide) ?_
      refine g_goto hE1 (tgt := 42) dX0_distanceOf_33 (by decide) ?_
      exact hj_42 _ hw hok
    · have hw := hN23 q
      refine g_aldn0 hE1 dX0_distanceOf_36 ?_
      refine gx_getr hE in_X0 (t := 1) rfl (by decide) 7 7 rfl (by decide) rfl (by decide) rfl q360 (Or.inl rfl) ht1 dX0_distanceOf_37 ?_ hok
      intro hok
      refine g_ildn2 hE1 dX0_distanceOf_40 ?_
      obtain ⟨b15, hb16, hw⟩ := hw
      rw [hb16]
      obtain ⟨ht17, hw⟩ := hw
      obtain ⟨h18, h19, hw⟩ := hw
      refine gx_iald hE ht17 h18 h19 dX0_distanceOf_41 ?_ hok
      intro hok
      exact hj_42 _ hw hok

/-- WhalingLogs.distance(II)I -/
def wx_X0_distance (X : XT) (o : Nat) (x1 : Int) (x2 : Int) (T : xT) (I : xI) (R : xR) (L : xL) (Q : Int → xI → Prop) : Prop :=
  wx_X0_isCell X x1 T I R L (fun (r1 : Int) => 
  jn2 (fun (I_24 : xI) (y0_24 : Int) => 
      Q y0_24 I_24)
    (fun (J_24 : xI → Int → Prop) =>
    jn0 (
        J_24 I (-1))
      (fun (J_23 : Prop) =>
      cEq r1 0
        (
        J_23)
        (
        wx_X0_isCell X x2 T I R L (fun (r3 : Int) => 
        cEq r3 0
          (
          J_23)
          (
          xtag T o = 1 ∧ wx_X0_distanceOf X o x1 x2 T I R L (fun (r6 : Int) (I7 : xI) => 
          J_24 I7 r6)))))))
theorem hx_X0_distance : yX0_distance.cls = RX0 ∧ yX0_distance.cls ≠ "java/lang/invoke/MethodHandle" ∧ yX0_distance.cls ≠ "java/lang/invoke/VarHandle" ∧ (parseMethodDescriptor yX0_distance.desc).map (fun d => d.parameters.length) = some 2 := by decide +kernel
set_option maxHeartbeats 4000000 in
theorem tx_X0_distance (X : XT) {o : Nat} {x1 : Int} {x2 : Int} {T : xT} {I : xI} {R : xR} {L : xL} {Q : Int → xI → Prop} (hw : wx_X0_distance X o x1 x2 T I R L Q) : CtX X yX0_distance cX0_distance 3 (some .int) (rmX 4 0 0 92) [aR (some o), aI x1, aI x2] T I R L (PXiI T I R L Q) := by
  refine CtX.intro (by decide) (Nat.le_of_ble_eq_true rfl) (fun E hE hR hN => ?_)
  have hRm := hR.rm
  have hE : OkX E X RX0 cX0_distance 3 (some .int) := hE
  have hE1 := hE.1
  show GX E X T I R L 0 0 0 [some (aR (some o)), some (aI x1), some (aI x2)] []
  unfold wx_X0_distance at hw
  intro hok
  refine g_ildn1 hE1 dX0_distance_0 ?_
  refine gx_callS hE hRm (As := [aI x1]) hx_X0_isCell (tx_X0_isCell X hw) (lw_S q389 q390 q94 q391) ⟨by decide, by decide⟩ ⟨(by decide), (by decide)⟩ rfl (Nat.le_of_ble_eq_true rfl) dX0_distance_1 rfl (fun r9 Tz Iz Rz Lz hΦ => ?_) hok
  obtain ⟨r1, rfl, rfl, rfl, rfl, rfl, hw⟩ := hΦ
  show GX E X T I R L 0 0 4 [some (aR (some o)), some (aI x1), some (aI x2)] [aI r1]
  intro hok
  refine jn2_walk (fun (I_24 : xI) (y0_24 : Int) => GX E X T I_24 R L 0 0 24 [some (aR (some o)), some (aI x1), some (aI x2)] [aI y0_24]) hw (fun I_24 y0_24 hw => ?_) (fun J_24 hj_24 hw => ?_)
  · intro hok
    exact gx_iret hE hR dX0_distance_24 (by decide) (by decide) rfl ⟨_, rfl, rfl, rfl, rfl, hw⟩ hok
  · skip
    refine jn0_walk (GX E X T I R L 0 0 23 [some (aR (some o)), some (aI x1), some (aI x2)] []) hw (fun  hw => ?_) (fun J_23 hj_23 hw => ?_)
    · intro hok
      refine g_iconst hE1 dX0_distance_23 ?_
      exact hj_24 _ _ hw hok
    · skip
      obtain ⟨h13, h14, hT15, hN16⟩ := hw
      refine g_if_eq hE1 (tgt := 23) dX0_distance_4 (by decide) h13 (fun q => ?_) (fun q => ?_)
      · have hw := hT15 q
        exact hj_23  hw hok
      · have hw := hN16 q
        refine g_ildn2 hE1 dX0_distance_7 ?_
        refine gx_callS hE hRm (As := [aI x2]) hx_X0_isCell (tx_X0_isCell X hw) (lw_S q389 q390 q94 q391) ⟨by decide, by decide⟩ ⟨(by decide), (by decide)⟩ rfl (Nat.le_of_ble_eq_true rfl) dX0_distance_8 rfl (fun r9 Tz Iz Rz Lz hΦ => ?_) hok
        obtain ⟨r3, rfl, rfl, rfl, rfl, rfl, hw⟩ := hΦ
        show GX E X T I R L 0 0 11 [some (aR (some o)), some (aI x1), some (aI x2)] [aI r3]
        intro hok
        obtain ⟨h9, h10, hT11, hN12⟩ := hw
        refine g_if_eq hE1 (tgt := 23) dX0_distance_11 (by decide) h9 (fun q => ?_) (fun q => ?_)
        · have hw := hT11 q
          exact hj_23  hw hok
        · have hw := hN12 q
          refine g_aldn0 hE1 dX0_distance_14 ?_
          refine g_ildn1 hE1 dX0_distance_15 ?_
          refine g_ildn2 hE1 dX0_distance_16 ?_
          obtain ⟨ht5, hw⟩ := hw
          refine gx_callV hE hRm (As := [aI x1, aI x2]) ht5 (by decide) (by decide) rfl hx_X0_distanceOf (tx_X0_distanceOf X hw) (lw_V q1219 q1221 qs20 q94 q1222) ⟨by decide, by decide⟩ ⟨(by decide), (by decide)⟩ rfl (Nat.le_of_ble_eq_true rfl) dX0_distance_17 rfl (fun r9 Tz I7 Rz Lz hΦ => ?_) hok
          obtain ⟨r6, rfl, rfl, rfl, rfl, hw⟩ := hΦ
          show GX E X T I7 R L 0 0 20 [some (aR (some o)), some (aI x1), some (aI x2)] [aI r6]
          intro hok
          refine g_goto hE1 (tgt := 24) dX0_distance_20 (by decide) ?_
          exact hj_24 _ _ hw hok

/-- WhalingLogs.days(II)I -/
def wx_X0_days (X : XT) (o : Nat) (x1 : Int) (x2 : Int) (T : xT) (I : xI) (R : xR) (L : xL) (Q : Int → xI → Prop) : Prop :=
  xtag T o = 1 ∧ wx_X0_distance X o x1 x2 T I R L (fun (r2 : Int) (I3 : xI) => 
  jn1 (fun (y0_34 : Int) => 
      Q y0_34 I3)
    (fun (J_34 : Int → Prop) =>
    cLt r2 0
      (
      J_34 r2)
      (
      ∃ b5 : Nat, R o 0 = some b5 ∧ xtag T b5 = 2 ∧
      ∃ b8 : Nat, R o 0 = some b8 ∧ xtag T b8 = 2 ∧
      ((0 : Int) ≤ ((r2 + (I3 b5 4)) - 1) ∧ (((r2 + (I3 b5 4)) - 1) : Int) < 2147483648) ∧ ((0 : Int) < (I3 b8 4) ∧ ((I3 b8 4) : Int) < 2147483648) ∧
      J_34 (((r2 + (I3 b5 4)) - 1) / (I3 b8 4)))))
theorem hx_X0_days : yX0_days.cls = RX0 ∧ yX0_days.cls ≠ "java/lang/invoke/MethodHandle" ∧ yX0_days.cls ≠ "java/lang/invoke/VarHandle" ∧ (parseMethodDescriptor yX0_days.desc).map (fun d => d.parameters.length) = some 2 := by decide +kernel
set_option maxHeartbeats 4000000 in
theorem tx_X0_days (X : XT) {o : Nat} {x1 : Int} {x2 : Int} {T : xT} {I : xI} {R : xR} {L : xL} {Q : Int → xI → Prop} (hw : wx_X0_days X o x1 x2 T I R L Q) : CtX X yX0_days cX0_days 4 (some .int) (rmX 5 0 0 114) [aR (some o), aI x1, aI x2] T I R L (PXiI T I R L Q) := by
  refine CtX.intro (by decide) (Nat.le_of_ble_eq_true rfl) (fun E hE hR hN => ?_)
  have hRm := hR.rm
  have hE : OkX E X RX0 cX0_days 4 (some .int) := hE
  have hE1 := hE.1
  show GX E X T I R L 0 0 0 [some (aR (some o)), some (aI x1), some (aI x2), none] []
  unfold wx_X0_days at hw
  intro hok
  refine g_aldn0 hE1 dX0_days_0 ?_
  refine g_ildn1 hE1 dX0_days_1 ?_
  refine g_ildn2 hE1 dX0_days_2 ?_
  obtain ⟨ht1, hw⟩ := hw
  refine gx_callV hE hRm (As := [aI x1, aI x2]) ht1 (by decide) (by decide) rfl hx_X0_distance (tx_X0_distance X hw) (lw_V q1241 q1216 q1217 q94 q1218) ⟨by decide, by decide⟩ ⟨(by decide), (by decide)⟩ rfl (Nat.le_of_ble_eq_true rfl) dX0_days_3 rfl (fun r9 Tz I3 Rz Lz hΦ => ?_) hok
  obtain ⟨r2, rfl, rfl, rfl, rfl, hw⟩ := hΦ
  show GX E X T I3 R L 0 0 6 [some (aR (some o)), some (aI x1), some (aI x2), none] [aI r2]
  intro hok
  refine g_istn3 hE1 dX0_days_6 (by decide) rfl ?_
  refine g_ildn3 hE1 dX0_days_7 ?_
  refine jn1_walk (fun (y0_34 : Int) => GX E X T I3 R L 0 0 34 [some (aR (some o)), some (aI x1), some (aI x2), some (aI r2)] [aI y0_34]) hw (fun y0_34 hw => ?_) (fun J_34 hj_34 hw => ?_)
  · intro hok
    exact gx_iret hE hR dX0_days_34 (by decide) (by decide) rfl ⟨_, rfl, rfl, rfl, rfl, hw⟩ hok
  · skip
    obtain ⟨h13, h14, hT15, hN16⟩ := hw
    refine g_if_ge hE1 (tgt := 15) dX0_days_8 (by decide) h13 (fun q => ?_) (fun q => ?_)
    · have hw := hT15 q
      refine g_ildn3 hE1 dX0_days_11 ?_
      refine g_goto hE1 (tgt := 34) dX0_days_12 (by decide) ?_
      exact hj_34 _ hw hok
    · have hw := hN16 q
      refine g_ildn3 hE1 dX0_days_15 ?_
      refine g_aldn0 hE1 dX0_days_16 ?_
      refine gx_getr hE in_X0 (t := 1) rfl (by decide) 0 0 rfl (by decide) rfl (by decide) rfl q353 (Or.inl rfl) ht1 dX0_days_17 ?_ hok
      intro hok
      obtain ⟨b5, hb6, hw⟩ := hw
      rw [hb6]
      obtain ⟨ht7, hw⟩ := hw
      refine gx_getiN hE in_X1 (t := 2) rfl (by decide) 4 4 rfl (by decide) rfl (by decide) rfl q233 (Or.inl rfl) ht7 dX0_days_20 ?_ hok
      intro hok
      refine g_iadd hE1 dX0_days_23 ?_
      refine g_iconst hE1 dX0_days_24 ?_
      refine g_isub hE1 dX0_days_25 ?_
      refine g_aldn0 hE1 dX0_days_26 ?_
      refine gx_getr hE in_X0 (t := 1) rfl (by decide) 0 0 rfl (by decide) rfl (by decide) rfl q353 (Or.inl rfl) ht1 dX0_days_27 ?_ hok
      intro hok
      obtain ⟨b8, hb9, hw⟩ := hw
      rw [hb9]
      obtain ⟨ht10, hw⟩ := hw
      refine gx_getiN hE in_X1 (t := 2) rfl (by decide) 4 4 rfl (by decide) rfl (by decide) rfl q233 (Or.inl rfl) ht10 dX0_days_30 ?_ hok
      intro hok
      obtain ⟨h11, h12, hw⟩ := hw
      refine g_idiv hE1 dX0_days_33 h11 h12 ?_
      exact hj_34 _ hw hok

/-- java/util/LinkedList.size()I -/
def wx_J4_size (X : XT) (o : Nat)  (T : xT) (I : xI) (R : xR) (L : xL) (Q : Int → Prop) : Prop :=
  xtag T o = 4 ∧
  Q (I o 1)
theorem hx_J4_size : yJ4_size.cls = RJ4 ∧ yJ4_size.cls ≠ "java/lang/invoke/MethodHandle" ∧ yJ4_size.cls ≠ "java/lang/invoke/VarHandle" ∧ (parseMethodDescriptor yJ4_size.desc).map (fun d => d.parameters.length) = some 0 := by decide +kernel
set_option maxHeartbeats 4000000 in
theorem tx_J4_size (X : XT) {o : Nat}  {T : xT} {I : xI} {R : xR} {L : xL} {Q : Int → Prop} (hw : wx_J4_size X o T I R L Q) : CtX X yJ4_size cJ4_size 1 (some .int) (rmX 0 0 0 0) [aR (some o)] T I R L (PXi T I R L Q) := by
  refine CtX.intro (by decide) (Nat.le_of_ble_eq_true rfl) (fun E hE hR hN => ?_)
  have hRm := hR.rm
  have hE : OkX E X RJ4 cJ4_size 1 (some .int) := hE
  have hE1 := hE.1
  show GX E X T I R L 0 0 0 [some (aR (some o))] []
  unfold wx_J4_size at hw
  intro hok
  refine g_aldn0 hE1 dJ4_size_0 ?_
  obtain ⟨ht1, hw⟩ := hw
  refine gx_geti hE in_J4 (t := 4) rfl (by decide) 1 1 rfl (by decide) rfl (by decide) rfl q198 (Or.inl rfl) ht1 dJ4_size_1 ?_ hok
  intro hok
  exact gx_iret hE hR dJ4_size_4 (by decide) (by decide) rfl ⟨_, rfl, rfl, rfl, rfl, rfl, hw⟩ hok

/-- WhalingLogs$Archive.addsPage(II)I -/
def wx_X1_addsPage (X : XT) (o : Nat) (x1 : Int) (x2 : Int) (T : xT) (I : xI) (R : xR) (L : xL) (Q : Int → xT → xI → xR → Prop) (Y : Nat → xT → xI → xR → Prop) : Prop :=
  xtag T o = 2 ∧
  ∃ b2 : Nat, R o 1 = some b2 ∧ xtag T b2 = 4 ∧ wx_J4_size X b2 T I R L (fun (r5 : Int) => 
  jn1 (fun (y0_17 : Int) => 
      wx_X0_refuse X y0_17 2 10 T I R L (fun (T7 : xT) (I8 : xI) (R9 : xR) => tle T T7 → 
        ∀ q12 : Nat, xtag T7 q12 = 0 → bsX X ≤ q12 → ∀ T15 : xT, T15 = xnew T7 q12 10 0 →
        wx_X5_init X q12 x1 x2 T15 I8 R9 L (fun (T18 : xT) (I19 : xI) (R20 : xR) => tle T15 T18 → 
        ∃ b22 : Nat, R9 o 1 = some b22 ∧ xtag T18 b22 = 4 ∧ wx_J4_addLast X b22 (some q12) T18 I19 R20 L (fun (T25 : xT) (I26 : xI) (R27 : xR) => tle T18 T25 → 
        ∃ b30 : Nat, R27 o 1 = some b30 ∧ xtag T25 b30 = 4 ∧ wx_J4_size X b30 T25 I26 R27 L (fun (r33 : Int) => 
        Q (r33 - 1) T25 I26 R27))))
        (fun (e35 : Nat) (T36 : xT) (I37 : xI) (R38 : xR) => tle T T36 → xtag T36 e35 = 14 → 
        Y e35 T36 I37 R38))
    (fun (J_17 : Int → Prop) =>
    cEq r5 10
      (
      J_17 1)
      (
      J_17 0)))
theorem hx_X1_addsPage : yX1_addsPage.cls = RX1 ∧ yX1_addsPage.cls ≠ "java/lang/invoke/MethodHandle" ∧ yX1_addsPage.cls ≠ "java/lang/invoke/VarHandle" ∧ (parseMethodDescriptor yX1_addsPage.desc).map (fun d => d.parameters.length) = some 2 := by decide +kernel
set_option maxHeartbeats 4000000 in
theorem tx_X1_addsPage (X : XT) {o : Nat} {x1 : Int} {x2 : Int} {T : xT} {I : xI} {R : xR} {L : xL} {Q : Int → xT → xI → xR → Prop} {Y : Nat → xT → xI → xR → Prop} (hw : wx_X1_addsPage X o x1 x2 T I R L Q Y) : CtY X yX1_addsPage cX1_addsPage 3 (some .int) (rmX 5 5 20 112) [aR (some o), aI x1, aI x2] T I R L (PXiTIR T I R L Q) (PYTIR T I R L "WhalingLogs$Refused" 14 Y) := by
  refine CtY.intro (by decide) (Nat.le_of_ble_eq_true rfl) (fun E hE hR hY hN => ?_)
  have hRm := hR.rm
  have hE : OkX E X RX1 cX1_addsPage 3 (some .int) := hE
  have hE1 := hE.1
  show GX E X T I R L 0 0 0 [some (aR (some o)), some (aI x1), some (aI x2)] []
  unfold wx_X1_addsPage at hw
  intro hok
  refine g_aldn0 hE1 dX1_addsPage_0 ?_
  obtain ⟨ht1, hw⟩ := hw
  refine gx_getr hE in_X1 (t := 2) rfl (by decide) 1 1 rfl (by decide) rfl (by decide) rfl q223 (Or.inl rfl) ht1 dX1_addsPage_1 ?_ hok
  intro hok
  obtain ⟨b2, hb3, hw⟩ := hw
  rw [hb3]
  obtain ⟨ht4, hw⟩ := hw
  refine gx_callV hE hRm (As := []) ht4 (by decide) (by decide) rfl hx_J4_size (tx_J4_size X hw) (lw_V q1250 q541 q2594 q100 q542) ⟨by decide, by decide⟩ ⟨(by decide), (by decide)⟩ rfl (Nat.le_of_ble_eq_true rfl) dX1_addsPage_4 rfl (fun r9 Tz Iz Rz Lz hΦ => ?_) hok
  obtain ⟨r5, rfl, rfl, rfl, rfl, rfl, hw⟩ := hΦ
  show GX E X T I R L 0 0 7 [some (aR (some o)), some (aI x1), some (aI x2)] [aI r5]
  intro hok
  refine g_bipush hE1 dX1_addsPage_7 (by decide) ?_
  refine jn1_walk (fun (y0_17 : Int) => GX E X T I R L 0 0 17 [some (aR (some o)), some (aI x1), some (aI x2)] [aI y0_17]) hw (fun y0_17 hw => ?_) (fun J_17 hj_17 hw => ?_)
  · intro hok
    refine g_iconst hE1 dX1_addsPage_17 ?_
    refine g_bipush hE1 dX1_addsPage_18 (by decide) ?_
    refine gy_callSN hE hRm (As := [aI y0_17, aI 2, aI 10]) hx_X0_refuse (tx_X0_refuse X hw) (lw_meth q1104) q1102 q94 q1103 ⟨by decide, by decide⟩ ⟨(by decide), (by decide)⟩ rfl (Nat.le_of_ble_eq_true rfl) dX1_addsPage_20 rfl (fun r9 T7 I8 R9 Lz hΦ => ?_) (fun Ec q9 T36 I37 R38 Lz hΦ => ?_) hok
    · obtain ⟨rfl, rfl, hl10, hw⟩ := hΦ
      have hw := hw hl10
      show GX E X T7 I8 R9 L 1 8 23 [some (aR (some o)), some (aI x1), some (aI x2)] []
      intro hok
      refine g_aldn0 hE1 dX1_addsPage_23 ?_
      have ht11 := hl10.tag ht1 (by decide)
      refine gx_getr hE in_X1 (t := 2) rfl (by decide) 1 1 rfl (by decide) rfl (by decide) rfl q223 (Or.inl rfl) ht11 dX1_addsPage_24 ?_ hok
      intro hok
      refine gx_new hE hRm in_X5 tyX5 tyX5_ok (t := 10) rfl (by decide) (by decide) rfl (by decide) q933 q939 q125 (by decide) (by decide) dX1_addsPage_27 (fun q12 hq13 hbs14 => ?_) hok
      intro hok
      have hw := hw q12 hq13 hbs14 _ rfl
      have hl16 := tle.new (T := T7) (q := q12) (t := 10) (n := 0) hq13
      have hT17 : xtag (xnew T7 q12 10 0) q12 = 10 := if_pos rfl
      generalize xnew T7 q12 10 0 = T15 at hw hl16 hok hT17 ⊢
      refine g_dup hE1 dX1_addsPage_30 rfl ?_
      refine g_ildn1 hE1 dX1_addsPage_31 ?_
      refine g_ildn2 hE1 dX1_addsPage_32 ?_
      refine gx_callI hE hRm (As := [aI x1, aI x2]) (b := q12) hx_X5_init (lw_meth q942) q1251 q125 q941 rfl (tx_X5_init X hw) ⟨by decide, by decide⟩ ⟨(by decide), (by decide)⟩ rfl (Nat.le_of_ble_eq_true rfl) dX1_addsPage_33 rfl (fun r9 T18 I19 R20 Lz hΦ => ?_) hok
      obtain ⟨rfl, rfl, hl21, hw⟩ := hΦ
      have hw := hw hl21
      show GX E X T18 I19 R20 L 4 17 36 [some (aR (some o)), some (aI x1), some (aI x2)] [aR (some q12), aR (R9 o 1)]
      intro hok
      obtain ⟨b22, hb23, hw⟩ := hw
      rw [hb23]
      obtain ⟨ht24, hw⟩ := hw
      refine gx_callV hE hRm (As := [aR (some q12)]) ht24 (by decide) (by decide) rfl hx_J4_addLast (tx_J4_addLast X hw) (lw_V q1043 q1044 q1045 q100 q1046) ⟨by decide, by decide⟩ ⟨(by decide), (by decide)⟩ rfl (Nat.le_of_ble_eq_true rfl) dX1_addsPage_36 rfl (fun r9 T25 I26 R27 Lz hΦ => ?_) hok
      obtain ⟨rfl, rfl, hl28, hw⟩ := hΦ
      have hw := hw hl28
      show GX E X T25 I26 R27 L 5 20 39 [some (aR (some o)), some (aI x1), some (aI x2)] []
      intro hok
      refine g_aldn0 hE1 dX1_addsPage_39 ?_
      have ht29 := (((hl10.tr hl16).tr hl21).tr hl28).tag ht1 (by decide)
      refine gx_getr hE in_X1 (t := 2) rfl (by decide) 1 1 rfl (by decide) rfl (by decide) rfl q223 (Or.inl rfl) ht29 dX1_addsPage_40 ?_ hok
      intro hok
      obtain ⟨b30, hb31, hw⟩ := hw
      rw [hb31]
      obtain ⟨ht32, hw⟩ := hw
      refine gx_callV hE hRm (As := []) ht32 (by decide) (by decide) rfl hx_J4_size (tx_J4_size X hw) (lw_V q1250 q541 q2594 q100 q542) ⟨by decide, by decide⟩ ⟨(by decide), (by decide)⟩ rfl (Nat.le_of_ble_eq_true rfl) dX1_addsPage_43 rfl (fun r9 Tz Iz Rz Lz hΦ => ?_) hok
      obtain ⟨r33, rfl, rfl, rfl, rfl, rfl, hw⟩ := hΦ
      show GX E X T25 I26 R27 L 5 20 46 [some (aR (some o)), some (aI x1), some (aI x2)] [aI r33]
      intro hok
      refine g_iconst hE1 dX1_addsPage_46 ?_
      refine g_isub hE1 dX1_addsPage_47 ?_
      exact gx_iret hE hR dX1_addsPage_48 (by decide) (by decide) rfl ⟨_, rfl, rfl, (((hl10.tr hl16).tr hl21).tr hl28), hw⟩ hok
    · have hq9 : ∃ q8, q8 = q9 := ⟨_, rfl⟩
      obtain ⟨e35, rfl⟩ := hq9
      obtain ⟨rfl, rfl, hl39, ht40, hw⟩ := hΦ
      have hw := hw hl39 ht40
      exact gx_out hE hY (by decide) (by decide) ⟨rfl, rfl, hl39, ht40, hw⟩
  · skip
    obtain ⟨h41, h42, hT43, hN44⟩ := hw
    refine g_icmp_ne hE1 (tgt := 16) dX1_addsPage_9 (by decide) h41 h42 (fun q => ?_) (fun q => ?_)
    · have hw := hT43 q
      refine g_iconst hE1 dX1_addsPage_12 ?_
      refine g_goto hE1 (tgt := 17) dX1_addsPage_13 (by decide) ?_
      exact hj_17 _ hw hok
    · have hw := hN44 q
      refine g_iconst hE1 dX1_addsPage_16 ?_
      exact hj_17 _ hw hok

/-- WhalingLogs.page(II)I -/
def wx_X0_page (X : XT) (o : Nat) (x1 : Int) (x2 : Int) (T : xT) (I : xI) (R : xR) (L : xL) (Q : Int → xT → xI → xR → xL → Prop) : Prop :=
  wx_X0_isIn X x1 0 2 T I R L (fun (r1 : Int) => 
  jn0 (
      Q (-2) T I R L)
    (fun (J_19 : Prop) =>
    cEq r1 0
      (
      J_19)
      (
      wx_X0_isIn X x2 0 99 T I R L (fun (r3 : Int) => 
      cEq r3 0
        (
        J_19)
        (
        xtag T o = 1 ∧
        ∃ b6 : Nat, R o 0 = some b6 ∧ xtag T b6 = 2 ∧ wx_X1_copy X b6 T I R L (fun (r9 : Option Nat) (T10 : xT) (I11 : xI) (R12 : xR) (L13 : xL) => tle T T10 → 
        ∃ b16 : Nat, R12 o 0 = some b16 ∧ xtag T10 b16 = 2 ∧ wx_X1_addsPage X b16 x1 x2 T10 I11 R12 L13 (fun (r19 : Int) (T20 : xT) (I21 : xI) (R22 : xR) => tle T10 T20 → 
          wx_X0_changed X o r9 r19 T20 I21 R22 L13 (fun (r25 : Int) (I26 : xI) (R27 : xR) => 
          Q r25 T20 I26 R27 L13))
          (fun (e29 : Nat) (T30 : xT) (I31 : xI) (R32 : xR) => tle T10 T30 → xtag T30 e29 = 14 → 
          wx_X0_refused X o (some e29) T30 I31 R32 L13 (fun (r36 : Int) (I37 : xI) => 
          Q r36 T30 I37 R32 L13))))))))
theorem hx_X0_page : yX0_page.cls = RX0 ∧ yX0_page.cls ≠ "java/lang/invoke/MethodHandle" ∧ yX0_page.cls ≠ "java/lang/invoke/VarHandle" ∧ (parseMethodDescriptor yX0_page.desc).map (fun d => d.parameters.length) = some 2 := by decide +kernel
set_option maxHeartbeats 4000000 in
theorem tx_X0_page (X : XT) {o : Nat} {x1 : Int} {x2 : Int} {T : xT} {I : xI} {R : xR} {L : xL} {Q : Int → xT → xI → xR → xL → Prop} (hw : wx_X0_page X o x1 x2 T I R L Q) : CtW X yX0_page cX0_page 5 (some .int) [(30, 44, 45, 55)] (rmX 7 165 1420 147) [aR (some o), aI x1, aI x2] T I R L (PXiTIRL T I R L Q) := by
  refine CtW.intro (by decide) (Nat.le_of_ble_eq_true rfl) (fun E hE hR hH hN => ?_)
  have hRm := hR.rm
  have hE : OkX E X RX0 cX0_page 5 (some .int) := hE
  have hE1 := hE.1
  show GX E X T I R L 0 0 0 [some (aR (some o)), some (aI x1), some (aI x2), none, none] []
  unfold wx_X0_page at hw
  intro hok
  refine g_ildn1 hE1 dX0_page_0 ?_
  refine g_iconst hE1 dX0_page_1 ?_
  refine g_iconst hE1 dX0_page_2 ?_
  refine gx_callS hE hRm (As := [aI x1, aI 0, aI 2]) hx_X0_isIn (tx_X0_isIn X hw) (lw_S q392 q393 q94 q394) ⟨by decide, by decide⟩ ⟨(by decide), (by decide)⟩ rfl (Nat.le_of_ble_eq_true rfl) dX0_page_3 rfl (fun r9 Tz Iz Rz Lz hΦ => ?_) hok
  obtain ⟨r1, rfl, rfl, rfl, rfl, rfl, hw⟩ := hΦ
  show GX E X T I R L 0 0 6 [some (aR (some o)), some (aI x1), some (aI x2), none, none] [aI r1]
  intro hok
  refine jn0_walk (GX E X T I R L 0 0 19 [some (aR (some o)), some (aI x1), some (aI x2), none, none] []) hw (fun  hw => ?_) (fun J_19 hj_19 hw => ?_)
  · intro hok
    refine g_bipush hE1 dX0_page_19 (by decide) ?_
    exact gx_iret hE hR dX0_page_21 (by decide) (by decide) rfl ⟨_, rfl, tle.rf, hw⟩ hok
  · skip
    obtain ⟨h43, h44, hT45, hN46⟩ := hw
    refine g_if_eq hE1 (tgt := 19) dX0_page_6 (by decide) h43 (fun q => ?_) (fun q => ?_)
    · have hw := hT45 q
      exact hj_19  hw hok
    · have hw := hN46 q
      refine g_ildn2 hE1 dX0_page_9 ?_
      refine g_iconst hE1 dX0_page_10 ?_
      refine g_bipush hE1 dX0_page_11 (by decide) ?_
      refine gx_callS hE hRm (As := [aI x2, aI 0, aI 99]) hx_X0_isIn (tx_X0_isIn X hw) (lw_S q392 q393 q94 q394) ⟨by decide, by decide⟩ ⟨(by decide), (by decide)⟩ rfl (Nat.le_of_ble_eq_true rfl) dX0_page_13 rfl (fun r9 Tz Iz Rz Lz hΦ => ?_) hok
      obtain ⟨r3, rfl, rfl, rfl, rfl, rfl, hw⟩ := hΦ
      show GX E X T I R L 0 0 16 [some (aR (some o)), some (aI x1), some (aI x2), none, none] [aI r3]
      intro hok
      obtain ⟨h39, h40, hT41, hN42⟩ := hw
      refine g_if_ne hE1 (tgt := 22) dX0_page_16 (by decide) h39 (fun q => ?_) (fun q => ?_)
      · have hw := hT41 q
        exact hj_19  hw hok
      · have hw := hN42 q
        refine g_aldn0 hE1 dX0_page_22 ?_
        obtain ⟨ht5, hw⟩ := hw
        refine gx_getr hE in_X0 (t := 1) rfl (by decide) 0 0 rfl (by decide) rfl (by decide) rfl q353 (Or.inl rfl) ht5 dX0_page_23 ?_ hok
        intro hok
        obtain ⟨b6, hb7, hw⟩ := hw
        rw [hb7]
        obtain ⟨ht8, hw⟩ := hw
        refine gx_callV hE hRm (As := []) ht8 (by decide) (by decide) rfl hx_X1_copy (tx_X1_copy X hw) (lw_V q395 q396 q397 q95 q398) ⟨by decide, by decide⟩ ⟨(by decide), (by decide)⟩ rfl (Nat.le_of_ble_eq_true rfl) dX0_page_26 rfl (fun r9 T10 I11 R12 L13 hΦ => ?_) hok
        obtain ⟨r9, rfl, hl14, hw⟩ := hΦ
        have hw := hw hl14
        show GX E X T10 I11 R12 L13 160 1400 29 [some (aR (some o)), some (aI x1), some (aI x2), none, none] [aR r9]
        intro hok
        refine g_astn3 hE1 dX0_page_29 (by decide) rfl ?_
        refine g_aldn0 hE1 dX0_page_30 ?_
        refine g_aldn3 hE1 dX0_page_31 ?_
        refine g_aldn0 hE1 dX0_page_32 ?_
        have ht15 := hl14.tag ht5 (by decide)
        refine gx_getr hE in_X0 (t := 1) rfl (by decide) 0 0 rfl (by decide) rfl (by decide) rfl q353 (Or.inl rfl) ht15 dX0_page_33 ?_ hok
        intro hok
        refine g_ildn1 hE1 dX0_page_36 ?_
        refine g_ildn2 hE1 dX0_page_37 ?_
        obtain ⟨b16, hb17, hw⟩ := hw
        rw [hb17]
        obtain ⟨ht18, hw⟩ := hw
        refine gy_callV hE hRm (As := [aI x1, aI x2]) ht18 (by decide) (by decide) rfl hx_X1_addsPage (tx_X1_addsPage X hw) (lw_V q1246 q1247 q1248 q95 q1249) ⟨by decide, by decide⟩ ⟨(by decide), (by decide)⟩ rfl (Nat.le_of_ble_eq_true rfl) dX0_page_38 rfl (fun r9 T20 I21 R22 Lz hΦ => ?_) (fun Ec q9 T30 I31 R32 Lz hΦ => ?_) hok
        · obtain ⟨r19, rfl, rfl, hl23, hw⟩ := hΦ
          have hw := hw hl23
          show GX E X T20 I21 R22 L13 165 1420 41 [some (aR (some o)), some (aI x1), some (aI x2), some (aR r9), none] [aI r19, aR r9, aR (some o)]
          intro hok
          have ht24 := (hl14.tr hl23).tag ht5 (by decide)
          refine gx_callV hE hRm (As := [aR r9, aI r19]) ht24 (by decide) (by decide) rfl hx_X0_changed (tx_X0_changed X hw) (lw_V q1163 q1165 qs16 q94 q1166) ⟨by decide, by decide⟩ ⟨(by decide), (by decide)⟩ rfl (Nat.le_of_ble_eq_true rfl) dX0_page_41 rfl (fun r9 Tz I26 R27 Lz hΦ => ?_) hok
          obtain ⟨r25, rfl, rfl, rfl, hw⟩ := hΦ
          show GX E X T20 I26 R27 L13 165 1420 44 [some (aR (some o)), some (aI x1), some (aI x2), some (aR r9), none] [aI r25]
          intro hok
          exact gx_iret hE hR dX0_page_44 (by decide) (by decide) rfl ⟨_, rfl, (hl14.tr hl23), hw⟩ hok
        · have hq9 : ∃ q8, q8 = q9 := ⟨_, rfl⟩
          obtain ⟨e29, rfl⟩ := hq9
          obtain ⟨rfl, rfl, hl33, ht34, hw⟩ := hΦ
          have hw := hw hl33 ht34
          refine gx_catch hE hH [] ⟨30, 44, 45, 55⟩ [] rfl (fun _ h9 => nomatch h9) (by decide) (by decide) q388 q1106 ?_
          show GX E X T30 I31 R32 L13 165 1420 45 [some (aR (some o)), some (aI x1), some (aI x2), some (aR r9), none] [aR (some e29)]
          intro hok
          refine g_ast4 hE1 dX0_page_45 (by decide) rfl ?_
          refine g_aldn0 hE1 dX0_page_47 ?_
          refine g_ald4 hE1 dX0_page_48 ?_
          have ht35 := (hl14.tr hl33).tag ht5 (by decide)
          refine gx_callV hE hRm (As := [aR (some e29)]) ht35 (by decide) (by decide) rfl hx_X0_refused (tx_X0_refused X hw) (lw_V q1204 q1206 qs19 q94 q1207) ⟨by decide, by decide⟩ ⟨(by decide), (by decide)⟩ rfl (Nat.le_of_ble_eq_true rfl) dX0_page_50 rfl (fun r9 Tz I37 Rz Lz hΦ => ?_) hok
          obtain ⟨r36, rfl, rfl, rfl, rfl, hw⟩ := hΦ
          show GX E X T30 I37 R32 L13 165 1420 53 [some (aR (some o)), some (aI x1), some (aI x2), some (aR r9), some (aR (some e29))] [aI r36]
          intro hok
          exact gx_iret hE hR dX0_page_53 (by decide) (by decide) rfl ⟨_, rfl, (hl14.tr hl33), hw⟩ hok

/-- WhalingLogs$Archive.isPage(I)Z -/
def wx_X1_isPage (X : XT) (o : Nat) (x1 : Int) (T : xT) (I : xI) (R : xR) (L : xL) (Q : Int → Prop) : Prop :=
  xtag T o = 2 ∧
  ∃ b2 : Nat, R o 1 = some b2 ∧ xtag T b2 = 4 ∧ wx_J4_size X b2 T I R L (fun (r5 : Int) => 
  wx_X0_isIn X x1 0 (r5 - 1) T I R L (fun (r7 : Int) => 
  bl r7 ∧ Q r7))
theorem hx_X1_isPage : yX1_isPage.cls = RX1 ∧ yX1_isPage.cls ≠ "java/lang/invoke/MethodHandle" ∧ yX1_isPage.cls ≠ "java/lang/invoke/VarHandle" ∧ (parseMethodDescriptor yX1_isPage.desc).map (fun d => d.parameters.length) = some 1 := by decide +kernel
set_option maxHeartbeats 4000000 in
theorem tx_X1_isPage (X : XT) {o : Nat} {x1 : Int} {T : xT} {I : xI} {R : xR} {L : xL} {Q : Int → Prop} (hw : wx_X1_isPage X o x1 T I R L Q) : CtX X yX1_isPage cX1_isPage 2 (some .boolean) (rmX 1 0 0 22) [aR (some o), aI x1] T I R L (PXi T I R L Q) := by
  refine CtX.intro (by decide) (Nat.le_of_ble_eq_true rfl) (fun E hE hR hN => ?_)
  have hRm := hR.rm
  have hE : OkX E X RX1 cX1_isPage 2 (some .boolean) := hE
  have hE1 := hE.1
  show GX E X T I R L 0 0 0 [some (aR (some o)), some (aI x1)] []
  unfold wx_X1_isPage at hw
  intro hok
  refine g_ildn1 hE1 dX1_isPage_0 ?_
  refine g_iconst hE1 dX1_isPage_1 ?_
  refine g_aldn0 hE1 dX1_isPage_2 ?_
  obtain ⟨ht1, hw⟩ := hw
  refine gx_getr hE in_X1 (t := 2) rfl (by decide) 1 1 rfl (by decide) rfl (by decide) rfl q223 (Or.inl rfl) ht1 dX1_isPage_3 ?_ hok
  intro hok
  obtain ⟨b2, hb3, hw⟩ := hw
  rw [hb3]
  obtain ⟨ht4, hw⟩ := hw
  refine gx_callV hE hRm (As := []) ht4 (by decide) (by decide) rfl hx_J4_size (tx_J4_size X hw) (lw_V q1250 q541 q2594 q100 q542) ⟨by decide, by decide⟩ ⟨(by decide), (by decide)⟩ rfl (Nat.le_of_ble_eq_true rfl) dX1_isPage_6 rfl (fun r9 Tz Iz Rz Lz hΦ => ?_) hok
  obtain ⟨r5, rfl, rfl, rfl, rfl, rfl, hw⟩ := hΦ
  show GX E X T I R L 0 0 9 [some (aR (some o)), some (aI x1)] [aI r5, aI 0, aI x1]
  intro hok
  refine g_iconst hE1 dX1_isPage_9 ?_
  refine g_isub hE1 dX1_isPage_10 ?_
  refine gx_callSN hE hRm (As := [aI x1, aI 0, aI (r5 - 1)]) hx_X0_isIn (tx_X0_isIn X hw) (lw_meth q394) q1268 q94 q393 ⟨by decide, by decide⟩ ⟨(by decide), (by decide)⟩ rfl (Nat.le_of_ble_eq_true rfl) dX1_isPage_11 rfl (fun r9 Tz Iz Rz Lz hΦ => ?_) hok
  obtain ⟨r7, rfl, rfl, rfl, rfl, rfl, hw⟩ := hΦ
  show GX E X T I R L 0 0 14 [some (aR (some o)), some (aI x1)] [aI r7]
  intro hok
  obtain ⟨h9, hw⟩ := hw
  exact gx_iret hE hR dX1_isPage_14 (by decide) (by decide) (narrow_bl h9) ⟨_, rfl, rfl, rfl, rfl, rfl, hw⟩ hok

/-- WhalingLogs$Archive.checkPage(I)V -/
def wx_X1_checkPage (X : XT) (o : Nat) (x1 : Int) (T : xT) (I : xI) (R : xR) (L : xL) (Q : xT → xI → xR → Prop) (Y : Nat → xT → xI → xR → Prop) : Prop :=
  xtag T o = 2 ∧ wx_X1_isPage X o x1 T I R L (fun (r2 : Int) => 
  jn1 (fun (y0_13 : Int) => 
      wx_X0_refuse X y0_13 1 x1 T I R L (fun (T4 : xT) (I5 : xI) (R6 : xR) => tle T T4 → 
        Q T4 I5 R6)
        (fun (e8 : Nat) (T9 : xT) (I10 : xI) (R11 : xR) => tle T T9 → xtag T9 e8 = 14 → 
        Y e8 T9 I10 R11))
    (fun (J_13 : Int → Prop) =>
    cEq r2 0
      (
      J_13 1)
      (
      J_13 0)))
theorem hx_X1_checkPage : yX1_checkPage.cls = RX1 ∧ yX1_checkPage.cls ≠ "java/lang/invoke/MethodHandle" ∧ yX1_checkPage.cls ≠ "java/lang/invoke/VarHandle" ∧ (parseMethodDescriptor yX1_checkPage.desc).map (fun d => d.parameters.length) = some 1 := by decide +kernel
set_option maxHeartbeats 4000000 in
theorem tx_X1_checkPage (X : XT) {o : Nat} {x1 : Int} {T : xT} {I : xI} {R : xR} {L : xL} {Q : xT → xI → xR → Prop} {Y : Nat → xT → xI → xR → Prop} (hw : wx_X1_checkPage X o x1 T I R L Q Y) : CtY X yX1_checkPage cX1_checkPage 2 none (rmX 5 1 8 112) [aR (some o), aI x1] T I R L (PXvTIR T I R L Q) (PYTIR T I R L "WhalingLogs$Refused" 14 Y) := by
  refine CtY.intro (by decide) (Nat.le_of_ble_eq_true rfl) (fun E hE hR hY hN => ?_)
  have hRm := hR.rm
  have hE : OkX E X RX1 cX1_checkPage 2 none := hE
  have hE1 := hE.1
  show GX E X T I R L 0 0 0 [some (aR (some o)), some (aI x1)] []
  unfold wx_X1_checkPage at hw
  intro hok
  refine g_aldn0 hE1 dX1_checkPage_0 ?_
  refine g_ildn1 hE1 dX1_checkPage_1 ?_
  obtain ⟨ht1, hw⟩ := hw
  refine gx_callV hE hRm (As := [aI x1]) ht1 (by decide) (by decide) rfl hx_X1_isPage (tx_X1_isPage X hw) (lw_V q1264 q1265 q1266 q95 q1267) ⟨by decide, by decide⟩ ⟨(by decide), (by decide)⟩ rfl (Nat.le_of_ble_eq_true rfl) dX1_checkPage_2 rfl (fun r9 Tz Iz Rz Lz hΦ => ?_) hok
  obtain ⟨r2, rfl, rfl, rfl, rfl, rfl, hw⟩ := hΦ
  show GX E X T I R L 0 0 5 [some (aR (some o)), some (aI x1)] [aI r2]
  intro hok
  refine jn1_walk (fun (y0_13 : Int) => GX E X T I R L 0 0 13 [some (aR (some o)), some (aI x1)] [aI y0_13]) hw (fun y0_13 hw => ?_) (fun J_13 hj_13 hw => ?_)
  · intro hok
    refine g_iconst hE1 dX1_checkPage_13 ?_
    refine g_ildn1 hE1 dX1_checkPage_14 ?_
    refine gy_callSN hE hRm (As := [aI y0_13, aI 1, aI x1]) hx_X0_refuse (tx_X0_refuse X hw) (lw_meth q1104) q1102 q94 q1103 ⟨by decide, by decide⟩ ⟨(by decide), (by decide)⟩ rfl (Nat.le_of_ble_eq_true rfl) dX1_checkPage_15 rfl (fun r9 T4 I5 R6 Lz hΦ => ?_) (fun Ec q9 T9 I10 R11 Lz hΦ => ?_) hok
    · obtain ⟨rfl, rfl, hl7, hw⟩ := hΦ
      have hw := hw hl7
      show GX E X T4 I5 R6 L 1 8 18 [some (aR (some o)), some (aI x1)] []
      intro hok
      exact gx_vret hE hR dX1_checkPage_18 (by decide) (by decide) ⟨rfl, rfl, hl7, hw⟩ hok
    · have hq9 : ∃ q8, q8 = q9 := ⟨_, rfl⟩
      obtain ⟨e8, rfl⟩ := hq9
      obtain ⟨rfl, rfl, hl12, ht13, hw⟩ := hΦ
      have hw := hw hl12 ht13
      exact gx_out hE hY (by decide) (by decide) ⟨rfl, rfl, hl12, ht13, hw⟩
  · skip
    obtain ⟨h14, h15, hT16, hN17⟩ := hw
    refine g_if_ne hE1 (tgt := 12) dX1_checkPage_5 (by decide) h14 (fun q => ?_) (fun q => ?_)
    · have hw := hT16 q
      refine g_iconst hE1 dX1_checkPage_8 ?_
      refine g_goto hE1 (tgt := 13) dX1_checkPage_9 (by decide) ?_
      exact hj_13 _ hw hok
    · have hw := hN17 q
      refine g_iconst hE1 dX1_checkPage_12 ?_
      exact hj_13 _ hw hok

/-- WhalingLogs$Archive.checkForEntry(II)V -/
def wx_X1_checkForEntry (X : XT) (o : Nat) (x1 : Int) (x2 : Int) (T : xT) (I : xI) (R : xR) (L : xL) (Q : xT → xI → xR → Prop) (Y : Nat → xT → xI → xR → Prop) : Prop :=
  xtag T o = 2 ∧ wx_X1_checkPage X o x1 T I R L (fun (T2 : xT) (I3 : xI) (R4 : xR) => tle T T2 → 
    wx_X0_isIn X x2 0 5 T2 I3 R4 L (fun (r6 : Int) => 
    jn1 (fun (y0_19 : Int) => 
        wx_X0_refuse X y0_19 1 x2 T2 I3 R4 L (fun (T8 : xT) (I9 : xI) (R10 : xR) => tle T2 T8 → 
          Q T8 I9 R10)
          (fun (e12 : Nat) (T13 : xT) (I14 : xI) (R15 : xR) => tle T2 T13 → xtag T13 e12 = 14 → 
          Y e12 T13 I14 R15))
      (fun (J_19 : Int → Prop) =>
      cEq r6 0
        (
        J_19 1)
        (
        J_19 0))))
    (fun (e22 : Nat) (T23 : xT) (I24 : xI) (R25 : xR) => tle T T23 → xtag T23 e22 = 14 → 
    Y e22 T23 I24 R25)
theorem hx_X1_checkForEntry : yX1_checkForEntry.cls = RX1 ∧ yX1_checkForEntry.cls ≠ "java/lang/invoke/MethodHandle" ∧ yX1_checkForEntry.cls ≠ "java/lang/invoke/VarHandle" ∧ (parseMethodDescriptor yX1_checkForEntry.desc).map (fun d => d.parameters.length) = some 2 := by decide +kernel
set_option maxHeartbeats 4000000 in
theorem tx_X1_checkForEntry (X : XT) {o : Nat} {x1 : Int} {x2 : Int} {T : xT} {I : xI} {R : xR} {L : xL} {Q : xT → xI → xR → Prop} {Y : Nat → xT → xI → xR → Prop} (hw : wx_X1_checkForEntry X o x1 x2 T I R L Q Y) : CtY X yX1_checkForEntry cX1_checkForEntry 3 none (rmX 6 2 16 133) [aR (some o), aI x1, aI x2] T I R L (PXvTIR T I R L Q) (PYTIR T I R L "WhalingLogs$Refused" 14 Y) := by
  refine CtY.intro (by decide) (Nat.le_of_ble_eq_true rfl) (fun E hE hR hY hN => ?_)
  have hRm := hR.rm
  have hE : OkX E X RX1 cX1_checkForEntry 3 none := hE
  have hE1 := hE.1
  show GX E X T I R L 0 0 0 [some (aR (some o)), some (aI x1), some (aI x2)] []
  unfold wx_X1_checkForEntry at hw
  intro hok
  refine g_aldn0 hE1 dX1_checkForEntry_0 ?_
  refine g_ildn1 hE1 dX1_checkForEntry_1 ?_
  obtain ⟨ht1, hw⟩ := hw
  refine gy_callV hE hRm (As := [aI x1]) ht1 (by decide) (by decide) rfl hx_X1_checkPage (tx_X1_checkPage X hw) (lw_V q1260 q1262 qs21 q95 q1263) ⟨by decide, by decide⟩ ⟨(by decide), (by decide)⟩ rfl (Nat.le_of_ble_eq_true rfl) dX1_checkForEntry_2 rfl (fun r9 T2 I3 R4 Lz hΦ => ?_) (fun Ec q9 T23 I24 R25 Lz hΦ => ?_) hok
  · obtain ⟨rfl, rfl, hl5, hw⟩ := hΦ
    have hw := hw hl5
    show GX E X T2 I3 R4 L 1 8 5 [some (aR (some o)), some (aI x1), some (aI x2)] []
    intro hok
    refine g_ildn2 hE1 dX1_checkForEntry_5 ?_
    refine g_iconst hE1 dX1_checkForEntry_6 ?_
    refine g_iconst hE1 dX1_checkForEntry_7 ?_
    refine gx_callSN hE hRm (As := [aI x2, aI 0, aI 5]) hx_X0_isIn (tx_X0_isIn X hw) (lw_meth q394) q1268 q94 q393 ⟨by decide, by decide⟩ ⟨(by decide), (by decide)⟩ rfl (Nat.le_of_ble_eq_true rfl) dX1_checkForEntry_8 rfl (fun r9 Tz Iz Rz Lz hΦ => ?_) hok
    obtain ⟨r6, rfl, rfl, rfl, rfl, rfl, hw⟩ := hΦ
    show GX E X T2 I3 R4 L 1 8 11 [some (aR (some o)), some (aI x1), some (aI x2)] [aI r6]
    intro hok
    refine jn1_walk (fun (y0_19 : Int) => GX E X T2 I3 R4 L 1 8 19 [some (aR (some o)), some (aI x1), some (aI x2)] [aI y0_19]) hw (fun y0_19 hw => ?_) (fun J_19 hj_19 hw => ?_)
    · intro hok
      refine g_iconst hE1 dX1_checkForEntry_19 ?_
      refine g_ildn2 hE1 dX1_checkForEntry_20 ?_
      refine gy_callSN hE hRm (As := [aI y0_19, aI 1, aI x2]) hx_X0_refuse (tx_X0_refuse X hw) (lw_meth q1104) q1102 q94 q1103 ⟨by decide, by decide⟩ ⟨(by decide), (by decide)⟩ rfl (Nat.le_of_ble_eq_true rfl) dX1_checkForEntry_21 rfl (fun r9 T8 I9 R10 Lz hΦ => ?_) (fun Ec q9 T13 I14 R15 Lz hΦ => ?_) hok
      · obtain ⟨rfl, rfl, hl11, hw⟩ := hΦ
        have hw := hw hl11
        show GX E X T8 I9 R10 L 2 16 24 [some (aR (some o)), some (aI x1), some (aI x2)] []
        intro hok
        exact gx_vret hE hR dX1_checkForEntry_24 (by decide) (by decide) ⟨rfl, rfl, (hl5.tr hl11), hw⟩ hok
      · have hq9 : ∃ q8, q8 = q9 := ⟨_, rfl⟩
        obtain ⟨e12, rfl⟩ := hq9
        obtain ⟨rfl, rfl, hl16, ht17, hw⟩ := hΦ
        have hw := hw hl16 ht17
        exact gx_out hE hY (by decide) (by decide) ⟨rfl, rfl, (hl5.tr hl16), ht17, hw⟩
    · skip
      obtain ⟨h18, h19, hT20, hN21⟩ := hw
      refine g_if_ne hE1 (tgt := 18) dX1_checkForEntry_11 (by decide) h18 (fun q => ?_) (fun q => ?_)
      · have hw := hT20 q
        refine g_iconst hE1 dX1_checkForEntry_14 ?_
        refine g_goto hE1 (tgt := 19) dX1_checkForEntry_15 (by decide) ?_
        exact hj_19 _ hw hok
      · have hw := hN21 q
        refine g_iconst hE1 dX1_checkForEntry_18 ?_
        exact hj_19 _ hw hok
  · have hq9 : ∃ q8, q8 = q9 := ⟨_, rfl⟩
    obtain ⟨e22, rfl⟩ := hq9
    obtain ⟨rfl, rfl, hl26, ht27, hw⟩ := hΦ
    have hw := hw hl26 ht27
    exact gx_out hE hY (by decide) (by decide) ⟨rfl, rfl, hl26, ht27, hw⟩

/-- java/util/LinkedList.isElementIndex(I)Z -/
def wx_J4_isElementIndex (X : XT) (o : Nat) (x1 : Int) (T : xT) (I : xI) (R : xR) (L : xL) (Q : Int → Prop) : Prop :=
  jn1 (fun (y0_17 : Int) => 
      bl y0_17 ∧ Q y0_17)
    (fun (J_17 : Int → Prop) =>
    jn0 (
        J_17 0)
      (fun (J_16 : Prop) =>
      cLt x1 0
        (
        J_16)
        (
        xtag T o = 4 ∧
        cLt x1 (I o 1)
          (
          J_17 1)
          (
          J_16))))
theorem hx_J4_isElementIndex : yJ4_isElementIndex.cls = RJ4 ∧ yJ4_isElementIndex.cls ≠ "java/lang/invoke/MethodHandle" ∧ yJ4_isElementIndex.cls ≠ "java/lang/invoke/VarHandle" ∧ (parseMethodDescriptor yJ4_isElementIndex.desc).map (fun d => d.parameters.length) = some 1 := by decide +kernel
set_option maxHeartbeats 4000000 in
theorem tx_J4_isElementIndex (X : XT) {o : Nat} {x1 : Int} {T : xT} {I : xI} {R : xR} {L : xL} {Q : Int → Prop} (hw : wx_J4_isElementIndex X o x1 T I R L Q) : CtX X yJ4_isElementIndex cJ4_isElementIndex 2 (some .boolean) (rmX 0 0 0 0) [aR (some o), aI x1] T I R L (PXi T I R L Q) := by
  refine CtX.intro (by decide) (Nat.le_of_ble_eq_true rfl) (fun E hE hR hN => ?_)
  have hRm := hR.rm
  have hE : OkX E X RJ4 cJ4_isElementIndex 2 (some .boolean) := hE
  have hE1 := hE.1
  show GX E X T I R L 0 0 0 [some (aR (some o)), some (aI x1)] []
  unfold wx_J4_isElementIndex at hw
  intro hok
  refine g_ildn1 hE1 dJ4_isElementIndex_0 ?_
  refine jn1_walk (fun (y0_17 : Int) => GX E X T I R L 0 0 17 [some (aR (some o)), some (aI x1)] [aI y0_17]) hw (fun y0_17 hw => ?_) (fun J_17 hj_17 hw => ?_)
  · intro hok
    obtain ⟨h1, hw⟩ := hw
    exact gx_iret hE hR dJ4_isElementIndex_17 (by decide) (by decide) (narrow_bl h1) ⟨_, rfl, rfl, rfl, rfl, rfl, hw⟩ hok
  · skip
    refine jn0_walk (GX E X T I R L 0 0 16 [some (aR (some o)), some (aI x1)] []) hw (fun  hw => ?_) (fun J_16 hj_16 hw => ?_)
    · intro hok
      refine g_iconst hE1 dJ4_isElementIndex_16 ?_
      exact hj_17 _ hw hok
    · skip
      obtain ⟨h7, h8, hT9, hN10⟩ := hw
      refine g_if_lt hE1 (tgt := 16) dJ4_isElementIndex_1 (by decide) h7 (fun q => ?_) (fun q => ?_)
      · have hw := hT9 q
        exact hj_16  hw hok
      · have hw := hN10 q
        refine g_ildn1 hE1 dJ4_isElementIndex_4 ?_
        refine g_aldn0 hE1 dJ4_isElementIndex_5 ?_
        obtain ⟨ht2, hw⟩ := hw
        refine gx_geti hE in_J4 (t := 4) rfl (by decide) 1 1 rfl (by decide) rfl (by decide) rfl q198 (Or.inl rfl) ht2 dJ4_isElementIndex_6 ?_ hok
        intro hok
        obtain ⟨h3, h4, hT5, hN6⟩ := hw
        refine g_icmp_ge hE1 (tgt := 16) dJ4_isElementIndex_9 (by decide) h3 h4 (fun q => ?_) (fun q => ?_)
        · have hw := hT5 q
          refine g_iconst hE1 dJ4_isElementIndex_12 ?_
          refine g_goto hE1 (tgt := 17) dJ4_isElementIndex_13 (by decide) ?_
          exact hj_17 _ hw hok
        · have hw := hN6 q
          exact hj_16  hw hok

/-- java/util/LinkedList.checkElementIndex(I)V -/
def wx_J4_checkElementIndex (X : XT) (o : Nat) (x1 : Int) (T : xT) (I : xI) (R : xR) (L : xL) (Q : Prop) : Prop :=
  xtag T o = 4 ∧ wx_J4_isElementIndex X o x1 T I R L (fun (r2 : Int) => 
  cEq r2 0
    (
    False)
    (
    Q))
theorem hx_J4_checkElementIndex : yJ4_checkElementIndex.cls = RJ4 ∧ yJ4_checkElementIndex.cls ≠ "java/lang/invoke/MethodHandle" ∧ yJ4_checkElementIndex.cls ≠ "java/lang/invoke/VarHandle" ∧ (parseMethodDescriptor yJ4_checkElementIndex.desc).map (fun d => d.parameters.length) = some 1 := by decide +kernel
set_option maxHeartbeats 4000000 in
theorem tx_J4_checkElementIndex (X : XT) {o : Nat} {x1 : Int} {T : xT} {I : xI} {R : xR} {L : xL} {Q : Prop} (hw : wx_J4_checkElementIndex X o x1 T I R L Q) : CtX X yJ4_checkElementIndex cJ4_checkElementIndex 2 none (rmX 1 0 0 21) [aR (some o), aI x1] T I R L (PXv T I R L Q) := by
  refine CtX.intro (by decide) (Nat.le_of_ble_eq_true rfl) (fun E hE hR hN => ?_)
  have hRm := hR.rm
  have hE : OkX E X RJ4 cJ4_checkElementIndex 2 none := hE
  have hE1 := hE.1
  show GX E X T I R L 0 0 0 [some (aR (some o)), some (aI x1)] []
  unfold wx_J4_checkElementIndex at hw
  intro hok
  refine g_aldn0 hE1 dJ4_checkElementIndex_0 ?_
  refine g_ildn1 hE1 dJ4_checkElementIndex_1 ?_
  obtain ⟨ht1, hw⟩ := hw
  refine gx_callV hE hRm (As := [aI x1]) ht1 (by decide) (by decide) rfl hx_J4_isElementIndex (tx_J4_isElementIndex X hw) (lw_V q602 q604 qs7 q100 q605) ⟨by decide, by decide⟩ ⟨(by decide), (by decide)⟩ rfl (Nat.le_of_ble_eq_true rfl) dJ4_checkElementIndex_2 rfl (fun r9 Tz Iz Rz Lz hΦ => ?_) hok
  obtain ⟨r2, rfl, rfl, rfl, rfl, rfl, hw⟩ := hΦ
  show GX E X T I R L 0 0 5 [some (aR (some o)), some (aI x1)] [aI r2]
  intro hok
  obtain ⟨h4, h5, hT6, hN7⟩ := hw
  refine g_if_ne hE1 (tgt := 21) dJ4_checkElementIndex_5 (by decide) h4 (fun q => ?_) (fun q => ?_)
  · have hw := hT6 q
    exact hw.elim
  · have hw := hN7 q
    exact gx_vret hE hR dJ4_checkElementIndex_21 (by decide) (by decide) ⟨rfl, rfl, rfl, rfl, rfl, hw⟩ hok

/-- java/util/LinkedList.get(I)Ljava/lang/Object; -/
def wx_J4_get (X : XT) (o : Nat) (x1 : Int) (T : xT) (I : xI) (R : xR) (L : xL) (Q : Option Nat → Prop) : Prop :=
  xtag T o = 4 ∧ wx_J4_checkElementIndex X o x1 T I R L (
  wx_J4_node X o x1 T I R L (fun (r3 : Option Nat) => 
  ∃ b5 : Nat, r3 = some b5 ∧ xtag T b5 = 13 ∧
  Q (R b5 0)))
theorem hx_J4_get : yJ4_get.cls = RJ4 ∧ yJ4_get.cls ≠ "java/lang/invoke/MethodHandle" ∧ yJ4_get.cls ≠ "java/lang/invoke/VarHandle" ∧ (parseMethodDescriptor yJ4_get.desc).map (fun d => d.parameters.length) = some 1 := by decide +kernel
set_option maxHeartbeats 4000000 in
theorem tx_J4_get (X : XT) {o : Nat} {x1 : Int} {T : xT} {I : xI} {R : xR} {L : xL} {Q : Option Nat → Prop} (hw : wx_J4_get X o x1 T I R L Q) : CtX X yJ4_get cJ4_get 2 (some (.object "java/lang/Object")) (rmX 2 0 0 42) [aR (some o), aI x1] T I R L (PXq T I R L Q) := by
  refine CtX.intro (by decide) (Nat.le_of_ble_eq_true rfl) (fun E hE hR hN => ?_)
  have hRm := hR.rm
  have hE : OkX E X RJ4 cJ4_get 2 (some (.object "java/lang/Object")) := hE
  have hE1 := hE.1
  show GX E X T I R L 0 0 0 [some (aR (some o)), some (aI x1)] []
  unfold wx_J4_get at hw
  intro hok
  refine g_aldn0 hE1 dJ4_get_0 ?_
  refine g_ildn1 hE1 dJ4_get_1 ?_
  obtain ⟨ht1, hw⟩ := hw
  refine gx_callV hE hRm (As := [aI x1]) ht1 (by decide) (by decide) rfl hx_J4_checkElementIndex (tx_J4_checkElementIndex X hw) (lw_V q598 q600 qs6 q100 q601) ⟨by decide, by decide⟩ ⟨(by decide), (by decide)⟩ rfl (Nat.le_of_ble_eq_true rfl) dJ4_get_2 rfl (fun r9 Tz Iz Rz Lz hΦ => ?_) hok
  obtain ⟨rfl, rfl, rfl, rfl, rfl, hw⟩ := hΦ
  show GX E X T I R L 0 0 5 [some (aR (some o)), some (aI x1)] []
  intro hok
  refine g_aldn0 hE1 dJ4_get_5 ?_
  refine g_ildn1 hE1 dJ4_get_6 ?_
  refine gx_callV hE hRm (As := [aI x1]) ht1 (by decide) (by decide) rfl hx_J4_node (tx_J4_node X hw) (lw_V q606 q504 q505 q100 q506) ⟨by decide, by decide⟩ ⟨(by decide), (by decide)⟩ rfl (Nat.le_of_ble_eq_true rfl) dJ4_get_7 rfl (fun r9 Tz Iz Rz Lz hΦ => ?_) hok
  obtain ⟨r3, rfl, rfl, rfl, rfl, rfl, hw⟩ := hΦ
  show GX E X T I R L 0 0 10 [some (aR (some o)), some (aI x1)] [aR r3]
  intro hok
  obtain ⟨b5, hb6, hw⟩ := hw
  rw [hb6]
  obtain ⟨ht7, hw⟩ := hw
  refine gx_getr hE in_J25 (t := 13) rfl (by decide) 0 0 rfl (by decide) rfl (by decide) rfl q1059 (Or.inl rfl) ht7 dJ4_get_10 ?_ hok
  intro hok
  exact gx_aret hE hR dJ4_get_13 (by decide) (by decide) (Or.inl ⟨_, rfl⟩) ⟨_, rfl, rfl, rfl, rfl, rfl, hw⟩ hok

/-- WhalingLogs$Archive.addsEntry(IIII)I -/
def wx_X1_addsEntry (X : XT) (o : Nat) (x1 : Int) (x2 : Int) (x3 : Int) (x4 : Int) (T : xT) (I : xI) (R : xR) (L : xL) (Q : Int → xT → xI → xR → Prop) (Y : Nat → xT → xI → xR → Prop) : Prop :=
  xtag T o = 2 ∧
  ∃ b2 : Nat, R o 1 = some b2 ∧ xtag T b2 = 4 ∧ wx_J4_get X b2 x1 T I R L (fun (r5 : Option Nat) => 
  ∃ b7 : Nat, r5 = some b7 ∧ xtag T b7 = 10 ∧
  ∃ b10 : Nat, R b7 1 = some b10 ∧ xtag T b10 = 11 ∧ wx_J24_size X b10 T I R L (fun (r13 : Int) => 
  jn1 (fun (y0_30 : Int) => 
      wx_X0_refuse X y0_30 2 3 T I R L (fun (T15 : xT) (I16 : xI) (R17 : xR) => tle T T15 → 
        ∀ q20 : Nat, xtag T15 q20 = 0 → bsX X ≤ q20 → ∀ T23 : xT, T23 = xnew T15 q20 12 0 →
        wx_X6_init X q20 x2 x3 x4 T23 I16 R17 L (fun (I26 : xI) => 
        ∃ b28 : Nat, R17 b7 1 = some b28 ∧ xtag T23 b28 = 11 ∧ wx_J24_add X b28 (some q20) T23 I26 R17 L (fun (r31 : Int) (I32 : xI) (R33 : xR) => 
        ∃ b36 : Nat, R33 b7 1 = some b36 ∧ xtag T23 b36 = 11 ∧ wx_J24_size X b36 T23 I32 R33 L (fun (r39 : Int) => 
        Q (r39 - 1) T23 I32 R33))))
        (fun (e41 : Nat) (T42 : xT) (I43 : xI) (R44 : xR) => tle T T42 → xtag T42 e41 = 14 → 
        Y e41 T42 I43 R44))
    (fun (J_30 : Int → Prop) =>
    cEq r13 3
      (
      J_30 1)
      (
      J_30 0))))
theorem hx_X1_addsEntry : yX1_addsEntry.cls = RX1 ∧ yX1_addsEntry.cls ≠ "java/lang/invoke/MethodHandle" ∧ yX1_addsEntry.cls ≠ "java/lang/invoke/VarHandle" ∧ (parseMethodDescriptor yX1_addsEntry.desc).map (fun d => d.parameters.length) = some 4 := by decide +kernel
set_option maxHeartbeats 4000000 in
theorem tx_X1_addsEntry (X : XT) {o : Nat} {x1 : Int} {x2 : Int} {x3 : Int} {x4 : Int} {T : xT} {I : xI} {R : xR} {L : xL} {Q : Int → xT → xI → xR → Prop} {Y : Nat → xT → xI → xR → Prop} (hw : wx_X1_addsEntry X o x1 x2 x3 x4 T I R L Q Y) : CtY X yX1_addsEntry cX1_addsEntry 6 (some .int) (rmX 5 2 12 112) [aR (some o), aI x1, aI x2, aI x3, aI x4] T I R L (PXiTIR T I R L Q) (PYTIR T I R L "WhalingLogs$Refused" 14 Y) := by
  refine CtY.intro (by decide) (Nat.le_of_ble_eq_true rfl) (fun E hE hR hY hN => ?_)
  have hRm := hR.rm
  have hE : OkX E X RX1 cX1_addsEntry 6 (some .int) := hE
  have hE1 := hE.1
  show GX E X T I R L 0 0 0 [some (aR (some o)), some (aI x1), some (aI x2), some (aI x3), some (aI x4), none] []
  unfold wx_X1_addsEntry at hw
  intro hok
  refine g_aldn0 hE1 dX1_addsEntry_0 ?_
  obtain ⟨ht1, hw⟩ := hw
  refine gx_getr hE in_X1 (t := 2) rfl (by decide) 1 1 rfl (by decide) rfl (by decide) rfl q223 (Or.inl rfl) ht1 dX1_addsEntry_1 ?_ hok
  intro hok
  refine g_ildn1 hE1 dX1_addsEntry_4 ?_
  obtain ⟨b2, hb3, hw⟩ := hw
  rw [hb3]
  obtain ⟨ht4, hw⟩ := hw
  refine gx_callV hE hRm (As := [aI x1]) ht4 (by decide) (by decide) rfl hx_J4_get (tx_J4_get X hw) (lw_V q1273 q596 q2595 q100 q597) ⟨by decide, by decide⟩ ⟨(by decide), (by decide)⟩ rfl (Nat.le_of_ble_eq_true rfl) dX1_addsEntry_5 rfl (fun r9 Tz Iz Rz Lz hΦ => ?_) hok
  obtain ⟨r5, rfl, rfl, rfl, rfl, rfl, hw⟩ := hΦ
  show GX E X T I R L 0 0 8 [some (aR (some o)), some (aI x1), some (aI x2), some (aI x3), some (aI x4), none] [aR r5]
  intro hok
  obtain ⟨b7, hb8, hw⟩ := hw
  rw [hb8]
  obtain ⟨ht9, hw⟩ := hw
  refine gx_castS hE ht9 (by decide) (by decide) rfl q933 dX1_addsEntry_8 ?_ hok
  intro hok
  refine g_ast5 hE1 dX1_addsEntry_11 (by decide) rfl ?_
  refine g_ald5 hE1 dX1_addsEntry_13 ?_
  refine gx_getrN hE in_X5 (t := 10) rfl (by decide) 1 1 rfl (by decide) rfl (by decide) rfl q966 (Or.inl rfl) ht9 dX1_addsEntry_15 ?_ hok
  intro hok
  obtain ⟨b10, hb11, hw⟩ := hw
  rw [hb11]
  obtain ⟨ht12, hw⟩ := hw
  refine gx_callV hE hRm (As := []) ht12 (by decide) (by decide) rfl hx_J24_size (tx_J24_size X hw) (lw_V q1274 q538 q2592 q126 q539) ⟨by decide, by decide⟩ ⟨(by decide), (by decide)⟩ rfl (Nat.le_of_ble_eq_true rfl) dX1_addsEntry_18 rfl (fun r9 Tz Iz Rz Lz hΦ => ?_) hok
  obtain ⟨r13, rfl, rfl, rfl, rfl, rfl, hw⟩ := hΦ
  show GX E X T I R L 0 0 21 [some (aR (some o)), some (aI x1), some (aI x2), some (aI x3), some (aI x4), some (aR (some b7))] [aI r13]
  intro hok
  refine g_iconst hE1 dX1_addsEntry_21 ?_
  refine jn1_walk (fun (y0_30 : Int) => GX E X T I R L 0 0 30 [some (aR (some o)), some (aI x1), some (aI x2), some (aI x3), some (aI x4), some (aR (some b7))] [aI y0_30]) hw (fun y0_30 hw => ?_) (fun J_30 hj_30 hw => ?_)
  · intro hok
    refine g_iconst hE1 dX1_addsEntry_30 ?_
    refine g_iconst hE1 dX1_addsEntry_31 ?_
    refine gy_callSN hE hRm (As := [aI y0_30, aI 2, aI 3]) hx_X0_refuse (tx_X0_refuse X hw) (lw_meth q1104) q1102 q94 q1103 ⟨by decide, by decide⟩ ⟨(by decide), (by decide)⟩ rfl (Nat.le_of_ble_eq_true rfl) dX1_addsEntry_32 rfl (fun r9 T15 I16 R17 Lz hΦ => ?_) (fun Ec q9 T42 I43 R44 Lz hΦ => ?_) hok
    · obtain ⟨rfl, rfl, hl18, hw⟩ := hΦ
      have hw := hw hl18
      show GX E X T15 I16 R17 L 1 8 35 [some (aR (some o)), some (aI x1), some (aI x2), some (aI x3), some (aI x4), some (aR (some b7))] []
      intro hok
      refine g_ald5 hE1 dX1_addsEntry_35 ?_
      have ht19 := hl18.tag ht9 (by decide)
      refine gx_getrN hE in_X5 (t := 10) rfl (by decide) 1 1 rfl (by decide) rfl (by decide) rfl q966 (Or.inl rfl) ht19 dX1_addsEntry_37 ?_ hok
      intro hok
      refine gx_new hE hRm in_X6 tyX6 tyX6_ok (t := 12) rfl (by decide) (by decide) rfl (by decide) q1275 q986 q127 (by decide) (by decide) dX1_addsEntry_40 (fun q20 hq21 hbs22 => ?_) hok
      intro hok
      have hw := hw q20 hq21 hbs22 _ rfl
      have hl24 := tle.new (T := T15) (q := q20) (t := 12) (n := 0) hq21
      have hT25 : xtag (xnew T15 q20 12 0) q20 = 12 := if_pos rfl
      generalize xnew T15 q20 12 0 = T23 at hw hl24 hok hT25 ⊢
      refine g_dup hE1 dX1_addsEntry_43 rfl ?_
      refine g_ildn2 hE1 dX1_addsEntry_44 ?_
      refine g_ildn3 hE1 dX1_addsEntry_45 ?_
      refine g_ild4 hE1 dX1_addsEntry_46 ?_
      refine gx_callI hE hRm (As := [aI x2, aI x3, aI x4]) (b := q20) hx_X6_init (lw_meth q989) q1276 q127 q988 rfl (tx_X6_init X hw) ⟨by decide, by decide⟩ ⟨(by decide), (by decide)⟩ rfl (Nat.le_of_ble_eq_true rfl) dX1_addsEntry_48 rfl (fun r9 Tz I26 Rz Lz hΦ => ?_) hok
      obtain ⟨rfl, rfl, rfl, rfl, hw⟩ := hΦ
      show GX E X T23 I26 R17 L 2 12 51 [some (aR (some o)), some (aI x1), some (aI x2), some (aI x3), some (aI x4), some (aR (some b7))] [aR (some q20), aR (R17 b7 1)]
      intro hok
      obtain ⟨b28, hb29, hw⟩ := hw
      rw [hb29]
      obtain ⟨ht30, hw⟩ := hw
      refine gx_callV hE hRm (As := [aR (some q20)]) ht30 (by decide) (by decide) rfl hx_J24_add (tx_J24_add X hw) (lw_V q1277 q1015 q1016 q126 q1017) ⟨by decide, by decide⟩ ⟨(by decide), (by decide)⟩ rfl (Nat.le_of_ble_eq_true rfl) dX1_addsEntry_51 rfl (fun r9 Tz I32 R33 Lz hΦ => ?_) hok
      obtain ⟨r31, rfl, rfl, rfl, hw⟩ := hΦ
      show GX E X T23 I32 R33 L 2 12 54 [some (aR (some o)), some (aI x1), some (aI x2), some (aI x3), some (aI x4), some (aR (some b7))] [aI r31]
      intro hok
      refine g_pop hE1 dX1_addsEntry_54 rfl ?_
      refine g_ald5 hE1 dX1_addsEntry_55 ?_
      have ht35 := (hl18.tr hl24).tag ht9 (by decide)
      refine gx_getrN hE in_X5 (t := 10) rfl (by decide) 1 1 rfl (by decide) rfl (by decide) rfl q966 (Or.inl rfl) ht35 dX1_addsEntry_57 ?_ hok
      intro hok
      obtain ⟨b36, hb37, hw⟩ := hw
      rw [hb37]
      obtain ⟨ht38, hw⟩ := hw
      refine gx_callV hE hRm (As := []) ht38 (by decide) (by decide) rfl hx_J24_size (tx_J24_size X hw) (lw_V q1274 q538 q2592 q126 q539) ⟨by decide, by decide⟩ ⟨(by decide), (by decide)⟩ rfl (Nat.le_of_ble_eq_true rfl) dX1_addsEntry_60 rfl (fun r9 Tz Iz Rz Lz hΦ => ?_) hok
      obtain ⟨r39, rfl, rfl, rfl, rfl, rfl, hw⟩ := hΦ
      show GX E X T23 I32 R33 L 2 12 63 [some (aR (some o)), some (aI x1), some (aI x2), some (aI x3), some (aI x4), some (aR (some b7))] [aI r39]
      intro hok
      refine g_iconst hE1 dX1_addsEntry_63 ?_
      refine g_isub hE1 dX1_addsEntry_64 ?_
      exact gx_iret hE hR dX1_addsEntry_65 (by decide) (by decide) rfl ⟨_, rfl, rfl, (hl18.tr hl24), hw⟩ hok
    · have hq9 : ∃ q8, q8 = q9 := ⟨_, rfl⟩
      obtain ⟨e41, rfl⟩ := hq9
      obtain ⟨rfl, rfl, hl45, ht46, hw⟩ := hΦ
      have hw := hw hl45 ht46
      exact gx_out hE hY (by decide) (by decide) ⟨rfl, rfl, hl45, ht46, hw⟩
  · skip
    obtain ⟨h47, h48, hT49, hN50⟩ := hw
    refine g_icmp_ne hE1 (tgt := 29) dX1_addsEntry_22 (by decide) h47 h48 (fun q => ?_) (fun q => ?_)
    · have hw := hT49 q
      refine g_iconst hE1 dX1_addsEntry_25 ?_
      refine g_goto hE1 (tgt := 30) dX1_addsEntry_26 (by decide) ?_
      exact hj_30 _ hw hok
    · have hw := hN50 q
      refine g_iconst hE1 dX1_addsEntry_29 ?_
      exact hj_30 _ hw hok

