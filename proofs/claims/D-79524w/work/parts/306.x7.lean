set_option maxRecDepth 100000
/-- WhalingLogs$Listing.nextOf(I)I -/
def wx_X3_nextOf (X : XT) (o : Nat) (x1 : Int) (T : xT) (I : xI) (R : xR) (L : xL) (Q : Int → Prop) : Prop :=
  lq2 (fun (x2_6 : Int) (x3_6 : Int) (K_6 : Int → Int → Prop) =>
    xtag T o = 7 ∧
    cLt x3_6 (I o 7)
      (
      wx_X3_isOnWater X o x3_6 T I R L (fun (r2 : Int) => 
      jn1 (fun (y0_41 : Int) => 
          jn1 (fun (y0_73 : Int) => 
              K_6 y0_73 (x3_6 + 1))
            (fun (J_73 : Int → Prop) =>
            jn0 (
                J_73 x2_6)
              (fun (J_72 : Prop) =>
              cEq y0_41 0
                (
                J_72)
                (
                jn0 (
                    J_73 x3_6)
                  (fun (J_68 : Prop) =>
                  cEq x2_6 (-1)
                    (
                    J_68)
                    (
                    ∃ b4 : Nat, R o 4 = some b4 ∧ xtag T b4 = 100 ∧ ib x3_6 (xlen T b4) ∧ xlen T b4 < 2147483648 ∧
                    ∃ b9 : Nat, R o 4 = some b9 ∧ xtag T b9 = 100 ∧ ib x2_6 (xlen T b9) ∧ xlen T b9 < 2147483648 ∧
                    cLt (I b9 x2_6) (I b4 x3_6)
                      (
                      J_68)
                      (
                      J_72)))))))
        (fun (J_41 : Int → Prop) =>
        jn0 (
            J_41 0)
          (fun (J_40 : Prop) =>
          cEq r2 0
            (
            J_40)
            (
            jn0 (
                J_41 1)
              (fun (J_36 : Prop) =>
              cEq x1 (-1)
                (
                J_36)
                (
                wx_X3_canBoth X o x1 x3_6 T I R L (fun (r26 : Int) => 
                cEq r26 0
                  (
                  J_40)
                  (
                  J_36)))))))))
      (
      Q x2_6)) (-1) (x1 + 1)
theorem hx_X3_nextOf : yX3_nextOf.cls = RX3 ∧ yX3_nextOf.cls ≠ "java/lang/invoke/MethodHandle" ∧ yX3_nextOf.cls ≠ "java/lang/invoke/VarHandle" ∧ (parseMethodDescriptor yX3_nextOf.desc).map (fun d => d.parameters.length) = some 1 := by decide +kernel
set_option maxHeartbeats 4000000 in
theorem tx_X3_nextOf (X : XT) {o : Nat} {x1 : Int} {T : xT} {I : xI} {R : xR} {L : xL} {Q : Int → Prop} (hw : wx_X3_nextOf X o x1 T I R L Q) : CtX X yX3_nextOf cX3_nextOf 5 (some .int) (rmX 3 0 0 86) [aR (some o), aI x1] T I R L (PXi T I R L Q) := by
  refine CtX.intro (by decide) (Nat.le_of_ble_eq_true rfl) (fun E hE hR hN => ?_)
  have hRm := hR.rm
  have hE : OkX E X RX3 cX3_nextOf 5 (some .int) := hE
  have hE1 := hE.1
  show GX E X T I R L 0 0 0 [some (aR (some o)), some (aI x1), none, none, none] []
  unfold wx_X3_nextOf at hw
  intro hok
  refine g_iconst hE1 dX3_nextOf_0 ?_
  refine g_istn2 hE1 dX3_nextOf_1 (by decide) rfl ?_
  refine g_ildn1 hE1 dX3_nextOf_2 ?_
  refine g_iconst hE1 dX3_nextOf_3 ?_
  refine g_iadd hE1 dX3_nextOf_4 ?_
  refine g_istn3 hE1 dX3_nextOf_5 (by decide) rfl ?_
  refine lq2_walk (fun (x2_6 : Int) (x3_6 : Int) => GX E X T I R L 0 0 6 [some (aR (some o)), some (aI x1), some (aI x2_6), some (aI x3_6), none] []) (fun K_6 hk_6 x2_6 x3_6 hw => ?_) _ _ hw hok
  intro hok
  refine g_ildn3 hE1 dX3_nextOf_6 ?_
  refine g_aldn0 hE1 dX3_nextOf_7 ?_
  obtain ⟨ht1, hw⟩ := hw
  refine gx_geti hE in_X3 (t := 7) rfl (by decide) 7 7 rfl (by decide) rfl (by decide) rfl q297 (Or.inl rfl) ht1 dX3_nextOf_8 ?_ hok
  intro hok
  obtain ⟨h40, h41, hT42, hN43⟩ := hw
  refine g_icmp_ge hE1 (tgt := 80) dX3_nextOf_11 (by decide) h40 h41 (fun q => ?_) (fun q => ?_)
  · have hw := hT42 q
    refine g_aldn0 hE1 dX3_nextOf_14 ?_
    refine g_ildn3 hE1 dX3_nextOf_15 ?_
    refine gx_callV hE hRm (As := [aI x3_6]) ht1 (by decide) (by decide) rfl hx_X3_isOnWater (tx_X3_isOnWater X hw) (lw_V q1426 q1427 q1428 q103 q1429) ⟨by decide, by decide⟩ ⟨(by decide), (by decide)⟩ rfl (Nat.le_of_ble_eq_true rfl) dX3_nextOf_16 rfl (fun r9 Tz Iz Rz Lz hΦ => ?_) hok
    obtain ⟨r2, rfl, rfl, rfl, rfl, rfl, hw⟩ := hΦ
    show GX E X T I R L 0 0 19 [some (aR (some o)), some (aI x1), some (aI x2_6), some (aI x3_6), none] [aI r2]
    intro hok
    refine jn1_walk (fun (y0_41 : Int) => GX E X T I R L 0 0 41 [some (aR (some o)), some (aI x1), some (aI x2_6), some (aI x3_6), none] [aI y0_41]) hw (fun y0_41 hw => ?_) (fun J_41 hj_41 hw => ?_)
    · intro hok
      refine g_ist4 hE1 dX3_nextOf_41 (by decide) rfl ?_
      refine g_ild4 hE1 dX3_nextOf_43 ?_
      refine jn1_walk (fun (y0_73 : Int) => GX E X T I R L 0 0 73 [some (aR (some o)), some (aI x1), some (aI x2_6), some (aI x3_6), some (aI y0_41)] [aI y0_73]) hw (fun y0_73 hw => ?_) (fun J_73 hj_73 hw => ?_)
      · intro hok
        refine g_istn2 hE1 dX3_nextOf_73 (by decide) rfl ?_
        refine g_iinc3 hE1 dX3_nextOf_74 (by decide) rfl ?_
        refine g_goto hE1 (tgt := 6) dX3_nextOf_77 (by decide) ?_
        refine g_kl4 ?_
        exact hk_6 _ _ hw hok
      · skip
        refine jn0_walk (GX E X T I R L 0 0 72 [some (aR (some o)), some (aI x1), some (aI x2_6), some (aI x3_6), some (aI y0_41)] []) hw (fun  hw => ?_) (fun J_72 hj_72 hw => ?_)
        · intro hok
          refine g_ildn2 hE1 dX3_nextOf_72 ?_
          exact hj_73 _ hw hok
        · skip
          obtain ⟨h22, h23, hT24, hN25⟩ := hw
          refine g_if_eq hE1 (tgt := 72) dX3_nextOf_45 (by decide) h22 (fun q => ?_) (fun q => ?_)
          · have hw := hT24 q
            exact hj_72  hw hok
          · have hw := hN25 q
            refine g_ildn2 hE1 dX3_nextOf_48 ?_
            refine g_iconst hE1 dX3_nextOf_49 ?_
            refine jn0_walk (GX E X T I R L 0 0 68 [some (aR (some o)), some (aI x1), some (aI x2_6), some (aI x3_6), some (aI y0_41)] []) hw (fun  hw => ?_) (fun J_68 hj_68 hw => ?_)
            · intro hok
              refine g_ildn3 hE1 dX3_nextOf_68 ?_
              refine g_goto hE1 (tgt := 73) dX3_nextOf_69 (by decide) ?_
              exact hj_73 _ hw hok
            · skip
              obtain ⟨h18, h19, hT20, hN21⟩ := hw
              refine g_icmp_eq hE1 (tgt := 68) dX3_nextOf_50 (by decide) h18 h19 (fun q => ?_) (fun q => ?_)
              · have hw := hT20 q
                exact hj_68  hw hok
              · have hw := hN21 q
                refine g_aldn0 hE1 dX3_nextOf_53 ?_
                refine gx_getr hE in_X3 (t := 7) rfl (by decide) 4 4 rfl (by decide) rfl (by decide) rfl q293 (Or.inl rfl) ht1 dX3_nextOf_54 ?_ hok
                intro hok
                refine g_ildn3 hE1 dX3_nextOf_57 ?_
                obtain ⟨b4, hb5, hw⟩ := hw
                rw [hb5]
                obtain ⟨ht6, hw⟩ := hw
                obtain ⟨h7, h8, hw⟩ := hw
                refine gx_iald hE ht6 h7 h8 dX3_nextOf_58 ?_ hok
                intro hok
                refine g_aldn0 hE1 dX3_nextOf_59 ?_
                refine gx_getr hE in_X3 (t := 7) rfl (by decide) 4 4 rfl (by decide) rfl (by decide) rfl q293 (Or.inl rfl) ht1 dX3_nextOf_60 ?_ hok
                intro hok
                refine g_ildn2 hE1 dX3_nextOf_63 ?_
                obtain ⟨b9, hb10, hw⟩ := hw
                rw [hb10]
                obtain ⟨ht11, hw⟩ := hw
                obtain ⟨h12, h13, hw⟩ := hw
                refine gx_iald hE ht11 h12 h13 dX3_nextOf_64 ?_ hok
                intro hok
                obtain ⟨h14, h15, hT16, hN17⟩ := hw
                refine g_icmp_le hE1 (tgt := 72) dX3_nextOf_65 (by decide) h15 h14 (fun q => ?_) (fun q => ?_)
                · have hw := hT16 q
                  exact hj_68  hw hok
                · have hw := hN17 q
                  exact hj_72  hw hok
    · skip
      refine jn0_walk (GX E X T I R L 0 0 40 [some (aR (some o)), some (aI x1), some (aI x2_6), some (aI x3_6), none] []) hw (fun  hw => ?_) (fun J_40 hj_40 hw => ?_)
      · intro hok
        refine g_iconst hE1 dX3_nextOf_40 ?_
        exact hj_41 _ hw hok
      · skip
        obtain ⟨h36, h37, hT38, hN39⟩ := hw
        refine g_if_eq hE1 (tgt := 40) dX3_nextOf_19 (by decide) h36 (fun q => ?_) (fun q => ?_)
        · have hw := hT38 q
          exact hj_40  hw hok
        · have hw := hN39 q
          refine g_ildn1 hE1 dX3_nextOf_22 ?_
          refine g_iconst hE1 dX3_nextOf_23 ?_
          refine jn0_walk (GX E X T I R L 0 0 36 [some (aR (some o)), some (aI x1), some (aI x2_6), some (aI x3_6), none] []) hw (fun  hw => ?_) (fun J_36 hj_36 hw => ?_)
          · intro hok
            refine g_iconst hE1 dX3_nextOf_36 ?_
            refine g_goto hE1 (tgt := 41) dX3_nextOf_37 (by decide) ?_
            exact hj_41 _ hw hok
          · skip
            obtain ⟨h32, h33, hT34, hN35⟩ := hw
            refine g_icmp_eq hE1 (tgt := 36) dX3_nextOf_24 (by decide) h32 h33 (fun q => ?_) (fun q => ?_)
            · have hw := hT34 q
              exact hj_36  hw hok
            · have hw := hN35 q
              refine g_aldn0 hE1 dX3_nextOf_27 ?_
              refine g_ildn1 hE1 dX3_nextOf_28 ?_
              refine g_ildn3 hE1 dX3_nextOf_29 ?_
              refine gx_callV hE hRm (As := [aI x1, aI x3_6]) ht1 (by decide) (by decide) rfl hx_X3_canBoth (tx_X3_canBoth X hw) (lw_V q1431 q1432 q1433 q103 q1434) ⟨by decide, by decide⟩ ⟨(by decide), (by decide)⟩ rfl (Nat.le_of_ble_eq_true rfl) dX3_nextOf_30 rfl (fun r9 Tz Iz Rz Lz hΦ => ?_) hok
              obtain ⟨r26, rfl, rfl, rfl, rfl, rfl, hw⟩ := hΦ
              show GX E X T I R L 0 0 33 [some (aR (some o)), some (aI x1), some (aI x2_6), some (aI x3_6), none] [aI r26]
              intro hok
              obtain ⟨h28, h29, hT30, hN31⟩ := hw
              refine g_if_eq hE1 (tgt := 40) dX3_nextOf_33 (by decide) h28 (fun q => ?_) (fun q => ?_)
              · have hw := hT30 q
                exact hj_40  hw hok
              · have hw := hN31 q
                exact hj_36  hw hok
  · have hw := hN43 q
    refine g_ildn2 hE1 dX3_nextOf_80 ?_
    exact gx_iret hE hR dX3_nextOf_81 (by decide) (by decide) rfl ⟨_, rfl, rfl, rfl, rfl, rfl, hw⟩ hok

/-- WhalingLogs$Listing.weight(I)I -/
def wx_X3_weight (X : XT) (o : Nat) (x1 : Int) (T : xT) (I : xI) (R : xR) (L : xL) (Q : Int → Prop) : Prop :=
  xtag T o = 7 ∧
  ∃ b2 : Nat, R o 0 = some b2 ∧ xtag T b2 = 104 ∧ ib x1 (xlen T b2) ∧ xlen T b2 < 2147483648 ∧
  ∃ b7 : Nat, R b2 x1 = some b7 ∧ xtag T b7 = 12 ∧
  ∃ b10 : Nat, R o 6 = some b10 ∧ xtag T b10 = 2 ∧ wx_X1_weight X b10 (I b7 2) T I R L (fun (r13 : Int) => 
  Q r13)
theorem hx_X3_weight : yX3_weight.cls = RX3 ∧ yX3_weight.cls ≠ "java/lang/invoke/MethodHandle" ∧ yX3_weight.cls ≠ "java/lang/invoke/VarHandle" ∧ (parseMethodDescriptor yX3_weight.desc).map (fun d => d.parameters.length) = some 1 := by decide +kernel
set_option maxHeartbeats 4000000 in
theorem tx_X3_weight (X : XT) {o : Nat} {x1 : Int} {T : xT} {I : xI} {R : xR} {L : xL} {Q : Int → Prop} (hw : wx_X3_weight X o x1 T I R L Q) : CtX X yX3_weight cX3_weight 2 (some .int) (rmX 1 0 0 21) [aR (some o), aI x1] T I R L (PXi T I R L Q) := by
  refine CtX.intro (by decide) (Nat.le_of_ble_eq_true rfl) (fun E hE hR hN => ?_)
  have hRm := hR.rm
  have hE : OkX E X RX3 cX3_weight 2 (some .int) := hE
  have hE1 := hE.1
  show GX E X T I R L 0 0 0 [some (aR (some o)), some (aI x1)] []
  unfold wx_X3_weight at hw
  intro hok
  refine g_aldn0 hE1 dX3_weight_0 ?_
  obtain ⟨ht1, hw⟩ := hw
  refine gx_getr hE in_X3 (t := 7) rfl (by decide) 6 6 rfl (by decide) rfl (by decide) rfl q296 (Or.inl rfl) ht1 dX3_weight_1 ?_ hok
  intro hok
  refine g_aldn0 hE1 dX3_weight_4 ?_
  refine gx_getr hE in_X3 (t := 7) rfl (by decide) 0 0 rfl (by decide) rfl (by decide) rfl q286 (Or.inl rfl) ht1 dX3_weight_5 ?_ hok
  intro hok
  refine g_ildn1 hE1 dX3_weight_8 ?_
  obtain ⟨b2, hb3, hw⟩ := hw
  rw [hb3]
  obtain ⟨ht4, hw⟩ := hw
  obtain ⟨h5, h6, hw⟩ := hw
  refine gx_aald hE ht4 (by decide) h5 h6 dX3_weight_9 ?_ hok
  intro hok
  obtain ⟨b7, hb8, hw⟩ := hw
  rw [hb8]
  obtain ⟨ht9, hw⟩ := hw
  refine gx_getiN hE in_X6 (t := 12) rfl (by decide) 2 2 rfl (by decide) rfl (by decide) rfl q998 (Or.inl rfl) ht9 dX3_weight_10 ?_ hok
  intro hok
  obtain ⟨b10, hb11, hw⟩ := hw
  rw [hb11]
  obtain ⟨ht12, hw⟩ := hw
  refine gx_callV hE hRm (As := [aI (I b7 2)]) ht12 (by decide) (by decide) rfl hx_X1_weight (tx_X1_weight X hw) (lw_V q1444 q1368 q1369 q95 q1370) ⟨by decide, by decide⟩ ⟨(by decide), (by decide)⟩ rfl (Nat.le_of_ble_eq_true rfl) dX3_weight_13 rfl (fun r9 Tz Iz Rz Lz hΦ => ?_) hok
  obtain ⟨r13, rfl, rfl, rfl, rfl, rfl, hw⟩ := hΦ
  show GX E X T I R L 0 0 16 [some (aR (some o)), some (aI x1)] [aI r13]
  intro hok
  exact gx_iret hE hR dX3_weight_16 (by decide) (by decide) rfl ⟨_, rfl, rfl, rfl, rfl, rfl, hw⟩ hok

/-- WhalingLogs$Listing.tracks()LWhalingLogs$Listing; -/
def wx_X3_tracks (X : XT) (o : Nat)  (T : xT) (I : xI) (R : xR) (L : xL) (Q : Option Nat → xI → Prop) : Prop :=
  xtag T o = 7 ∧
  lq2 (fun (x1_7 : Int) (I_7 : xI) (K_7 : Int → xI → Prop) =>
    cLt x1_7 0
      (
      ∀ I2 : xI, I2 = uI I_7 o 8 0 →
      wx_X3_nextOf X o (-1) T I2 R L (fun (r3 : Int) => 
      lq2 (fun (x1_61 : Int) (I_61 : xI) (K_61 : Int → xI → Prop) =>
        cEq x1_61 (-1)
          (
          Q (some o) I_61)
          (
          ∃ b5 : Nat, R o 5 = some b5 ∧ xtag T b5 = 100 ∧ ib (I_61 o 8) (xlen T b5) ∧ xlen T b5 < 2147483648 ∧ ∀ I10 : xI, I10 = uI I_61 b5 (I_61 o 8) x1_61 →
          ∀ I11 : xI, I11 = uI I10 o 8 ((I10 o 8) + 1) →
          wx_X3_nextOf X o x1_61 T I11 R L (fun (r12 : Int) => 
          K_61 r12 I11))) r3 I2))
      (
      wx_X3_nextOf X o x1_7 T I_7 R L (fun (r18 : Int) => 
      wx_X3_weight X o x1_7 T I_7 R L (fun (r20 : Int) => 
      jn1 (fun (y3_42 : Int) => 
          ∃ b22 : Nat, R o 4 = some b22 ∧ xtag T b22 = 100 ∧ ib x1_7 (xlen T b22) ∧ xlen T b22 < 2147483648 ∧ ∀ I27 : xI, I27 = uI I_7 b22 x1_7 (r20 + y3_42) →
          K_7 (x1_7 + (-1)) I27)
        (fun (J_42 : Int → Prop) =>
        cEq r18 (-1)
          (
          J_42 0)
          (
          ∃ b28 : Nat, R o 4 = some b28 ∧ xtag T b28 = 100 ∧ ib r18 (xlen T b28) ∧ xlen T b28 < 2147483648 ∧
          J_42 (I_7 b28 r18))))))) ((I o 7) - 1) I
theorem hx_X3_tracks : yX3_tracks.cls = RX3 ∧ yX3_tracks.cls ≠ "java/lang/invoke/MethodHandle" ∧ yX3_tracks.cls ≠ "java/lang/invoke/VarHandle" ∧ (parseMethodDescriptor yX3_tracks.desc).map (fun d => d.parameters.length) = some 0 := by decide +kernel
set_option maxHeartbeats 4000000 in
theorem tx_X3_tracks (X : XT) {o : Nat}  {T : xT} {I : xI} {R : xR} {L : xL} {Q : Option Nat → xI → Prop} (hw : wx_X3_tracks X o T I R L Q) : CtX X yX3_tracks cX3_tracks 3 (some (.object "WhalingLogs$Listing")) (rmX 4 0 0 110) [aR (some o)] T I R L (PXqI T I R L Q) := by
  refine CtX.intro (by decide) (Nat.le_of_ble_eq_true rfl) (fun E hE hR hN => ?_)
  have hRm := hR.rm
  have hE : OkX E X RX3 cX3_tracks 3 (some (.object "WhalingLogs$Listing")) := hE
  have hE1 := hE.1
  show GX E X T I R L 0 0 0 [some (aR (some o)), none, none] []
  unfold wx_X3_tracks at hw
  intro hok
  refine g_aldn0 hE1 dX3_tracks_0 ?_
  obtain ⟨ht1, hw⟩ := hw
  refine gx_geti hE in_X3 (t := 7) rfl (by decide) 7 7 rfl (by decide) rfl (by decide) rfl q297 (Or.inl rfl) ht1 dX3_tracks_1 ?_ hok
  intro hok
  refine g_iconst hE1 dX3_tracks_4 ?_
  refine g_isub hE1 dX3_tracks_5 ?_
  refine g_istn1 hE1 dX3_tracks_6 (by decide) rfl ?_
  refine lq2_walk (fun (x1_7 : Int) (I_7 : xI) => GX E X T I_7 R L 0 0 7 [some (aR (some o)), some (aI x1_7), none] []) (fun K_7 hk_7 x1_7 I_7 hw => ?_) _ _ hw hok
  intro hok
  refine g_ildn1 hE1 dX3_tracks_7 ?_
  obtain ⟨h37, h38, hT39, hN40⟩ := hw
  refine g_if_lt hE1 (tgt := 50) dX3_tracks_8 (by decide) h37 (fun q => ?_) (fun q => ?_)
  · have hw := hT39 q
    refine g_aldn0 hE1 dX3_tracks_50 ?_
    refine g_iconst hE1 dX3_tracks_51 ?_
    refine gx_puti hE in_X3 (t := 7) rfl (by decide) 8 8 rfl (by decide) rfl (by decide) (ty := tyX3 8) tyX3 tyX3_ok nmX3 rfl q299 (Or.inl rfl) rfl (tyX3_ok 8 (by decide)) rfl rfl ht1 dX3_tracks_52 ?_ hok
    intro hok
    have hw := hw _ rfl
    generalize uI I_7 o 8 0 = I2 at hw hok ⊢
    refine g_aldn0 hE1 dX3_tracks_55 ?_
    refine g_iconst hE1 dX3_tracks_56 ?_
    refine gx_callV hE hRm (As := [aI (-1)]) ht1 (by decide) (by decide) rfl hx_X3_nextOf (tx_X3_nextOf X hw) (lw_V q1422 q1424 qs26 q103 q1425) ⟨by decide, by decide⟩ ⟨(by decide), (by decide)⟩ rfl (Nat.le_of_ble_eq_true rfl) dX3_tracks_57 rfl (fun r9 Tz Iz Rz Lz hΦ => ?_) hok
    obtain ⟨r3, rfl, rfl, rfl, rfl, rfl, hw⟩ := hΦ
    show GX E X T I2 R L 0 0 60 [some (aR (some o)), some (aI x1_7), none] [aI r3]
    intro hok
    refine g_istn1 hE1 dX3_tracks_60 (by decide) rfl ?_
    refine lq2_walk (fun (x1_61 : Int) (I_61 : xI) => GX E X T I_61 R L 0 0 61 [some (aR (some o)), some (aI x1_61), none] []) (fun K_61 hk_61 x1_61 I_61 hw => ?_) _ _ hw hok
    intro hok
    refine g_ildn1 hE1 dX3_tracks_61 ?_
    refine g_iconst hE1 dX3_tracks_62 ?_
    obtain ⟨h14, h15, hT16, hN17⟩ := hw
    refine g_icmp_eq hE1 (tgt := 95) dX3_tracks_63 (by decide) h14 h15 (fun q => ?_) (fun q => ?_)
    · have hw := hT16 q
      refine g_aldn0 hE1 dX3_tracks_95 ?_
      exact gx_aret hE hR dX3_tracks_96 (by decide) (by decide) (Or.inl ⟨_, rfl⟩) ⟨_, rfl, rfl, rfl, rfl, hw⟩ hok
    · have hw := hN17 q
      refine g_aldn0 hE1 dX3_tracks_66 ?_
      refine gx_getr hE in_X3 (t := 7) rfl (by decide) 5 5 rfl (by decide) rfl (by decide) rfl q294 (Or.inl rfl) ht1 dX3_tracks_67 ?_ hok
      intro hok
      refine g_aldn0 hE1 dX3_tracks_70 ?_
      refine gx_geti hE in_X3 (t := 7) rfl (by decide) 8 8 rfl (by decide) rfl (by decide) rfl q299 (Or.inl rfl) ht1 dX3_tracks_71 ?_ hok
      intro hok
      refine g_ildn1 hE1 dX3_tracks_74 ?_
      obtain ⟨b5, hb6, hw⟩ := hw
      rw [hb6]
      obtain ⟨ht7, hw⟩ := hw
      obtain ⟨h8, h9, hw⟩ := hw
      refine gx_iast hE ht7 h8 h9 dX3_tracks_75 ?_ hok
      intro hok
      have hw := hw _ rfl
      generalize uI I_61 b5 (I_61 o 8) x1_61 = I10 at hw hok ⊢
      refine g_aldn0 hE1 dX3_tracks_76 ?_
      refine g_dup hE1 dX3_tracks_77 rfl ?_
      refine gx_geti hE in_X3 (t := 7) rfl (by decide) 8 8 rfl (by decide) rfl (by decide) rfl q299 (Or.inl rfl) ht1 dX3_tracks_78 ?_ hok
      intro hok
      refine g_iconst hE1 dX3_tracks_81 ?_
      refine g_iadd hE1 dX3_tracks_82 ?_
      refine gx_puti hE in_X3 (t := 7) rfl (by decide) 8 8 rfl (by decide) rfl (by decide) (ty := tyX3 8) tyX3 tyX3_ok nmX3 rfl q299 (Or.inl rfl) rfl (tyX3_ok 8 (by decide)) rfl rfl ht1 dX3_tracks_83 ?_ hok
      intro hok
      have hw := hw _ rfl
      generalize uI I10 o 8 ((I10 o 8) + 1) = I11 at hw hok ⊢
      refine g_aldn0 hE1 dX3_tracks_86 ?_
      refine g_ildn1 hE1 dX3_tracks_87 ?_
      refine gx_callV hE hRm (As := [aI x1_61]) ht1 (by decide) (by decide) rfl hx_X3_nextOf (tx_X3_nextOf X hw) (lw_V q1422 q1424 qs26 q103 q1425) ⟨by decide, by decide⟩ ⟨(by decide), (by decide)⟩ rfl (Nat.le_of_ble_eq_true rfl) dX3_tracks_88 rfl (fun r9 Tz Iz Rz Lz hΦ => ?_) hok
      obtain ⟨r12, rfl, rfl, rfl, rfl, rfl, hw⟩ := hΦ
      show GX E X T I11 R L 0 0 91 [some (aR (some o)), some (aI x1_61), none] [aI r12]
      intro hok
      refine g_istn1 hE1 dX3_tracks_91 (by decide) rfl ?_
      refine g_goto hE1 (tgt := 61) dX3_tracks_92 (by decide) ?_
      exact hk_61 _ _ hw hok
  · have hw := hN40 q
    refine g_aldn0 hE1 dX3_tracks_11 ?_
    refine g_ildn1 hE1 dX3_tracks_12 ?_
    refine gx_callV hE hRm (As := [aI x1_7]) ht1 (by decide) (by decide) rfl hx_X3_nextOf (tx_X3_nextOf X hw) (lw_V q1422 q1424 qs26 q103 q1425) ⟨by decide, by decide⟩ ⟨(by decide), (by decide)⟩ rfl (Nat.le_of_ble_eq_true rfl) dX3_tracks_13 rfl (fun r9 Tz Iz Rz Lz hΦ => ?_) hok
    obtain ⟨r18, rfl, rfl, rfl, rfl, rfl, hw⟩ := hΦ
    show GX E X T I_7 R L 0 0 16 [some (aR (some o)), some (aI x1_7), none] [aI r18]
    intro hok
    refine g_istn2 hE1 dX3_tracks_16 (by decide) rfl ?_
    refine g_aldn0 hE1 dX3_tracks_17 ?_
    refine gx_getr hE in_X3 (t := 7) rfl (by decide) 4 4 rfl (by decide) rfl (by decide) rfl q293 (Or.inl rfl) ht1 dX3_tracks_18 ?_ hok
    intro hok
    refine g_ildn1 hE1 dX3_tracks_21 ?_
    refine g_aldn0 hE1 dX3_tracks_22 ?_
    refine g_ildn1 hE1 dX3_tracks_23 ?_
    refine gx_callV hE hRm (As := [aI x1_7]) ht1 (by decide) (by decide) rfl hx_X3_weight (tx_X3_weight X hw) (lw_V q1440 q1441 q1442 q103 q1443) ⟨by decide, by decide⟩ ⟨(by decide), (by decide)⟩ rfl (Nat.le_of_ble_eq_true rfl) dX3_tracks_24 rfl (fun r9 Tz Iz Rz Lz hΦ => ?_) hok
    obtain ⟨r20, rfl, rfl, rfl, rfl, rfl, hw⟩ := hΦ
    show GX E X T I_7 R L 0 0 27 [some (aR (some o)), some (aI x1_7), some (aI r18)] [aI r20, aI x1_7, aR (R o 4)]
    intro hok
    refine g_ildn2 hE1 dX3_tracks_27 ?_
    refine g_iconst hE1 dX3_tracks_28 ?_
    refine jn1_walk (fun (y3_42 : Int) => GX E X T I_7 R L 0 0 42 [some (aR (some o)), some (aI x1_7), some (aI r18)] [aI y3_42, aI r20, aI x1_7, aR (R o 4)]) hw (fun y3_42 hw => ?_) (fun J_42 hj_42 hw => ?_)
    · intro hok
      refine g_iadd hE1 dX3_tracks_42 ?_
      obtain ⟨b22, hb23, hw⟩ := hw
      rw [hb23]
      obtain ⟨ht24, hw⟩ := hw
      obtain ⟨h25, h26, hw⟩ := hw
      refine gx_iast hE ht24 h25 h26 dX3_tracks_43 ?_ hok
      intro hok
      have hw := hw _ rfl
      generalize uI I_7 b22 x1_7 (r20 + y3_42) = I27 at hw hok ⊢
      refine g_iinc1 hE1 dX3_tracks_44 (by decide) rfl ?_
      refine g_goto hE1 (tgt := 7) dX3_tracks_47 (by decide) ?_
      refine g_kl2 ?_
      exact hk_7 _ _ hw hok
    · skip
      obtain ⟨h33, h34, hT35, hN36⟩ := hw
      refine g_icmp_ne hE1 (tgt := 36) dX3_tracks_29 (by decide) h33 h34 (fun q => ?_) (fun q => ?_)
      · have hw := hT35 q
        refine g_iconst hE1 dX3_tracks_32 ?_
        refine g_goto hE1 (tgt := 42) dX3_tracks_33 (by decide) ?_
        exact hj_42 _ hw hok
      · have hw := hN36 q
        refine g_aldn0 hE1 dX3_tracks_36 ?_
        refine gx_getr hE in_X3 (t := 7) rfl (by decide) 4 4 rfl (by decide) rfl (by decide) rfl q293 (Or.inl rfl) ht1 dX3_tracks_37 ?_ hok
        intro hok
        refine g_ildn2 hE1 dX3_tracks_40 ?_
        obtain ⟨b28, hb29, hw⟩ := hw
        rw [hb29]
        obtain ⟨ht30, hw⟩ := hw
        obtain ⟨h31, h32, hw⟩ := hw
        refine gx_iald hE ht30 h31 h32 dX3_tracks_41 ?_ hok
        intro hok
        simpa only [hb29] using hj_42 _ hw hok

/-- WhalingLogs.tracked()LWhalingLogs$Listing; -/
def wx_X0_tracked (X : XT) (o : Nat)  (T : xT) (I : xI) (R : xR) (L : xL) (Q : Option Nat → xT → xI → xR → Prop) : Prop :=
  xtag T o = 1 ∧ wx_X0_spread X o T I R L (fun (r2 : Option Nat) (T3 : xT) (I4 : xI) (R5 : xR) => tle T T3 → 
  ∃ b7 : Nat, r2 = some b7 ∧ xtag T3 b7 = 7 ∧ wx_X3_tracks X b7 T3 I4 R5 L (fun (r10 : Option Nat) (I11 : xI) => 
  Q r10 T3 I11 R5))
theorem hx_X0_tracked : yX0_tracked.cls = RX0 ∧ yX0_tracked.cls ≠ "java/lang/invoke/MethodHandle" ∧ yX0_tracked.cls ≠ "java/lang/invoke/VarHandle" ∧ (parseMethodDescriptor yX0_tracked.desc).map (fun d => d.parameters.length) = some 0 := by decide +kernel
set_option maxHeartbeats 4000000 in
theorem tx_X0_tracked (X : XT) {o : Nat}  {T : xT} {I : xI} {R : xR} {L : xL} {Q : Option Nat → xT → xI → xR → Prop} (hw : wx_X0_tracked X o T I R L Q) : CtX X yX0_tracked cX0_tracked 1 (some (.object "WhalingLogs$Listing")) (rmX 8 1 5 171) [aR (some o)] T I R L (PXqTIR T I R L Q) := by
  refine CtX.intro (by decide) (Nat.le_of_ble_eq_true rfl) (fun E hE hR hN => ?_)
  have hRm := hR.rm
  have hE : OkX E X RX0 cX0_tracked 1 (some (.object "WhalingLogs$Listing")) := hE
  have hE1 := hE.1
  show GX E X T I R L 0 0 0 [some (aR (some o))] []
  unfold wx_X0_tracked at hw
  intro hok
  refine g_aldn0 hE1 dX0_tracked_0 ?_
  obtain ⟨ht1, hw⟩ := hw
  refine gx_callV hE hRm (As := []) ht1 (by decide) (by decide) rfl hx_X0_spread (tx_X0_spread X hw) (lw_V q1409 q1411 qs25 q94 q1412) ⟨by decide, by decide⟩ ⟨(by decide), (by decide)⟩ rfl (Nat.le_of_ble_eq_true rfl) dX0_tracked_1 rfl (fun r9 T3 I4 R5 Lz hΦ => ?_) hok
  obtain ⟨r2, rfl, rfl, hl6, hw⟩ := hΦ
  have hw := hw hl6
  show GX E X T3 I4 R5 L 1 5 4 [some (aR (some o))] [aR r2]
  intro hok
  obtain ⟨b7, hb8, hw⟩ := hw
  rw [hb8]
  obtain ⟨ht9, hw⟩ := hw
  refine gx_callV hE hRm (As := []) ht9 (by decide) (by decide) rfl hx_X3_tracks (tx_X3_tracks X hw) (lw_V q1418 q1419 q1420 q103 q1421) ⟨by decide, by decide⟩ ⟨(by decide), (by decide)⟩ rfl (Nat.le_of_ble_eq_true rfl) dX0_tracked_4 rfl (fun r9 Tz I11 Rz Lz hΦ => ?_) hok
  obtain ⟨r10, rfl, rfl, rfl, rfl, hw⟩ := hΦ
  show GX E X T3 I11 R5 L 1 5 7 [some (aR (some o))] [aR r10]
  intro hok
  exact gx_aret hE hR dX0_tracked_7 (by decide) (by decide) (Or.inl ⟨_, rfl⟩) ⟨_, rfl, rfl, hl6, hw⟩ hok

/-- WhalingLogs$Listing.isOnTrack(I)Z -/
def wx_X3_isOnTrack (X : XT) (o : Nat) (x1 : Int) (T : xT) (I : xI) (R : xR) (L : xL) (Q : Int → Prop) : Prop :=
  lq2 (fun (x2_4 : Int) (x3_4 : Int) (K_4 : Int → Int → Prop) =>
    xtag T o = 7 ∧
    cLt x3_4 (I o 8)
      (
      ∃ b2 : Nat, R o 5 = some b2 ∧ xtag T b2 = 100 ∧ ib x3_4 (xlen T b2) ∧ xlen T b2 < 2147483648 ∧
      jn1 (fun (y1_28 : Int) => 
          K_4 (bOr x2_4 y1_28) (x3_4 + 1))
        (fun (J_28 : Int → Prop) =>
        cEq (I b2 x3_4) x1
          (
          J_28 1)
          (
          J_28 0)))
      (
      bl x2_4 ∧ Q x2_4)) 0 0
theorem hx_X3_isOnTrack : yX3_isOnTrack.cls = RX3 ∧ yX3_isOnTrack.cls ≠ "java/lang/invoke/MethodHandle" ∧ yX3_isOnTrack.cls ≠ "java/lang/invoke/VarHandle" ∧ (parseMethodDescriptor yX3_isOnTrack.desc).map (fun d => d.parameters.length) = some 1 := by decide +kernel
set_option maxHeartbeats 4000000 in
theorem tx_X3_isOnTrack (X : XT) {o : Nat} {x1 : Int} {T : xT} {I : xI} {R : xR} {L : xL} {Q : Int → Prop} (hw : wx_X3_isOnTrack X o x1 T I R L Q) : CtX X yX3_isOnTrack cX3_isOnTrack 4 (some .boolean) (rmX 0 0 0 0) [aR (some o), aI x1] T I R L (PXi T I R L Q) := by
  refine CtX.intro (by decide) (Nat.le_of_ble_eq_true rfl) (fun E hE hR hN => ?_)
  have hRm := hR.rm
  have hE : OkX E X RX3 cX3_isOnTrack 4 (some .boolean) := hE
  have hE1 := hE.1
  show GX E X T I R L 0 0 0 [some (aR (some o)), some (aI x1), none, none] []
  unfold wx_X3_isOnTrack at hw
  intro hok
  refine g_iconst hE1 dX3_isOnTrack_0 ?_
  refine g_istn2 hE1 dX3_isOnTrack_1 (by decide) rfl ?_
  refine g_iconst hE1 dX3_isOnTrack_2 ?_
  refine g_istn3 hE1 dX3_isOnTrack_3 (by decide) rfl ?_
  refine lq2_walk (fun (x2_4 : Int) (x3_4 : Int) => GX E X T I R L 0 0 4 [some (aR (some o)), some (aI x1), some (aI x2_4), some (aI x3_4)] []) (fun K_4 hk_4 x2_4 x3_4 hw => ?_) _ _ hw hok
  intro hok
  refine g_ildn3 hE1 dX3_isOnTrack_4 ?_
  refine g_aldn0 hE1 dX3_isOnTrack_5 ?_
  obtain ⟨ht1, hw⟩ := hw
  refine gx_geti hE in_X3 (t := 7) rfl (by decide) 8 8 rfl (by decide) rfl (by decide) rfl q299 (Or.inl rfl) ht1 dX3_isOnTrack_6 ?_ hok
  intro hok
  obtain ⟨h12, h13, hT14, hN15⟩ := hw
  refine g_icmp_ge hE1 (tgt := 36) dX3_isOnTrack_9 (by decide) h12 h13 (fun q => ?_) (fun q => ?_)
  · have hw := hT14 q
    refine g_ildn2 hE1 dX3_isOnTrack_12 ?_
    refine g_aldn0 hE1 dX3_isOnTrack_13 ?_
    refine gx_getr hE in_X3 (t := 7) rfl (by decide) 5 5 rfl (by decide) rfl (by decide) rfl q294 (Or.inl rfl) ht1 dX3_isOnTrack_14 ?_ hok
    intro hok
    refine g_ildn3 hE1 dX3_isOnTrack_17 ?_
    obtain ⟨b2, hb3, hw⟩ := hw
    rw [hb3]
    obtain ⟨ht4, hw⟩ := hw
    obtain ⟨h5, h6, hw⟩ := hw
    refine gx_iald hE ht4 h5 h6 dX3_isOnTrack_18 ?_ hok
    intro hok
    refine g_ildn1 hE1 dX3_isOnTrack_19 ?_
    refine jn1_walk (fun (y1_28 : Int) => GX E X T I R L 0 0 28 [some (aR (some o)), some (aI x1), some (aI x2_4), some (aI x3_4)] [aI y1_28, aI x2_4]) hw (fun y1_28 hw => ?_) (fun J_28 hj_28 hw => ?_)
    · intro hok
      refine g_ior hE1 dX3_isOnTrack_28 ?_
      refine g_istn2 hE1 dX3_isOnTrack_29 (by decide) rfl ?_
      refine g_iinc3 hE1 dX3_isOnTrack_30 (by decide) rfl ?_
      refine g_goto hE1 (tgt := 4) dX3_isOnTrack_33 (by decide) ?_
      exact hk_4 _ _ hw hok
    · skip
      obtain ⟨h7, h8, hT9, hN10⟩ := hw
      refine g_icmp_ne hE1 (tgt := 27) dX3_isOnTrack_20 (by decide) h7 h8 (fun q => ?_) (fun q => ?_)
      · have hw := hT9 q
        refine g_iconst hE1 dX3_isOnTrack_23 ?_
        refine g_goto hE1 (tgt := 28) dX3_isOnTrack_24 (by decide) ?_
        exact hj_28 _ hw hok
      · have hw := hN10 q
        refine g_iconst hE1 dX3_isOnTrack_27 ?_
        exact hj_28 _ hw hok
  · have hw := hN15 q
    refine g_ildn2 hE1 dX3_isOnTrack_36 ?_
    obtain ⟨h11, hw⟩ := hw
    exact gx_iret hE hR dX3_isOnTrack_37 (by decide) (by decide) (narrow_bl h11) ⟨_, rfl, rfl, rfl, rfl, rfl, hw⟩ hok

/-- WhalingLogs.knownOf(IZ)I -/
def wx_X0_knownOf (X : XT) (o : Nat) (x1 : Int) (x2 : Int) (T : xT) (I : xI) (R : xR) (L : xL) (Q : Int → xT → xI → xR → Prop) : Prop :=
  xtag T o = 1 ∧ wx_X0_tracked X o T I R L (fun (r2 : Option Nat) (T3 : xT) (I4 : xI) (R5 : xR) => tle T T3 → 
  lq2 (fun (x4_11 : Int) (x5_11 : Int) (K_11 : Int → Int → Prop) =>
    ∃ b7 : Nat, r2 = some b7 ∧ xtag T3 b7 = 7 ∧
    cLt x5_11 (I4 b7 7)
      (
      ∃ b10 : Nat, R5 b7 0 = some b10 ∧ xtag T3 b10 = 104 ∧ ib x5_11 (xlen T3 b10) ∧ xlen T3 b10 < 2147483648 ∧
      ∃ b15 : Nat, R5 b10 x5_11 = some b15 ∧ xtag T3 b15 = 12 ∧
      jn1 (fun (y1_54 : Int) => 
          K_11 (x4_11 + y1_54) (x5_11 + 1))
        (fun (J_54 : Int → Prop) =>
        jn0 (
            J_54 0)
          (fun (J_53 : Prop) =>
          cEq (I4 b15 2) x1
            (
            jn0 (
                J_54 1)
              (fun (J_49 : Prop) =>
              cEq x2 0
                (
                J_49)
                (
                wx_X3_isOnTrack X b7 x5_11 T3 I4 R5 L (fun (r18 : Int) => 
                cEq r18 0
                  (
                  J_49)
                  (
                  J_53)))))
            (
            J_53))))
      (
      Q x4_11 T3 I4 R5)) 0 0)
theorem hx_X0_knownOf : yX0_knownOf.cls = RX0 ∧ yX0_knownOf.cls ≠ "java/lang/invoke/MethodHandle" ∧ yX0_knownOf.cls ≠ "java/lang/invoke/VarHandle" ∧ (parseMethodDescriptor yX0_knownOf.desc).map (fun d => d.parameters.length) = some 2 := by decide +kernel
set_option maxHeartbeats 4000000 in
theorem tx_X0_knownOf (X : XT) {o : Nat} {x1 : Int} {x2 : Int} {T : xT} {I : xI} {R : xR} {L : xL} {Q : Int → xT → xI → xR → Prop} (hw : wx_X0_knownOf X o x1 x2 T I R L Q) : CtX X yX0_knownOf cX0_knownOf 6 (some .int) (rmX 9 1 5 191) [aR (some o), aI x1, aI x2] T I R L (PXiTIR T I R L Q) := by
  refine CtX.intro (by decide) (Nat.le_of_ble_eq_true rfl) (fun E hE hR hN => ?_)
  have hRm := hR.rm
  have hE : OkX E X RX0 cX0_knownOf 6 (some .int) := hE
  have hE1 := hE.1
  show GX E X T I R L 0 0 0 [some (aR (some o)), some (aI x1), some (aI x2), none, none, none] []
  unfold wx_X0_knownOf at hw
  intro hok
  refine g_aldn0 hE1 dX0_knownOf_0 ?_
  obtain ⟨ht1, hw⟩ := hw
  refine gx_callV hE hRm (As := []) ht1 (by decide) (by decide) rfl hx_X0_tracked (tx_X0_tracked X hw) (lw_V q1405 q1407 qs24 q94 q1408) ⟨by decide, by decide⟩ ⟨(by decide), (by decide)⟩ rfl (Nat.le_of_ble_eq_true rfl) dX0_knownOf_1 rfl (fun r9 T3 I4 R5 Lz hΦ => ?_) hok
  obtain ⟨r2, rfl, rfl, hl6, hw⟩ := hΦ
  have hw := hw hl6
  show GX E X T3 I4 R5 L 1 5 4 [some (aR (some o)), some (aI x1), some (aI x2), none, none, none] [aR r2]
  intro hok
  refine g_astn3 hE1 dX0_knownOf_4 (by decide) rfl ?_
  refine g_iconst hE1 dX0_knownOf_5 ?_
  refine g_ist4 hE1 dX0_knownOf_6 (by decide) rfl ?_
  refine g_iconst hE1 dX0_knownOf_8 ?_
  refine g_ist5 hE1 dX0_knownOf_9 (by decide) rfl ?_
  refine lq2_walk (fun (x4_11 : Int) (x5_11 : Int) => GX E X T3 I4 R5 L 1 5 11 [some (aR (some o)), some (aI x1), some (aI x2), some (aR r2), some (aI x4_11), some (aI x5_11)] []) (fun K_11 hk_11 x4_11 x5_11 hw => ?_) _ _ hw hok
  intro hok
  refine g_ild5 hE1 dX0_knownOf_11 ?_
  refine g_aldn3 hE1 dX0_knownOf_13 ?_
  obtain ⟨b7, hb8, hw⟩ := hw
  rw [hb8]
  obtain ⟨ht9, hw⟩ := hw
  refine gx_getiN hE in_X3 (t := 7) rfl (by decide) 7 7 rfl (by decide) rfl (by decide) rfl q298 (Or.inl rfl) ht9 dX0_knownOf_14 ?_ hok
  intro hok
  obtain ⟨h32, h33, hT34, hN35⟩ := hw
  refine g_icmp_ge hE1 (tgt := 63) dX0_knownOf_17 (by decide) h32 h33 (fun q => ?_) (fun q => ?_)
  · have hw := hT34 q
    refine g_ild4 hE1 dX0_knownOf_20 ?_
    refine g_aldn3 hE1 dX0_knownOf_22 ?_
    refine gx_getrN hE in_X3 (t := 7) rfl (by decide) 0 0 rfl (by decide) rfl (by decide) rfl q287 (Or.inl rfl) ht9 dX0_knownOf_23 ?_ hok
    intro hok
    refine g_ild5 hE1 dX0_knownOf_26 ?_
    obtain ⟨b10, hb11, hw⟩ := hw
    rw [hb11]
    obtain ⟨ht12, hw⟩ := hw
    obtain ⟨h13, h14, hw⟩ := hw
    refine gx_aald hE ht12 (by decide) h13 h14 dX0_knownOf_28 ?_ hok
    intro hok
    obtain ⟨b15, hb16, hw⟩ := hw
    rw [hb16]
    obtain ⟨ht17, hw⟩ := hw
    refine gx_getiN hE in_X6 (t := 12) rfl (by decide) 2 2 rfl (by decide) rfl (by decide) rfl q999 (Or.inl rfl) ht17 dX0_knownOf_29 ?_ hok
    intro hok
    refine g_ildn1 hE1 dX0_knownOf_32 ?_
    refine jn1_walk (fun (y1_54 : Int) => GX E X T3 I4 R5 L 1 5 54 [some (aR (some o)), some (aI x1), some (aI x2), some (aR (some b7)), some (aI x4_11), some (aI x5_11)] [aI y1_54, aI x4_11]) hw (fun y1_54 hw => ?_) (fun J_54 hj_54 hw => ?_)
    · intro hok
      refine g_iadd hE1 dX0_knownOf_54 ?_
      refine g_ist4 hE1 dX0_knownOf_55 (by decide) rfl ?_
      refine g_iinc5 hE1 dX0_knownOf_57 (by decide) rfl ?_
      refine g_goto hE1 (tgt := 11) dX0_knownOf_60 (by decide) ?_
      simpa only [hb8, hb11, hb16] using hk_11 _ _ hw hok
    · skip
      refine jn0_walk (GX E X T3 I4 R5 L 1 5 53 [some (aR (some o)), some (aI x1), some (aI x2), some (aR (some b7)), some (aI x4_11), some (aI x5_11)] [aI x4_11]) hw (fun  hw => ?_) (fun J_53 hj_53 hw => ?_)
      · intro hok
        refine g_iconst hE1 dX0_knownOf_53 ?_
        exact hj_54 _ hw hok
      · skip
        obtain ⟨h28, h29, hT30, hN31⟩ := hw
        refine g_icmp_ne hE1 (tgt := 53) dX0_knownOf_33 (by decide) h28 h29 (fun q => ?_) (fun q => ?_)
        · have hw := hT30 q
          refine g_ildn2 hE1 dX0_knownOf_36 ?_
          refine jn0_walk (GX E X T3 I4 R5 L 1 5 49 [some (aR (some o)), some (aI x1), some (aI x2), some (aR (some b7)), some (aI x4_11), some (aI x5_11)] [aI x4_11]) hw (fun  hw => ?_) (fun J_49 hj_49 hw => ?_)
          · intro hok
            refine g_iconst hE1 dX0_knownOf_49 ?_
            refine g_goto hE1 (tgt := 54) dX0_knownOf_50 (by decide) ?_
            exact hj_54 _ hw hok
          · skip
            obtain ⟨h24, h25, hT26, hN27⟩ := hw
            refine g_if_eq hE1 (tgt := 49) dX0_knownOf_37 (by decide) h24 (fun q => ?_) (fun q => ?_)
            · have hw := hT26 q
              exact hj_49  hw hok
            · have hw := hN27 q
              refine g_aldn3 hE1 dX0_knownOf_40 ?_
              refine g_ild5 hE1 dX0_knownOf_41 ?_
              refine gx_callV hE hRm (As := [aI x5_11]) ht9 (by decide) (by decide) rfl hx_X3_isOnTrack (tx_X3_isOnTrack X hw) (lw_V q1445 q1446 q1447 q103 q1448) ⟨by decide, by decide⟩ ⟨(by decide), (by decide)⟩ rfl (Nat.le_of_ble_eq_true rfl) dX0_knownOf_43 rfl (fun r9 Tz Iz Rz Lz hΦ => ?_) hok
              obtain ⟨r18, rfl, rfl, rfl, rfl, rfl, hw⟩ := hΦ
              show GX E X T3 I4 R5 L 1 5 46 [some (aR (some o)), some (aI x1), some (aI x2), some (aR (some b7)), some (aI x4_11), some (aI x5_11)] [aI r18, aI x4_11]
              intro hok
              obtain ⟨h20, h21, hT22, hN23⟩ := hw
              refine g_if_ne hE1 (tgt := 53) dX0_knownOf_46 (by decide) h20 (fun q => ?_) (fun q => ?_)
              · have hw := hT22 q
                exact hj_49  hw hok
              · have hw := hN23 q
                exact hj_53  hw hok
        · have hw := hN31 q
          exact hj_53  hw hok
  · have hw := hN35 q
    refine g_ild4 hE1 dX0_knownOf_63 ?_
    exact gx_iret hE hR dX0_knownOf_65 (by decide) (by decide) rfl ⟨_, rfl, rfl, hl6, hw⟩ hok

/-- WhalingLogs.witnessOf(II)I -/
def wx_X0_witnessOf (X : XT) (o : Nat) (x1 : Int) (x2 : Int) (T : xT) (I : xI) (R : xR) (L : xL) (Q : Int → xT → xI → xR → Prop) : Prop :=
  wx_X0_isIn X x1 0 5 T I R L (fun (r1 : Int) => 
  cEq r1 0
    (
    Q (-1) T I R)
    (
    jn6 (fun (T_87 : xT) (I_87 : xI) (R_87 : xR) (k_87 : Nat) (n_87 : Nat) (y0_87 : Int) => 
        Q y0_87 T_87 I_87 R_87)
      (fun (J_87 : xT → xI → xR → Nat → Nat → Int → Prop) =>
      inR x2 ∧ ((x2 < 0 ∨ 3 < x2) →
        J_87 T I R 0 0 (-2)) ∧
      (x2 = 0 →
        xtag T o = 1 ∧
        ∃ b6 : Nat, R o 0 = some b6 ∧ xtag T b6 = 2 ∧
        ∃ b9 : Nat, R b6 3 = some b9 ∧ xtag T b9 = 100 ∧ ib x1 (xlen T b9) ∧ xlen T b9 < 2147483648 ∧
        J_87 T I R 0 0 (I b9 x1)) ∧
      (x2 = 1 →
        xtag T o = 1 ∧
        ∃ b16 : Nat, R o 0 = some b16 ∧ xtag T b16 = 2 ∧ wx_X1_weight X b16 x1 T I R L (fun (r19 : Int) => 
        J_87 T I R 0 0 r19)) ∧
      (x2 = 2 →
        xtag T o = 1 ∧ wx_X0_knownOf X o x1 0 T I R L (fun (r23 : Int) (T24 : xT) (I25 : xI) (R26 : xR) => tle T T24 → 
        J_87 T24 I25 R26 1 5 r23)) ∧
      (x2 = 3 →
        xtag T o = 1 ∧ wx_X0_knownOf X o x1 1 T I R L (fun (r30 : Int) (T31 : xT) (I32 : xI) (R33 : xR) => tle T T31 → 
        J_87 T31 I32 R33 1 5 r30)))))
theorem hx_X0_witnessOf : yX0_witnessOf.cls = RX0 ∧ yX0_witnessOf.cls ≠ "java/lang/invoke/MethodHandle" ∧ yX0_witnessOf.cls ≠ "java/lang/invoke/VarHandle" ∧ (parseMethodDescriptor yX0_witnessOf.desc).map (fun d => d.parameters.length) = some 2 := by decide +kernel
set_option maxHeartbeats 4000000 in
theorem tx_X0_witnessOf (X : XT) {o : Nat} {x1 : Int} {x2 : Int} {T : xT} {I : xI} {R : xR} {L : xL} {Q : Int → xT → xI → xR → Prop} (hw : wx_X0_witnessOf X o x1 x2 T I R L Q) : CtX X yX0_witnessOf cX0_witnessOf 3 (some .int) (rmX 10 2 10 216) [aR (some o), aI x1, aI x2] T I R L (PXiTIR T I R L Q) := by
  refine CtX.intro (by decide) (Nat.le_of_ble_eq_true rfl) (fun E hE hR hN => ?_)
  have hRm := hR.rm
  have hE : OkX E X RX0 cX0_witnessOf 3 (some .int) := hE
  have hE1 := hE.1
  show GX E X T I R L 0 0 0 [some (aR (some o)), some (aI x1), some (aI x2)] []
  unfold wx_X0_witnessOf at hw
  intro hok
  refine g_ildn1 hE1 dX0_witnessOf_0 ?_
  refine g_iconst hE1 dX0_witnessOf_1 ?_
  refine g_iconst hE1 dX0_witnessOf_2 ?_
  refine gx_callS hE hRm (As := [aI x1, aI 0, aI 5]) hx_X0_isIn (tx_X0_isIn X hw) (lw_S q392 q393 q94 q394) ⟨by decide, by decide⟩ ⟨(by decide), (by decide)⟩ rfl (Nat.le_of_ble_eq_true rfl) dX0_witnessOf_3 rfl (fun r9 Tz Iz Rz Lz hΦ => ?_) hok
  obtain ⟨r1, rfl, rfl, rfl, rfl, rfl, hw⟩ := hΦ
  show GX E X T I R L 0 0 6 [some (aR (some o)), some (aI x1), some (aI x2)] [aI r1]
  intro hok
  obtain ⟨h36, h37, hT38, hN39⟩ := hw
  refine g_if_ne hE1 (tgt := 11) dX0_witnessOf_6 (by decide) h36 (fun q => ?_) (fun q => ?_)
  · have hw := hT38 q
    refine g_iconst hE1 dX0_witnessOf_9 ?_
    exact gx_iret hE hR dX0_witnessOf_10 (by decide) (by decide) rfl ⟨_, rfl, rfl, tle.rf, hw⟩ hok
  · have hw := hN39 q
    refine g_ildn2 hE1 dX0_witnessOf_11 ?_
    refine jn6_walk (fun (T_87 : xT) (I_87 : xI) (R_87 : xR) (k_87 : Nat) (n_87 : Nat) (y0_87 : Int) => tle T T_87 → k_87 ≤ 2 → n_87 ≤ 10 → GX E X T_87 I_87 R_87 L k_87 n_87 87 [some (aR (some o)), some (aI x1), some (aI x2)] [aI y0_87]) hw (fun T_87 I_87 R_87 k_87 n_87 y0_87 hw => ?_) (fun J_87 hj_87 hw => ?_)
    · intro hl_87 hkc_87 hnc_87; intro hok
      exact gx_iret hE hR dX0_witnessOf_87 (show k_87 ≤ 2 by omega) (show n_87 ≤ 10 by omega) rfl ⟨_, rfl, rfl, hl_87, hw⟩ hok
    · skip
      obtain ⟨h3, h4, h14, h21, h28, h35⟩ := hw
      refine g_table hE1 dX0_witnessOf_12 h3 85 (by decide) [44, 56, 67, 76] (by decide) (by decide) (fun q => ?_) (fun i t hi he => ?_)
      · have hw := h4 q
        refine g_bipush hE1 dX0_witnessOf_85 (by decide) ?_
        exact hj_87 _ _ _ _ _ _ hw tle.rf (by omega) (by omega) hok
      rcases i with _ | i
      · obtain rfl : 44 = t := Option.some.inj hi
        have hw := h14 (by omega)
        refine g_aldn0 hE1 dX0_witnessOf_44 ?_
        obtain ⟨ht5, hw⟩ := hw
        refine gx_getr hE in_X0 (t := 1) rfl (by decide) 0 0 rfl (by decide) rfl (by decide) rfl q353 (Or.inl rfl) ht5 dX0_witnessOf_45 ?_ hok
        intro hok
        obtain ⟨b6, hb7, hw⟩ := hw
        rw [hb7]
        obtain ⟨ht8, hw⟩ := hw
        refine gx_getrN hE in_X1 (t := 2) rfl (by decide) 3 3 rfl (by decide) rfl (by decide) rfl q229 (Or.inl rfl) ht8 dX0_witnessOf_48 ?_ hok
        intro hok
        refine g_ildn1 hE1 dX0_witnessOf_51 ?_
        obtain ⟨b9, hb10, hw⟩ := hw
        rw [hb10]
        obtain ⟨ht11, hw⟩ := hw
        obtain ⟨h12, h13, hw⟩ := hw
        refine gx_iald hE ht11 h12 h13 dX0_witnessOf_52 ?_ hok
        intro hok
        refine g_goto hE1 (tgt := 87) dX0_witnessOf_53 (by decide) ?_
        exact hj_87 _ _ _ _ _ _ hw tle.rf (by omega) (by omega) hok
      rcases i with _ | i
      · obtain rfl : 56 = t := Option.some.inj hi
        have hw := h21 (by omega)
        refine g_aldn0 hE1 dX0_witnessOf_56 ?_
        obtain ⟨ht15, hw⟩ := hw
        refine gx_getr hE in_X0 (t := 1) rfl (by decide) 0 0 rfl (by decide) rfl (by decide) rfl q353 (Or.inl rfl) ht15 dX0_witnessOf_57 ?_ hok
        intro hok
        refine g_ildn1 hE1 dX0_witnessOf_60 ?_
        obtain ⟨b16, hb17, hw⟩ := hw
        rw [hb17]
        obtain ⟨ht18, hw⟩ := hw
        refine gx_callV hE hRm (As := [aI x1]) ht18 (by decide) (by decide) rfl hx_X1_weight (tx_X1_weight X hw) (lw_V q1400 q1368 q1369 q95 q1370) ⟨by decide, by decide⟩ ⟨(by decide), (by decide)⟩ rfl (Nat.le_of_ble_eq_true rfl) dX0_witnessOf_61 rfl (fun r9 Tz Iz Rz Lz hΦ => ?_) hok
        obtain ⟨r19, rfl, rfl, rfl, rfl, rfl, hw⟩ := hΦ
        show GX E X T I R L 0 0 64 [some (aR (some o)), some (aI x1), some (aI x2)] [aI r19]
        intro hok
        refine g_goto hE1 (tgt := 87) dX0_witnessOf_64 (by decide) ?_
        exact hj_87 _ _ _ _ _ _ hw tle.rf (by omega) (by omega) hok
      rcases i with _ | i
      · obtain rfl : 67 = t := Option.some.inj hi
        have hw := h28 (by omega)
        refine g_aldn0 hE1 dX0_witnessOf_67 ?_
        refine g_ildn1 hE1 dX0_witnessOf_68 ?_
        refine g_iconst hE1 dX0_witnessOf_69 ?_
        obtain ⟨ht22, hw⟩ := hw
        refine gx_callV hE hRm (As := [aI x1, aI 0]) ht22 (by decide) (by decide) rfl hx_X0_knownOf (tx_X0_knownOf X hw) (lw_V q1401 q1403 qs23 q94 q1404) ⟨by decide, by decide⟩ ⟨(by decide), (by decide)⟩ rfl (Nat.le_of_ble_eq_true rfl) dX0_witnessOf_70 rfl (fun r9 T24 I25 R26 Lz hΦ => ?_) hok
        obtain ⟨r23, rfl, rfl, hl27, hw⟩ := hΦ
        have hw := hw hl27
        show GX E X T24 I25 R26 L 1 5 73 [some (aR (some o)), some (aI x1), some (aI x2)] [aI r23]
        intro hok
        refine g_goto hE1 (tgt := 87) dX0_witnessOf_73 (by decide) ?_
        exact hj_87 _ _ _ _ _ _ hw hl27 (by omega) (by omega) hok
      rcases i with _ | i
      · obtain rfl : 76 = t := Option.some.inj hi
        have hw := h35 (by omega)
        refine g_aldn0 hE1 dX0_witnessOf_76 ?_
        refine g_ildn1 hE1 dX0_witnessOf_77 ?_
        refine g_iconst hE1 dX0_witnessOf_78 ?_
        obtain ⟨ht29, hw⟩ := hw
        refine gx_callV hE hRm (As := [aI x1, aI 1]) ht29 (by decide) (by decide) rfl hx_X0_knownOf (tx_X0_knownOf X hw) (lw_V q1401 q1403 qs23 q94 q1404) ⟨by decide, by decide⟩ ⟨(by decide), (by decide)⟩ rfl (Nat.le_of_ble_eq_true rfl) dX0_witnessOf_79 rfl (fun r9 T31 I32 R33 Lz hΦ => ?_) hok
        obtain ⟨r30, rfl, rfl, hl34, hw⟩ := hΦ
        have hw := hw hl34
        show GX E X T31 I32 R33 L 1 5 82 [some (aR (some o)), some (aI x1), some (aI x2)] [aI r30]
        intro hok
        refine g_goto hE1 (tgt := 87) dX0_witnessOf_82 (by decide) ?_
        exact hj_87 _ _ _ _ _ _ hw hl34 (by omega) (by omega) hok
      exact absurd hi (by simp)

/-- WhalingLogs$Listing.isPlace(I)Z -/
def wx_X3_isPlace (X : XT) (o : Nat) (x1 : Int) (T : xT) (I : xI) (R : xR) (L : xL) (Q : Int → Prop) : Prop :=
  xtag T o = 7 ∧
  wx_X0_isIn X x1 0 ((I o 7) - 1) T I R L (fun (r2 : Int) => 
  bl r2 ∧ Q r2)
theorem hx_X3_isPlace : yX3_isPlace.cls = RX3 ∧ yX3_isPlace.cls ≠ "java/lang/invoke/MethodHandle" ∧ yX3_isPlace.cls ≠ "java/lang/invoke/VarHandle" ∧ (parseMethodDescriptor yX3_isPlace.desc).map (fun d => d.parameters.length) = some 1 := by decide +kernel
set_option maxHeartbeats 4000000 in
theorem tx_X3_isPlace (X : XT) {o : Nat} {x1 : Int} {T : xT} {I : xI} {R : xR} {L : xL} {Q : Int → Prop} (hw : wx_X3_isPlace X o x1 T I R L Q) : CtX X yX3_isPlace cX3_isPlace 2 (some .boolean) (rmX 1 0 0 22) [aR (some o), aI x1] T I R L (PXi T I R L Q) := by
  refine CtX.intro (by decide) (Nat.le_of_ble_eq_true rfl) (fun E hE hR hN => ?_)
  have hRm := hR.rm
  have hE : OkX E X RX3 cX3_isPlace 2 (some .boolean) := hE
  have hE1 := hE.1
  show GX E X T I R L 0 0 0 [some (aR (some o)), some (aI x1)] []
  unfold wx_X3_isPlace at hw
  intro hok
  refine g_ildn1 hE1 dX3_isPlace_0 ?_
  refine g_iconst hE1 dX3_isPlace_1 ?_
  refine g_aldn0 hE1 dX3_isPlace_2 ?_
  obtain ⟨ht1, hw⟩ := hw
  refine gx_geti hE in_X3 (t := 7) rfl (by decide) 7 7 rfl (by decide) rfl (by decide) rfl q297 (Or.inl rfl) ht1 dX3_isPlace_3 ?_ hok
  intro hok
  refine g_iconst hE1 dX3_isPlace_6 ?_
  refine g_isub hE1 dX3_isPlace_7 ?_
  refine gx_callSN hE hRm (As := [aI x1, aI 0, aI ((I o 7) - 1)]) hx_X0_isIn (tx_X0_isIn X hw) (lw_meth q394) q1457 q94 q393 ⟨by decide, by decide⟩ ⟨(by decide), (by decide)⟩ rfl (Nat.le_of_ble_eq_true rfl) dX3_isPlace_8 rfl (fun r9 Tz Iz Rz Lz hΦ => ?_) hok
  obtain ⟨r2, rfl, rfl, rfl, rfl, rfl, hw⟩ := hΦ
  show GX E X T I R L 0 0 11 [some (aR (some o)), some (aI x1)] [aI r2]
  intro hok
  obtain ⟨h4, hw⟩ := hw
  exact gx_iret hE hR dX3_isPlace_11 (by decide) (by decide) (narrow_bl h4) ⟨_, rfl, rfl, rfl, rfl, rfl, hw⟩ hok

/-- WhalingLogs.listed(II)I -/
def wx_X0_listed_2 (X : XT) (o : Nat) (x1 : Int) (x2 : Int) (T : xT) (I : xI) (R : xR) (L : xL) (Q : Int → xT → xI → xR → Prop) : Prop :=
  xtag T o = 1 ∧ wx_X0_listed X o T I R L (fun (r2 : Option Nat) (T3 : xT) (I4 : xI) (R5 : xR) => tle T T3 → 
  ∃ b7 : Nat, r2 = some b7 ∧ xtag T3 b7 = 7 ∧ wx_X3_isPlace X b7 x1 T3 I4 R5 L (fun (r10 : Int) => 
  cEq r10 0
    (
    Q (-1) T3 I4 R5)
    (
    jn1 (fun (y0_92 : Int) => 
        Q y0_92 T3 I4 R5)
      (fun (J_92 : Int → Prop) =>
      inR x2 ∧ ((x2 < 0 ∨ 3 < x2) →
        J_92 (-2)) ∧
      (x2 = 0 →
        ∃ b14 : Nat, R5 b7 1 = some b14 ∧ xtag T3 b14 = 100 ∧ ib x1 (xlen T3 b14) ∧ xlen T3 b14 < 2147483648 ∧
        J_92 (I4 b14 x1)) ∧
      (x2 = 1 →
        ∃ b20 : Nat, R5 b7 2 = some b20 ∧ xtag T3 b20 = 100 ∧ ib x1 (xlen T3 b20) ∧ xlen T3 b20 < 2147483648 ∧
        J_92 (I4 b20 x1)) ∧
      (x2 = 2 →
        ∃ b26 : Nat, R5 b7 0 = some b26 ∧ xtag T3 b26 = 104 ∧ ib x1 (xlen T3 b26) ∧ xlen T3 b26 < 2147483648 ∧
        ∃ b31 : Nat, R5 b26 x1 = some b31 ∧ xtag T3 b31 = 12 ∧
        J_92 (I4 b31 0)) ∧
      (x2 = 3 →
        ∃ b35 : Nat, R5 b7 0 = some b35 ∧ xtag T3 b35 = 104 ∧ ib x1 (xlen T3 b35) ∧ xlen T3 b35 < 2147483648 ∧
        ∃ b40 : Nat, R5 b35 x1 = some b40 ∧ xtag T3 b40 = 12 ∧
        J_92 (I4 b40 1))))))
theorem hx_X0_listed_2 : yX0_listed_2.cls = RX0 ∧ yX0_listed_2.cls ≠ "java/lang/invoke/MethodHandle" ∧ yX0_listed_2.cls ≠ "java/lang/invoke/VarHandle" ∧ (parseMethodDescriptor yX0_listed_2.desc).map (fun d => d.parameters.length) = some 2 := by decide +kernel
set_option maxHeartbeats 4000000 in
theorem tx_X0_listed_2 (X : XT) {o : Nat} {x1 : Int} {x2 : Int} {T : xT} {I : xI} {R : xR} {L : xL} {Q : Int → xT → xI → xR → Prop} (hw : wx_X0_listed_2 X o x1 x2 T I R L Q) : CtX X yX0_listed_2 cX0_listed_2 4 (some .int) (rmX 7 1 5 151) [aR (some o), aI x1, aI x2] T I R L (PXiTIR T I R L Q) := by
  refine CtX.intro (by decide) (Nat.le_of_ble_eq_true rfl) (fun E hE hR hN => ?_)
  have hRm := hR.rm
  have hE : OkX E X RX0 cX0_listed_2 4 (some .int) := hE
  have hE1 := hE.1
  show GX E X T I R L 0 0 0 [some (aR (some o)), some (aI x1), some (aI x2), none] []
  unfold wx_X0_listed_2 at hw
  intro hok
  refine g_aldn0 hE1 dX0_listed_2_0 ?_
  obtain ⟨ht1, hw⟩ := hw
  refine gx_callV hE hRm (As := []) ht1 (by decide) (by decide) rfl hx_X0_listed (tx_X0_listed X hw) (lw_V q1300 q1302 qs22 q94 q1303) ⟨by decide, by decide⟩ ⟨(by decide), (by decide)⟩ rfl (Nat.le_of_ble_eq_true rfl) dX0_listed_2_1 rfl (fun r9 T3 I4 R5 Lz hΦ => ?_) hok
  obtain ⟨r2, rfl, rfl, hl6, hw⟩ := hΦ
  have hw := hw hl6
  show GX E X T3 I4 R5 L 1 5 4 [some (aR (some o)), some (aI x1), some (aI x2), none] [aR r2]
  intro hok
  refine g_astn3 hE1 dX0_listed_2_4 (by decide) rfl ?_
  refine g_aldn3 hE1 dX0_listed_2_5 ?_
  refine g_ildn1 hE1 dX0_listed_2_6 ?_
  obtain ⟨b7, hb8, hw⟩ := hw
  rw [hb8]
  obtain ⟨ht9, hw⟩ := hw
  refine gx_callV hE hRm (As := [aI x1]) ht9 (by decide) (by decide) rfl hx_X3_isPlace (tx_X3_isPlace X hw) (lw_V q1453 q1454 q1455 q103 q1456) ⟨by decide, by decide⟩ ⟨(by decide), (by decide)⟩ rfl (Nat.le_of_ble_eq_true rfl) dX0_listed_2_7 rfl (fun r9 Tz Iz Rz Lz hΦ => ?_) hok
  obtain ⟨r10, rfl, rfl, rfl, rfl, rfl, hw⟩ := hΦ
  show GX E X T3 I4 R5 L 1 5 10 [some (aR (some o)), some (aI x1), some (aI x2), some (aR (some b7))] [aI r10]
  intro hok
  obtain ⟨h44, h45, hT46, hN47⟩ := hw
  refine g_if_ne hE1 (tgt := 15) dX0_listed_2_10 (by decide) h44 (fun q => ?_) (fun q => ?_)
  · have hw := hT46 q
    refine g_iconst hE1 dX0_listed_2_13 ?_
    exact gx_iret hE hR dX0_listed_2_14 (by decide) (by decide) rfl ⟨_, rfl, rfl, hl6, hw⟩ hok
  · have hw := hN47 q
    refine g_ildn2 hE1 dX0_listed_2_15 ?_
    refine jn1_walk (fun (y0_92 : Int) => GX E X T3 I4 R5 L 1 5 92 [some (aR (some o)), some (aI x1), some (aI x2), some (aR (some b7))] [aI y0_92]) hw (fun y0_92 hw => ?_) (fun J_92 hj_92 hw => ?_)
    · intro hok
      exact gx_iret hE hR dX0_listed_2_92 (by decide) (by decide) rfl ⟨_, rfl, rfl, hl6, hw⟩ hok
    · skip
      obtain ⟨h12, h13, h19, h25, h34, h43⟩ := hw
      refine g_table hE1 dX0_listed_2_16 h12 90 (by decide) [48, 57, 66, 78] (by decide) (by decide) (fun q => ?_) (fun i t hi he => ?_)
      · have hw := h13 q
        refine g_bipush hE1 dX0_listed_2_90 (by decide) ?_
        exact hj_92 _ hw hok
      rcases i with _ | i
      · obtain rfl : 48 = t := Option.some.inj hi
        have hw := h19 (by omega)
        refine g_aldn3 hE1 dX0_listed_2_48 ?_
        refine gx_getrN hE in_X3 (t := 7) rfl (by decide) 1 1 rfl (by decide) rfl (by decide) rfl q289 (Or.inl rfl) ht9 dX0_listed_2_49 ?_ hok
        intro hok
        refine g_ildn1 hE1 dX0_listed_2_52 ?_
        obtain ⟨b14, hb15, hw⟩ := hw
        rw [hb15]
        obtain ⟨ht16, hw⟩ := hw
        obtain ⟨h17, h18, hw⟩ := hw
        refine gx_iald hE ht16 h17 h18 dX0_listed_2_53 ?_ hok
        intro hok
        refine g_goto hE1 (tgt := 92) dX0_listed_2_54 (by decide) ?_
        exact hj_92 _ hw hok
      rcases i with _ | i
      · obtain rfl : 57 = t := Option.some.inj hi
        have hw := h25 (by omega)
        refine g_aldn3 hE1 dX0_listed_2_57 ?_
        refine gx_getrN hE in_X3 (t := 7) rfl (by decide) 2 2 rfl (by decide) rfl (by decide) rfl q291 (Or.inl rfl) ht9 dX0_listed_2_58 ?_ hok
        intro hok
        refine g_ildn1 hE1 dX0_listed_2_61 ?_
        obtain ⟨b20, hb21, hw⟩ := hw
        rw [hb21]
        obtain ⟨ht22, hw⟩ := hw
        obtain ⟨h23, h24, hw⟩ := hw
        refine gx_iald hE ht22 h23 h24 dX0_listed_2_62 ?_ hok
        intro hok
        refine g_goto hE1 (tgt := 92) dX0_listed_2_63 (by decide) ?_
        exact hj_92 _ hw hok
      rcases i with _ | i
      · obtain rfl : 66 = t := Option.some.inj hi
        have hw := h34 (by omega)
        refine g_aldn3 hE1 dX0_listed_2_66 ?_
        refine gx_getrN hE in_X3 (t := 7) rfl (by decide) 0 0 rfl (by decide) rfl (by decide) rfl q287 (Or.inl rfl) ht9 dX0_listed_2_67 ?_ hok
        intro hok
        refine g_ildn1 hE1 dX0_listed_2_70 ?_
        obtain ⟨b26, hb27, hw⟩ := hw
        rw [hb27]
        obtain ⟨ht28, hw⟩ := hw
        obtain ⟨h29, h30, hw⟩ := hw
        refine gx_aald hE ht28 (by decide) h29 h30 dX0_listed_2_71 ?_ hok
        intro hok
        obtain ⟨b31, hb32, hw⟩ := hw
        rw [hb32]
        obtain ⟨ht33, hw⟩ := hw
        refine gx_getiN hE in_X6 (t := 12) rfl (by decide) 0 0 rfl (by decide) rfl (by decide) rfl q993 (Or.inl rfl) ht33 dX0_listed_2_72 ?_ hok
        intro hok
        refine g_goto hE1 (tgt := 92) dX0_listed_2_75 (by decide) ?_
        exact hj_92 _ hw hok
      rcases i with _ | i
      · obtain rfl : 78 = t := Option.some.inj hi
        have hw := h43 (by omega)
        refine g_aldn3 hE1 dX0_listed_2_78 ?_
        refine gx_getrN hE in_X3 (t := 7) rfl (by decide) 0 0 rfl (by decide) rfl (by decide) rfl q287 (Or.inl rfl) ht9 dX0_listed_2_79 ?_ hok
        intro hok
        refine g_ildn1 hE1 dX0_listed_2_82 ?_
        obtain ⟨b35, hb36, hw⟩ := hw
        rw [hb36]
        obtain ⟨ht37, hw⟩ := hw
        obtain ⟨h38, h39, hw⟩ := hw
        refine gx_aald hE ht37 (by decide) h38 h39 dX0_listed_2_83 ?_ hok
        intro hok
        obtain ⟨b40, hb41, hw⟩ := hw
        rw [hb41]
        obtain ⟨ht42, hw⟩ := hw
        refine gx_getiN hE in_X6 (t := 12) rfl (by decide) 1 1 rfl (by decide) rfl (by decide) rfl q996 (Or.inl rfl) ht42 dX0_listed_2_84 ?_ hok
        intro hok
        refine g_goto hE1 (tgt := 92) dX0_listed_2_87 (by decide) ?_
        exact hj_92 _ hw hok
      exact absurd hi (by simp)

/-- WhalingLogs.canBoth(II)I -/
def wx_X0_canBoth (X : XT) (o : Nat) (x1 : Int) (x2 : Int) (T : xT) (I : xI) (R : xR) (L : xL) (Q : Int → xT → xI → xR → Prop) : Prop :=
  xtag T o = 1 ∧ wx_X0_spread X o T I R L (fun (r2 : Option Nat) (T3 : xT) (I4 : xI) (R5 : xR) => tle T T3 → 
  ∃ b7 : Nat, r2 = some b7 ∧ xtag T3 b7 = 7 ∧ wx_X3_isPlace X b7 x1 T3 I4 R5 L (fun (r10 : Int) => 
  jn0 (
      Q (-1) T3 I4 R5)
    (fun (J_21 : Prop) =>
    cEq r10 0
      (
      J_21)
      (
      wx_X3_isPlace X b7 x2 T3 I4 R5 L (fun (r12 : Int) => 
      cEq r12 0
        (
        J_21)
        (
        wx_X3_canBoth X b7 x1 x2 T3 I4 R5 L (fun (r14 : Int) => 
        jn1 (fun (y0_37 : Int) => 
            Q y0_37 T3 I4 R5)
          (fun (J_37 : Int → Prop) =>
          cEq r14 0
            (
            J_37 0)
            (
            J_37 1)))))))))
theorem hx_X0_canBoth : yX0_canBoth.cls = RX0 ∧ yX0_canBoth.cls ≠ "java/lang/invoke/MethodHandle" ∧ yX0_canBoth.cls ≠ "java/lang/invoke/VarHandle" ∧ (parseMethodDescriptor yX0_canBoth.desc).map (fun d => d.parameters.length) = some 2 := by decide +kernel
set_option maxHeartbeats 4000000 in
theorem tx_X0_canBoth (X : XT) {o : Nat} {x1 : Int} {x2 : Int} {T : xT} {I : xI} {R : xR} {L : xL} {Q : Int → xT → xI → xR → Prop} (hw : wx_X0_canBoth X o x1 x2 T I R L Q) : CtX X yX0_canBoth cX0_canBoth 4 (some .int) (rmX 8 1 5 171) [aR (some o), aI x1, aI x2] T I R L (PXiTIR T I R L Q) := by
  refine CtX.intro (by decide) (Nat.le_of_ble_eq_true rfl) (fun E hE hR hN => ?_)
  have hRm := hR.rm
  have hE : OkX E X RX0 cX0_canBoth 4 (some .int) := hE
  have hE1 := hE.1
  show GX E X T I R L 0 0 0 [some (aR (some o)), some (aI x1), some (aI x2), none] []
  unfold wx_X0_canBoth at hw
  intro hok
  refine g_aldn0 hE1 dX0_canBoth_0 ?_
  obtain ⟨ht1, hw⟩ := hw
  refine gx_callV hE hRm (As := []) ht1 (by decide) (by decide) rfl hx_X0_spread (tx_X0_spread X hw) (lw_V q1409 q1411 qs25 q94 q1412) ⟨by decide, by decide⟩ ⟨(by decide), (by decide)⟩ rfl (Nat.le_of_ble_eq_true rfl) dX0_canBoth_1 rfl (fun r9 T3 I4 R5 Lz hΦ => ?_) hok
  obtain ⟨r2, rfl, rfl, hl6, hw⟩ := hΦ
  have hw := hw hl6
  show GX E X T3 I4 R5 L 1 5 4 [some (aR (some o)), some (aI x1), some (aI x2), none] [aR r2]
  intro hok
  refine g_astn3 hE1 dX0_canBoth_4 (by decide) rfl ?_
  refine g_aldn3 hE1 dX0_canBoth_5 ?_
  refine g_ildn1 hE1 dX0_canBoth_6 ?_
  obtain ⟨b7, hb8, hw⟩ := hw
  rw [hb8]
  obtain ⟨ht9, hw⟩ := hw
  refine gx_callV hE hRm (As := [aI x1]) ht9 (by decide) (by decide) rfl hx_X3_isPlace (tx_X3_isPlace X hw) (lw_V q1453 q1454 q1455 q103 q1456) ⟨by decide, by decide⟩ ⟨(by decide), (by decide)⟩ rfl (Nat.le_of_ble_eq_true rfl) dX0_canBoth_7 rfl (fun r9 Tz Iz Rz Lz hΦ => ?_) hok
  obtain ⟨r10, rfl, rfl, rfl, rfl, rfl, hw⟩ := hΦ
  show GX E X T3 I4 R5 L 1 5 10 [some (aR (some o)), some (aI x1), some (aI x2), some (aR (some b7))] [aI r10]
  intro hok
  refine jn0_walk (GX E X T3 I4 R5 L 1 5 21 [some (aR (some o)), some (aI x1), some (aI x2), some (aR (some b7))] []) hw (fun  hw => ?_) (fun J_21 hj_21 hw => ?_)
  · intro hok
    refine g_iconst hE1 dX0_canBoth_21 ?_
    exact gx_iret hE hR dX0_canBoth_22 (by decide) (by decide) rfl ⟨_, rfl, rfl, hl6, hw⟩ hok
  · skip
    obtain ⟨h24, h25, hT26, hN27⟩ := hw
    refine g_if_eq hE1 (tgt := 21) dX0_canBoth_10 (by decide) h24 (fun q => ?_) (fun q => ?_)
    · have hw := hT26 q
      exact hj_21  hw hok
    · have hw := hN27 q
      refine g_aldn3 hE1 dX0_canBoth_13 ?_
      refine g_ildn2 hE1 dX0_canBoth_14 ?_
      refine gx_callV hE hRm (As := [aI x2]) ht9 (by decide) (by decide) rfl hx_X3_isPlace (tx_X3_isPlace X hw) (lw_V q1453 q1454 q1455 q103 q1456) ⟨by decide, by decide⟩ ⟨(by decide), (by decide)⟩ rfl (Nat.le_of_ble_eq_true rfl) dX0_canBoth_15 rfl (fun r9 Tz Iz Rz Lz hΦ => ?_) hok
      obtain ⟨r12, rfl, rfl, rfl, rfl, rfl, hw⟩ := hΦ
      show GX E X T3 I4 R5 L 1 5 18 [some (aR (some o)), some (aI x1), some (aI x2), some (aR (some b7))] [aI r12]
      intro hok
      obtain ⟨h20, h21, hT22, hN23⟩ := hw
      refine g_if_ne hE1 (tgt := 23) dX0_canBoth_18 (by decide) h20 (fun q => ?_) (fun q => ?_)
      · have hw := hT22 q
        exact hj_21  hw hok
      · have hw := hN23 q
        refine g_aldn3 hE1 dX0_canBoth_23 ?_
        refine g_ildn1 hE1 dX0_canBoth_24 ?_
        refine g_ildn2 hE1 dX0_canBoth_25 ?_
        refine gx_callV hE hRm (As := [aI x1, aI x2]) ht9 (by decide) (by decide) rfl hx_X3_canBoth (tx_X3_canBoth X hw) (lw_V q1462 q1432 q1433 q103 q1434) ⟨by decide, by decide⟩ ⟨(by decide), (by decide)⟩ rfl (Nat.le_of_ble_eq_true rfl) dX0_canBoth_26 rfl (fun r9 Tz Iz Rz Lz hΦ => ?_) hok
        obtain ⟨r14, rfl, rfl, rfl, rfl, rfl, hw⟩ := hΦ
        show GX E X T3 I4 R5 L 1 5 29 [some (aR (some o)), some (aI x1), some (aI x2), some (aR (some b7))] [aI r14]
        intro hok
        refine jn1_walk (fun (y0_37 : Int) => GX E X T3 I4 R5 L 1 5 37 [some (aR (some o)), some (aI x1), some (aI x2), some (aR (some b7))] [aI y0_37]) hw (fun y0_37 hw => ?_) (fun J_37 hj_37 hw => ?_)
        · intro hok
          exact gx_iret hE hR dX0_canBoth_37 (by decide) (by decide) rfl ⟨_, rfl, rfl, hl6, hw⟩ hok
        · skip
          obtain ⟨h16, h17, hT18, hN19⟩ := hw
          refine g_if_eq hE1 (tgt := 36) dX0_canBoth_29 (by decide) h16 (fun q => ?_) (fun q => ?_)
          · have hw := hT18 q
            refine g_iconst hE1 dX0_canBoth_36 ?_
            exact hj_37 _ hw hok
          · have hw := hN19 q
            refine g_iconst hE1 dX0_canBoth_32 ?_
            refine g_goto hE1 (tgt := 37) dX0_canBoth_33 (by decide) ?_
            exact hj_37 _ hw hok

/-- WhalingLogs$Listing.against(I)I -/
def wx_X3_against (X : XT) (o : Nat) (x1 : Int) (T : xT) (I : xI) (R : xR) (L : xL) (Q : Int → Prop) : Prop :=
  lq2 (fun (x2_4 : Int) (x3_4 : Int) (K_4 : Int → Int → Prop) =>
    xtag T o = 7 ∧
    cLt x3_4 (I o 7)
      (
      jn1 (fun (y1_32 : Int) => 
          K_4 (x2_4 + y1_32) (x3_4 + 1))
        (fun (J_32 : Int → Prop) =>
        jn0 (
            J_32 0)
          (fun (J_31 : Prop) =>
          cEq x3_4 x1
            (
            J_31)
            (
            wx_X3_canBoth X o x1 x3_4 T I R L (fun (r2 : Int) => 
            cEq r2 0
              (
              J_32 1)
              (
              J_31))))))
      (
      Q x2_4)) 0 0
theorem hx_X3_against : yX3_against.cls = RX3 ∧ yX3_against.cls ≠ "java/lang/invoke/MethodHandle" ∧ yX3_against.cls ≠ "java/lang/invoke/VarHandle" ∧ (parseMethodDescriptor yX3_against.desc).map (fun d => d.parameters.length) = some 1 := by decide +kernel
set_option maxHeartbeats 4000000 in
theorem tx_X3_against (X : XT) {o : Nat} {x1 : Int} {T : xT} {I : xI} {R : xR} {L : xL} {Q : Int → Prop} (hw : wx_X3_against X o x1 T I R L Q) : CtX X yX3_against cX3_against 4 (some .int) (rmX 2 0 0 86) [aR (some o), aI x1] T I R L (PXi T I R L Q) := by
  refine CtX.intro (by decide) (Nat.le_of_ble_eq_true rfl) (fun E hE hR hN => ?_)
  have hRm := hR.rm
  have hE : OkX E X RX3 cX3_against 4 (some .int) := hE
  have hE1 := hE.1
  show GX E X T I R L 0 0 0 [some (aR (some o)), some (aI x1), none, none] []
  unfold wx_X3_against at hw
  intro hok
  refine g_iconst hE1 dX3_against_0 ?_
  refine g_istn2 hE1 dX3_against_1 (by decide) rfl ?_
  refine g_iconst hE1 dX3_against_2 ?_
  refine g_istn3 hE1 dX3_against_3 (by decide) rfl ?_
  refine lq2_walk (fun (x2_4 : Int) (x3_4 : Int) => GX E X T I R L 0 0 4 [some (aR (some o)), some (aI x1), some (aI x2_4), some (aI x3_4)] []) (fun K_4 hk_4 x2_4 x3_4 hw => ?_) _ _ hw hok
  intro hok
  refine g_ildn3 hE1 dX3_against_4 ?_
  refine g_aldn0 hE1 dX3_against_5 ?_
  obtain ⟨ht1, hw⟩ := hw
  refine gx_geti hE in_X3 (t := 7) rfl (by decide) 7 7 rfl (by decide) rfl (by decide) rfl q297 (Or.inl rfl) ht1 dX3_against_6 ?_ hok
  intro hok
  obtain ⟨h12, h13, hT14, hN15⟩ := hw
  refine g_icmp_ge hE1 (tgt := 40) dX3_against_9 (by decide) h12 h13 (fun q => ?_) (fun q => ?_)
  · have hw := hT14 q
    refine g_ildn2 hE1 dX3_against_12 ?_
    refine g_ildn3 hE1 dX3_against_13 ?_
    refine g_ildn1 hE1 dX3_against_14 ?_
    refine jn1_walk (fun (y1_32 : Int) => GX E X T I R L 0 0 32 [some (aR (some o)), some (aI x1), some (aI x2_4), some (aI x3_4)] [aI y1_32, aI x2_4]) hw (fun y1_32 hw => ?_) (fun J_32 hj_32 hw => ?_)
    · intro hok
      refine g_iadd hE1 dX3_against_32 ?_
      refine g_istn2 hE1 dX3_against_33 (by decide) rfl ?_
      refine g_iinc3 hE1 dX3_against_34 (by decide) rfl ?_
      refine g_goto hE1 (tgt := 4) dX3_against_37 (by decide) ?_
      exact hk_4 _ _ hw hok
    · skip
      refine jn0_walk (GX E X T I R L 0 0 31 [some (aR (some o)), some (aI x1), some (aI x2_4), some (aI x3_4)] [aI x2_4]) hw (fun  hw => ?_) (fun J_31 hj_31 hw => ?_)
      · intro hok
        refine g_iconst hE1 dX3_against_31 ?_
        exact hj_32 _ hw hok
      · skip
        obtain ⟨h8, h9, hT10, hN11⟩ := hw
        refine g_icmp_eq hE1 (tgt := 31) dX3_against_15 (by decide) h8 h9 (fun q => ?_) (fun q => ?_)
        · have hw := hT10 q
          exact hj_31  hw hok
        · have hw := hN11 q
          refine g_aldn0 hE1 dX3_against_18 ?_
          refine g_ildn1 hE1 dX3_against_19 ?_
          refine g_ildn3 hE1 dX3_against_20 ?_
          refine gx_callV hE hRm (As := [aI x1, aI x3_4]) ht1 (by decide) (by decide) rfl hx_X3_canBoth (tx_X3_canBoth X hw) (lw_V q1431 q1432 q1433 q103 q1434) ⟨by decide, by decide⟩ ⟨(by decide), (by decide)⟩ rfl (Nat.le_of_ble_eq_true rfl) dX3_against_21 rfl (fun r9 Tz Iz Rz Lz hΦ => ?_) hok
          obtain ⟨r2, rfl, rfl, rfl, rfl, rfl, hw⟩ := hΦ
          show GX E X T I R L 0 0 24 [some (aR (some o)), some (aI x1), some (aI x2_4), some (aI x3_4)] [aI r2, aI x2_4]
          intro hok
          obtain ⟨h4, h5, hT6, hN7⟩ := hw
          refine g_if_ne hE1 (tgt := 31) dX3_against_24 (by decide) h4 (fun q => ?_) (fun q => ?_)
          · have hw := hT6 q
            refine g_iconst hE1 dX3_against_27 ?_
            refine g_goto hE1 (tgt := 32) dX3_against_28 (by decide) ?_
            exact hj_32 _ hw hok
          · have hw := hN7 q
            exact hj_31  hw hok
  · have hw := hN15 q
    refine g_ildn2 hE1 dX3_against_40 ?_
    exact gx_iret hE hR dX3_against_41 (by decide) (by decide) rfl ⟨_, rfl, rfl, rfl, rfl, rfl, hw⟩ hok

/-- WhalingLogs$Listing.conflicts()I -/
def wx_X3_conflicts (X : XT) (o : Nat)  (T : xT) (I : xI) (R : xR) (L : xL) (Q : Int → Prop) : Prop :=
  lq2 (fun (x1_4 : Int) (x2_4 : Int) (K_4 : Int → Int → Prop) =>
    xtag T o = 7 ∧
    cLt x2_4 (I o 7)
      (
      wx_X3_against X o x2_4 T I R L (fun (r2 : Int) => 
      K_4 (x1_4 + r2) (x2_4 + 1)))
      (
      ((0 : Int) ≤ x1_4 ∧ (x1_4 : Int) < 2147483648) ∧
      Q (x1_4 / 2))) 0 0
theorem hx_X3_conflicts : yX3_conflicts.cls = RX3 ∧ yX3_conflicts.cls ≠ "java/lang/invoke/MethodHandle" ∧ yX3_conflicts.cls ≠ "java/lang/invoke/VarHandle" ∧ (parseMethodDescriptor yX3_conflicts.desc).map (fun d => d.parameters.length) = some 0 := by decide +kernel
set_option maxHeartbeats 4000000 in
theorem tx_X3_conflicts (X : XT) {o : Nat}  {T : xT} {I : xI} {R : xR} {L : xL} {Q : Int → Prop} (hw : wx_X3_conflicts X o T I R L Q) : CtX X yX3_conflicts cX3_conflicts 3 (some .int) (rmX 3 0 0 109) [aR (some o)] T I R L (PXi T I R L Q) := by
  refine CtX.intro (by decide) (Nat.le_of_ble_eq_true rfl) (fun E hE hR hN => ?_)
  have hRm := hR.rm
  have hE : OkX E X RX3 cX3_conflicts 3 (some .int) := hE
  have hE1 := hE.1
  show GX E X T I R L 0 0 0 [some (aR (some o)), none, none] []
  unfold wx_X3_conflicts at hw
  intro hok
  refine g_iconst hE1 dX3_conflicts_0 ?_
  refine g_istn1 hE1 dX3_conflicts_1 (by decide) rfl ?_
  refine g_iconst hE1 dX3_conflicts_2 ?_
  refine g_istn2 hE1 dX3_conflicts_3 (by decide) rfl ?_
  refine lq2_walk (fun (x1_4 : Int) (x2_4 : Int) => GX E X T I R L 0 0 4 [some (aR (some o)), some (aI x1_4), some (aI x2_4)] []) (fun K_4 hk_4 x1_4 x2_4 hw => ?_) _ _ hw hok
  intro hok
  refine g_ildn2 hE1 dX3_conflicts_4 ?_
  refine g_aldn0 hE1 dX3_conflicts_5 ?_
  obtain ⟨ht1, hw⟩ := hw
  refine gx_geti hE in_X3 (t := 7) rfl (by decide) 7 7 rfl (by decide) rfl (by decide) rfl q297 (Or.inl rfl) ht1 dX3_conflicts_6 ?_ hok
  intro hok
  obtain ⟨h5, h6, hT7, hN8⟩ := hw
  refine g_icmp_ge hE1 (tgt := 26) dX3_conflicts_9 (by decide) h5 h6 (fun q => ?_) (fun q => ?_)
  · have hw := hT7 q
    refine g_ildn1 hE1 dX3_conflicts_12 ?_
    refine g_aldn0 hE1 dX3_conflicts_13 ?_
    refine g_ildn2 hE1 dX3_conflicts_14 ?_
    refine gx_callV hE hRm (As := [aI x2_4]) ht1 (by decide) (by decide) rfl hx_X3_against (tx_X3_against X hw) (lw_V q1471 q1472 q1473 q103 q1474) ⟨by decide, by decide⟩ ⟨(by decide), (by decide)⟩ rfl (Nat.le_of_ble_eq_true rfl) dX3_conflicts_15 rfl (fun r9 Tz Iz Rz Lz hΦ => ?_) hok
    obtain ⟨r2, rfl, rfl, rfl, rfl, rfl, hw⟩ := hΦ
    show GX E X T I R L 0 0 18 [some (aR (some o)), some (aI x1_4), some (aI x2_4)] [aI r2, aI x1_4]
    intro hok
    refine g_iadd hE1 dX3_conflicts_18 ?_
    refine g_istn1 hE1 dX3_conflicts_19 (by decide) rfl ?_
    refine g_iinc2 hE1 dX3_conflicts_20 (by decide) rfl ?_
    refine g_goto hE1 (tgt := 4) dX3_conflicts_23 (by decide) ?_
    exact hk_4 _ _ hw hok
  · have hw := hN8 q
    refine g_ildn1 hE1 dX3_conflicts_26 ?_
    refine g_iconst hE1 dX3_conflicts_27 ?_
    obtain ⟨h4, hw⟩ := hw
    refine g_idiv hE1 dX3_conflicts_28 h4 (by decide) ?_
    exact gx_iret hE hR dX3_conflicts_29 (by decide) (by decide) rfl ⟨_, rfl, rfl, rfl, rfl, rfl, hw⟩ hok

/-- WhalingLogs.conflicts()I -/
def wx_X0_conflicts (X : XT) (o : Nat)  (T : xT) (I : xI) (R : xR) (L : xL) (Q : Int → xT → xI → xR → Prop) : Prop :=
  xtag T o = 1 ∧ wx_X0_spread X o T I R L (fun (r2 : Option Nat) (T3 : xT) (I4 : xI) (R5 : xR) => tle T T3 → 
  ∃ b7 : Nat, r2 = some b7 ∧ xtag T3 b7 = 7 ∧ wx_X3_conflicts X b7 T3 I4 R5 L (fun (r10 : Int) => 
  Q r10 T3 I4 R5))
theorem hx_X0_conflicts : yX0_conflicts.cls = RX0 ∧ yX0_conflicts.cls ≠ "java/lang/invoke/MethodHandle" ∧ yX0_conflicts.cls ≠ "java/lang/invoke/VarHandle" ∧ (parseMethodDescriptor yX0_conflicts.desc).map (fun d => d.parameters.length) = some 0 := by decide +kernel
set_option maxHeartbeats 4000000 in
theorem tx_X0_conflicts (X : XT) {o : Nat}  {T : xT} {I : xI} {R : xR} {L : xL} {Q : Int → xT → xI → xR → Prop} (hw : wx_X0_conflicts X o T I R L Q) : CtX X yX0_conflicts cX0_conflicts 1 (some .int) (rmX 8 1 5 171) [aR (some o)] T I R L (PXiTIR T I R L Q) := by
  refine CtX.intro (by decide) (Nat.le_of_ble_eq_true rfl) (fun E hE hR hN => ?_)
  have hRm := hR.rm
  have hE : OkX E X RX0 cX0_conflicts 1 (some .int) := hE
  have hE1 := hE.1
  show GX E X T I R L 0 0 0 [some (aR (some o))] []
  unfold wx_X0_conflicts at hw
  intro hok
  refine g_aldn0 hE1 dX0_conflicts_0 ?_
  obtain ⟨ht1, hw⟩ := hw
  refine gx_callV hE hRm (As := []) ht1 (by decide) (by decide) rfl hx_X0_spread (tx_X0_spread X hw) (lw_V q1409 q1411 qs25 q94 q1412) ⟨by decide, by decide⟩ ⟨(by decide), (by decide)⟩ rfl (Nat.le_of_ble_eq_true rfl) dX0_conflicts_1 rfl (fun r9 T3 I4 R5 Lz hΦ => ?_) hok
  obtain ⟨r2, rfl, rfl, hl6, hw⟩ := hΦ
  have hw := hw hl6
  show GX E X T3 I4 R5 L 1 5 4 [some (aR (some o))] [aR r2]
  intro hok
  obtain ⟨b7, hb8, hw⟩ := hw
  rw [hb8]
  obtain ⟨ht9, hw⟩ := hw
  refine gx_callV hE hRm (As := []) ht9 (by decide) (by decide) rfl hx_X3_conflicts (tx_X3_conflicts X hw) (lw_V q1467 q1468 q1469 q103 q1470) ⟨by decide, by decide⟩ ⟨(by decide), (by decide)⟩ rfl (Nat.le_of_ble_eq_true rfl) dX0_conflicts_4 rfl (fun r9 Tz Iz Rz Lz hΦ => ?_) hok
  obtain ⟨r10, rfl, rfl, rfl, rfl, rfl, hw⟩ := hΦ
  show GX E X T3 I4 R5 L 1 5 7 [some (aR (some o))] [aI r10]
  intro hok
  exact gx_iret hE hR dX0_conflicts_7 (by decide) (by decide) rfl ⟨_, rfl, rfl, hl6, hw⟩ hok

/-- WhalingLogs$Listing.worst()I -/
def wx_X3_worst (X : XT) (o : Nat)  (T : xT) (I : xI) (R : xR) (L : xL) (Q : Int → Prop) : Prop :=
  lq3 (fun (x1_6 : Int) (x2_6 : Int) (x3_6 : Int) (K_6 : Int → Int → Int → Prop) =>
    xtag T o = 7 ∧
    cLt x3_6 (I o 7)
      (
      wx_X3_against X o x3_6 T I R L (fun (r2 : Int) => 
      jn1 (fun (y0_32 : Int) => 
          inR x2_6 ∧ inR r2 ∧
          K_6 y0_32 (if x2_6 < r2 then r2 else x2_6) (x3_6 + 1))
        (fun (J_32 : Int → Prop) =>
        cLt x2_6 r2
          (
          J_32 x3_6)
          (
          J_32 x1_6))))
      (
      Q x1_6)) (-1) 0 0
theorem hx_X3_worst : yX3_worst.cls = RX3 ∧ yX3_worst.cls ≠ "java/lang/invoke/MethodHandle" ∧ yX3_worst.cls ≠ "java/lang/invoke/VarHandle" ∧ (parseMethodDescriptor yX3_worst.desc).map (fun d => d.parameters.length) = some 0 := by decide +kernel
set_option maxHeartbeats 4000000 in
theorem tx_X3_worst (X : XT) {o : Nat}  {T : xT} {I : xI} {R : xR} {L : xL} {Q : Int → Prop} (hw : wx_X3_worst X o T I R L Q) : CtX X yX3_worst cX3_worst 5 (some .int) (rmX 3 0 0 109) [aR (some o)] T I R L (PXi T I R L Q) := by
  refine CtX.intro (by decide) (Nat.le_of_ble_eq_true rfl) (fun E hE hR hN => ?_)
  have hRm := hR.rm
  have hE : OkX E X RX3 cX3_worst 5 (some .int) := hE
  have hE1 := hE.1
  show GX E X T I R L 0 0 0 [some (aR (some o)), none, none, none, none] []
  unfold wx_X3_worst at hw
  intro hok
  refine g_iconst hE1 dX3_worst_0 ?_
  refine g_istn1 hE1 dX3_worst_1 (by decide) rfl ?_
  refine g_iconst hE1 dX3_worst_2 ?_
  refine g_istn2 hE1 dX3_worst_3 (by decide) rfl ?_
  refine g_iconst hE1 dX3_worst_4 ?_
  refine g_istn3 hE1 dX3_worst_5 (by decide) rfl ?_
  refine lq3_walk (fun (x1_6 : Int) (x2_6 : Int) (x3_6 : Int) => GX E X T I R L 0 0 6 [some (aR (some o)), some (aI x1_6), some (aI x2_6), some (aI x3_6), none] []) (fun K_6 hk_6 x1_6 x2_6 x3_6 hw => ?_) _ _ _ hw hok
  intro hok
  refine g_ildn3 hE1 dX3_worst_6 ?_
  refine g_aldn0 hE1 dX3_worst_7 ?_
  obtain ⟨ht1, hw⟩ := hw
  refine gx_geti hE in_X3 (t := 7) rfl (by decide) 7 7 rfl (by decide) rfl (by decide) rfl q297 (Or.inl rfl) ht1 dX3_worst_8 ?_ hok
  intro hok
  obtain ⟨h10, h11, hT12, hN13⟩ := hw
  refine g_icmp_ge hE1 (tgt := 46) dX3_worst_11 (by decide) h10 h11 (fun q => ?_) (fun q => ?_)
  · have hw := hT12 q
    refine g_aldn0 hE1 dX3_worst_14 ?_
    refine g_ildn3 hE1 dX3_worst_15 ?_
    refine gx_callV hE hRm (As := [aI x3_6]) ht1 (by decide) (by decide) rfl hx_X3_against (tx_X3_against X hw) (lw_V q1471 q1472 q1473 q103 q1474) ⟨by decide, by decide⟩ ⟨(by decide), (by decide)⟩ rfl (Nat.le_of_ble_eq_true rfl) dX3_worst_16 rfl (fun r9 Tz Iz Rz Lz hΦ => ?_) hok
    obtain ⟨r2, rfl, rfl, rfl, rfl, rfl, hw⟩ := hΦ
    show GX E X T I R L 0 0 19 [some (aR (some o)), some (aI x1_6), some (aI x2_6), some (aI x3_6), none] [aI r2]
    intro hok
    refine g_ist4 hE1 dX3_worst_19 (by decide) rfl ?_
    refine g_ild4 hE1 dX3_worst_21 ?_
    refine g_ildn2 hE1 dX3_worst_23 ?_
    refine jn1_walk (fun (y0_32 : Int) => GX E X T I R L 0 0 32 [some (aR (some o)), some (aI x1_6), some (aI x2_6), some (aI x3_6), some (aI r2)] [aI y0_32]) hw (fun y0_32 hw => ?_) (fun J_32 hj_32 hw => ?_)
    · intro hok
      refine g_istn1 hE1 dX3_worst_32 (by decide) rfl ?_
      refine g_ildn2 hE1 dX3_worst_33 ?_
      refine g_ild4 hE1 dX3_worst_34 ?_
      obtain ⟨h4, h5, hw⟩ := hw
      refine gx_max hE hRm h4 h5 q1483 q413 q109 q414 (by decide) (by decide) (by decide) (by decide) (Nat.le_of_ble_eq_true rfl) dX3_worst_36 ?_ hok
      intro hok
      refine g_istn2 hE1 dX3_worst_39 (by decide) rfl ?_
      refine g_iinc3 hE1 dX3_worst_40 (by decide) rfl ?_
      refine g_goto hE1 (tgt := 6) dX3_worst_43 (by decide) ?_
      refine g_kl4 ?_
      exact hk_6 _ _ _ hw hok
    · skip
      obtain ⟨h6, h7, hT8, hN9⟩ := hw
      refine g_icmp_le hE1 (tgt := 31) dX3_worst_24 (by decide) h7 h6 (fun q => ?_) (fun q => ?_)
      · have hw := hT8 q
        refine g_ildn3 hE1 dX3_worst_27 ?_
        refine g_goto hE1 (tgt := 32) dX3_worst_28 (by decide) ?_
        exact hj_32 _ hw hok
      · have hw := hN9 q
        refine g_ildn1 hE1 dX3_worst_31 ?_
        exact hj_32 _ hw hok
  · have hw := hN13 q
    refine g_ildn1 hE1 dX3_worst_46 ?_
    exact gx_iret hE hR dX3_worst_47 (by decide) (by decide) rfl ⟨_, rfl, rfl, rfl, rfl, rfl, hw⟩ hok

/-- WhalingLogs.orNothing(I)I -/
def wx_X0_orNothing (X : XT) (x0 : Int) (T : xT) (I : xI) (R : xR) (L : xL) (Q : Int → Prop) : Prop :=
  jn1 (fun (y0_11 : Int) => 
      Q y0_11)
    (fun (J_11 : Int → Prop) =>
    cEq x0 (-1)
      (
      J_11 (-5))
      (
      J_11 x0))
theorem hx_X0_orNothing : yX0_orNothing.cls ≠ "java/lang/invoke/MethodHandle" ∧ yX0_orNothing.cls ≠ "java/lang/invoke/VarHandle" ∧ (parseMethodDescriptor yX0_orNothing.desc).map (fun d => d.parameters.length) = some 1 := by decide +kernel
set_option maxHeartbeats 4000000 in
theorem tx_X0_orNothing (X : XT) {x0 : Int} {T : xT} {I : xI} {R : xR} {L : xL} {Q : Int → Prop} (hw : wx_X0_orNothing X x0 T I R L Q) : CtX X yX0_orNothing cX0_orNothing 1 (some .int) (rmX 0 0 0 0) [aI x0] T I R L (PXi T I R L Q) := by
  refine CtX.intro (by decide) (Nat.le_of_ble_eq_true rfl) (fun E hE hR hN => ?_)
  have hRm := hR.rm
  have hE : OkX E X RX0 cX0_orNothing 1 (some .int) := hE
  have hE1 := hE.1
  show GX E X T I R L 0 0 0 [some (aI x0)] []
  unfold wx_X0_orNothing at hw
  intro hok
  refine g_ildn0 hE1 dX0_orNothing_0 ?_
  refine g_iconst hE1 dX0_orNothing_1 ?_
  refine jn1_walk (fun (y0_11 : Int) => GX E X T I R L 0 0 11 [some (aI x0)] [aI y0_11]) hw (fun y0_11 hw => ?_) (fun J_11 hj_11 hw => ?_)
  · intro hok
    exact gx_iret hE hR dX0_orNothing_11 (by decide) (by decide) rfl ⟨_, rfl, rfl, rfl, rfl, rfl, hw⟩ hok
  · skip
    obtain ⟨h1, h2, hT3, hN4⟩ := hw
    refine g_icmp_ne hE1 (tgt := 10) dX0_orNothing_2 (by decide) h1 h2 (fun q => ?_) (fun q => ?_)
    · have hw := hT3 q
      refine g_bipush hE1 dX0_orNothing_5 (by decide) ?_
      refine g_goto hE1 (tgt := 11) dX0_orNothing_7 (by decide) ?_
      exact hj_11 _ hw hok
    · have hw := hN4 q
      refine g_ildn0 hE1 dX0_orNothing_10 ?_
      exact hj_11 _ hw hok

/-- WhalingLogs.worst()I -/
def wx_X0_worst (X : XT) (o : Nat)  (T : xT) (I : xI) (R : xR) (L : xL) (Q : Int → xT → xI → xR → Prop) : Prop :=
  xtag T o = 1 ∧ wx_X0_spread X o T I R L (fun (r2 : Option Nat) (T3 : xT) (I4 : xI) (R5 : xR) => tle T T3 → 
  ∃ b7 : Nat, r2 = some b7 ∧ xtag T3 b7 = 7 ∧ wx_X3_worst X b7 T3 I4 R5 L (fun (r10 : Int) => 
  wx_X0_orNothing X r10 T3 I4 R5 L (fun (r12 : Int) => 
  Q r12 T3 I4 R5)))
theorem hx_X0_worst : yX0_worst.cls = RX0 ∧ yX0_worst.cls ≠ "java/lang/invoke/MethodHandle" ∧ yX0_worst.cls ≠ "java/lang/invoke/VarHandle" ∧ (parseMethodDescriptor yX0_worst.desc).map (fun d => d.parameters.length) = some 0 := by decide +kernel
set_option maxHeartbeats 4000000 in
theorem tx_X0_worst (X : XT) {o : Nat}  {T : xT} {I : xI} {R : xR} {L : xL} {Q : Int → xT → xI → xR → Prop} (hw : wx_X0_worst X o T I R L Q) : CtX X yX0_worst cX0_worst 1 (some .int) (rmX 8 1 5 171) [aR (some o)] T I R L (PXiTIR T I R L Q) := by
  refine CtX.intro (by decide) (Nat.le_of_ble_eq_true rfl) (fun E hE hR hN => ?_)
  have hRm := hR.rm
  have hE : OkX E X RX0 cX0_worst 1 (some .int) := hE
  have hE1 := hE.1
  show GX E X T I R L 0 0 0 [some (aR (some o))] []
  unfold wx_X0_worst at hw
  intro hok
  refine g_aldn0 hE1 dX0_worst_0 ?_
  obtain ⟨ht1, hw⟩ := hw
  refine gx_callV hE hRm (As := []) ht1 (by decide) (by decide) rfl hx_X0_spread (tx_X0_spread X hw) (lw_V q1409 q1411 qs25 q94 q1412) ⟨by decide, by decide⟩ ⟨(by decide), (by decide)⟩ rfl (Nat.le_of_ble_eq_true rfl) dX0_worst_1 rfl (fun r9 T3 I4 R5 Lz hΦ => ?_) hok
  obtain ⟨r2, rfl, rfl, hl6, hw⟩ := hΦ
  have hw := hw hl6
  show GX E X T3 I4 R5 L 1 5 4 [some (aR (some o))] [aR r2]
  intro hok
  obtain ⟨b7, hb8, hw⟩ := hw
  rw [hb8]
  obtain ⟨ht9, hw⟩ := hw
  refine gx_callV hE hRm (As := []) ht9 (by decide) (by decide) rfl hx_X3_worst (tx_X3_worst X hw) (lw_V q1479 q1480 q1481 q103 q1482) ⟨by decide, by decide⟩ ⟨(by decide), (by decide)⟩ rfl (Nat.le_of_ble_eq_true rfl) dX0_worst_4 rfl (fun r9 Tz Iz Rz Lz hΦ => ?_) hok
  obtain ⟨r10, rfl, rfl, rfl, rfl, rfl, hw⟩ := hΦ
  show GX E X T3 I4 R5 L 1 5 7 [some (aR (some o))] [aI r10]
  intro hok
  refine gx_callS hE hRm (As := [aI r10]) hx_X0_orNothing (tx_X0_orNothing X hw) (lw_S q1484 q1485 q94 q1486) ⟨by decide, by decide⟩ ⟨(by decide), (by decide)⟩ rfl (Nat.le_of_ble_eq_true rfl) dX0_worst_7 rfl (fun r9 Tz Iz Rz Lz hΦ => ?_) hok
  obtain ⟨r12, rfl, rfl, rfl, rfl, rfl, hw⟩ := hΦ
  show GX E X T3 I4 R5 L 1 5 10 [some (aR (some o))] [aI r12]
  intro hok
  exact gx_iret hE hR dX0_worst_10 (by decide) (by decide) rfl ⟨_, rfl, rfl, hl6, hw⟩ hok

/-- WhalingLogs.crossings()I -/
def wx_X0_crossings (X : XT) (o : Nat)  (T : xT) (I : xI) (R : xR) (L : xL) (Q : Int → xT → xI → xR → Prop) : Prop :=
  xtag T o = 1 ∧ wx_X0_listed X o T I R L (fun (r2 : Option Nat) (T3 : xT) (I4 : xI) (R5 : xR) => tle T T3 → 
  ∃ b7 : Nat, r2 = some b7 ∧ xtag T3 b7 = 7 ∧ wx_X3_crossings X b7 T3 I4 R5 L (fun (r10 : Int) => 
  Q r10 T3 I4 R5))
theorem hx_X0_crossings : yX0_crossings.cls = RX0 ∧ yX0_crossings.cls ≠ "java/lang/invoke/MethodHandle" ∧ yX0_crossings.cls ≠ "java/lang/invoke/VarHandle" ∧ (parseMethodDescriptor yX0_crossings.desc).map (fun d => d.parameters.length) = some 0 := by decide +kernel
set_option maxHeartbeats 4000000 in
theorem tx_X0_crossings (X : XT) {o : Nat}  {T : xT} {I : xI} {R : xR} {L : xL} {Q : Int → xT → xI → xR → Prop} (hw : wx_X0_crossings X o T I R L Q) : CtX X yX0_crossings cX0_crossings 1 (some .int) (rmX 7 1 5 151) [aR (some o)] T I R L (PXiTIR T I R L Q) := by
  refine CtX.intro (by decide) (Nat.le_of_ble_eq_true rfl) (fun E hE hR hN => ?_)
  have hRm := hR.rm
  have hE : OkX E X RX0 cX0_crossings 1 (some .int) := hE
  have hE1 := hE.1
  show GX E X T I R L 0 0 0 [some (aR (some o))] []
  unfold wx_X0_crossings at hw
  intro hok
  refine g_aldn0 hE1 dX0_crossings_0 ?_
  obtain ⟨ht1, hw⟩ := hw
  refine gx_callV hE hRm (As := []) ht1 (by decide) (by decide) rfl hx_X0_listed (tx_X0_listed X hw) (lw_V q1300 q1302 qs22 q94 q1303) ⟨by decide, by decide⟩ ⟨(by decide), (by decide)⟩ rfl (Nat.le_of_ble_eq_true rfl) dX0_crossings_1 rfl (fun r9 T3 I4 R5 Lz hΦ => ?_) hok
  obtain ⟨r2, rfl, rfl, hl6, hw⟩ := hΦ
  have hw := hw hl6
  show GX E X T3 I4 R5 L 1 5 4 [some (aR (some o))] [aR r2]
  intro hok
  obtain ⟨b7, hb8, hw⟩ := hw
  rw [hb8]
  obtain ⟨ht9, hw⟩ := hw
  refine gx_callV hE hRm (As := []) ht9 (by decide) (by decide) rfl hx_X3_crossings (tx_X3_crossings X hw) (lw_V q1304 q1305 q1306 q103 q1307) ⟨by decide, by decide⟩ ⟨(by decide), (by decide)⟩ rfl (Nat.le_of_ble_eq_true rfl) dX0_crossings_4 rfl (fun r9 Tz Iz Rz Lz hΦ => ?_) hok
  obtain ⟨r10, rfl, rfl, rfl, rfl, rfl, hw⟩ := hΦ
  show GX E X T3 I4 R5 L 1 5 7 [some (aR (some o))] [aI r10]
  intro hok
  exact gx_iret hE hR dX0_crossings_7 (by decide) (by decide) rfl ⟨_, rfl, rfl, hl6, hw⟩ hok

/-- java/util/LinkedList$DescendingIterator.<init>(Ljava/util/LinkedList;)V -/
def wx_J27_init (X : XT) (o : Nat) (x1 : Option Nat) (T : xT) (I : xI) (R : xR) (L : xL) (Q : xT → xI → xR → Prop) : Prop :=
  xtag T o = 15 ∧ ∀ R2 : xR, R2 = uR R o 1 x1 →
  ∀ q3 : Nat, xtag T q3 = 0 → bsX X ≤ q3 → ∀ T6 : xT, T6 = xnew T q3 9 0 →
  ∃ b10 : Nat, R2 o 1 = some b10 ∧ xtag T6 b10 = 4 ∧ wx_J4_size X b10 T6 I R2 L (fun (r13 : Int) => 
  wx_J15_init X q3 (some b10) r13 T6 I R2 L (fun (I15 : xI) (R16 : xR) => 
  ∀ R18 : xR, R18 = uR R16 o 0 (some q3) →
  Q T6 I15 R18))
theorem hx_J27_init : yJ27_init.cls ≠ "java/lang/invoke/MethodHandle" ∧ yJ27_init.cls ≠ "java/lang/invoke/VarHandle" ∧ (parseMethodDescriptor yJ27_init.desc).map (fun d => d.parameters.length) = some 1 := by decide +kernel
set_option maxHeartbeats 4000000 in
theorem tx_J27_init (X : XT) {o : Nat} {x1 : Option Nat} {T : xT} {I : xI} {R : xR} {L : xL} {Q : xT → xI → xR → Prop} (hw : wx_J27_init X o x1 T I R L Q) : CtX X yJ27_init cJ27_init 2 none (rmX 2 1 5 45) [aR (some o), aR x1] T I R L (PXvTIR T I R L Q) := by
  refine CtX.intro (by decide) (Nat.le_of_ble_eq_true rfl) (fun E hE hR hN => ?_)
  have hRm := hR.rm
  have hE : OkX E X RJ27 cJ27_init 2 none := hE
  have hE1 := hE.1
  have hI : isInit E := hN
  show GX E X T I R L 0 0 0 [some (aR (some o)), some (aR x1)] []
  unfold wx_J27_init at hw
  intro hok
  refine g_aldn0 hE1 dJ27_init_0 ?_
  refine g_aldn1 hE1 dJ27_init_1 ?_
  obtain ⟨ht1, hw⟩ := hw
  refine gx_putrF hE in_J27 (t := 15) rfl (by decide) 1 1 rfl (by decide) rfl (by decide) (ty := tyJ27 1) tyJ27 tyJ27_ok nmJ27 rfl q1519 (Or.inl rfl) rfl hI rfl (tyJ27_ok 1 (by decide)) nar_o fit_o ht1 dJ27_init_2 ?_ hok
  intro hok
  have hw := hw _ rfl
  generalize uR R o 1 x1 = R2 at hw hok ⊢
  refine g_aldn0 hE1 dJ27_init_5 ?_
  refine gx_objInit hE hRm rfl q1514 q151 q152 (by decide) (by decide) (Nat.le_of_ble_eq_true rfl) dJ27_init_6 ?_ hok
  intro hok
  refine g_aldn0 hE1 dJ27_init_9 ?_
  refine gx_new hE hRm in_J15 tyJ15 tyJ15_ok (t := 9) rfl (by decide) (by decide) rfl (by decide) q1515 q498 q116 (by decide) (by decide) dJ27_init_10 (fun q3 hq4 hbs5 => ?_) hok
  intro hok
  have hw := hw q3 hq4 hbs5 _ rfl
  have hl7 := tle.new (T := T) (q := q3) (t := 9) (n := 0) hq4
  have hT8 : xtag (xnew T q3 9 0) q3 = 9 := if_pos rfl
  generalize xnew T q3 9 0 = T6 at hw hl7 hok hT8 ⊢
  refine g_dup hE1 dJ27_init_13 rfl ?_
  refine g_aldn0 hE1 dJ27_init_14 ?_
  have ht9 := hl7.tag ht1 (by decide)
  refine gx_getr hE in_J27 (t := 15) rfl (by decide) 1 1 rfl (by decide) rfl (by decide) rfl q1519 (Or.inl rfl) ht9 dJ27_init_15 ?_ hok
  intro hok
  refine g_aldn0 hE1 dJ27_init_18 ?_
  refine gx_getr hE in_J27 (t := 15) rfl (by decide) 1 1 rfl (by decide) rfl (by decide) rfl q1519 (Or.inl rfl) ht9 dJ27_init_19 ?_ hok
  intro hok
  obtain ⟨b10, hb11, hw⟩ := hw
  rw [hb11]
  obtain ⟨ht12, hw⟩ := hw
  refine gx_callV hE hRm (As := []) ht12 (by decide) (by decide) rfl hx_J4_size (tx_J4_size X hw) (lw_V q1516 q541 q2594 q100 q542) ⟨by decide, by decide⟩ ⟨(by decide), (by decide)⟩ rfl (Nat.le_of_ble_eq_true rfl) dJ27_init_22 rfl (fun r9 Tz Iz Rz Lz hΦ => ?_) hok
  obtain ⟨r13, rfl, rfl, rfl, rfl, rfl, hw⟩ := hΦ
  show GX E X T6 I R2 L 1 5 25 [some (aR (some o)), some (aR x1)] [aI r13, aR (some b10), aR (some q3), aR (some q3), aR (some o)]
  intro hok
  refine gx_callI hE hRm (As := [aR (some b10), aI r13]) (b := q3) hx_J15_init (lw_meth q501) q1517 q116 q500 rfl (tx_J15_init X hw) ⟨by decide, by decide⟩ ⟨(by decide), (by decide)⟩ rfl (Nat.le_of_ble_eq_true rfl) dJ27_init_25 rfl (fun r9 Tz I15 R16 Lz hΦ => ?_) hok
  obtain ⟨rfl, rfl, rfl, hw⟩ := hΦ
  show GX E X T6 I15 R16 L 1 5 28 [some (aR (some o)), some (aR x1)] [aR (some q3), aR (some o)]
  intro hok
  refine gx_putrF hE in_J27 (t := 15) rfl (by decide) 0 0 rfl (by decide) rfl (by decide) (ty := tyJ27 0) tyJ27 tyJ27_ok nmJ27 rfl q1518 (Or.inl rfl) rfl hI rfl (tyJ27_ok 0 (by decide)) nar_o fit_o ht9 dJ27_init_28 ?_ hok
  intro hok
  have hw := hw _ rfl
  generalize uR R16 o 0 (some q3) = R18 at hw hok ⊢
  exact gx_vret hE hR dJ27_init_31 (by decide) (by decide) ⟨rfl, rfl, hl7, hw⟩ hok

/-- java/util/LinkedList.descendingIterator()Ljava/util/Iterator; -/
def wx_J4_descendingIterator (X : XT) (o : Nat)  (T : xT) (I : xI) (R : xR) (L : xL) (Q : Option Nat → xT → xI → xR → Prop) : Prop :=
  ∀ q1 : Nat, xtag T q1 = 0 → bsX X ≤ q1 → ∀ T4 : xT, T4 = xnew T q1 15 0 →
  wx_J27_init X q1 (some o) T4 I R L (fun (T7 : xT) (I8 : xI) (R9 : xR) => tle T4 T7 → 
  Q (some q1) T7 I8 R9)
theorem hx_J4_descendingIterator : yJ4_descendingIterator.cls = RJ4 ∧ yJ4_descendingIterator.cls ≠ "java/lang/invoke/MethodHandle" ∧ yJ4_descendingIterator.cls ≠ "java/lang/invoke/VarHandle" ∧ (parseMethodDescriptor yJ4_descendingIterator.desc).map (fun d => d.parameters.length) = some 0 := by decide +kernel
set_option maxHeartbeats 4000000 in
theorem tx_J4_descendingIterator (X : XT) {o : Nat}  {T : xT} {I : xI} {R : xR} {L : xL} {Q : Option Nat → xT → xI → xR → Prop} (hw : wx_J4_descendingIterator X o T I R L Q) : CtX X yJ4_descendingIterator cJ4_descendingIterator 1 (some (.object "java/util/Iterator")) (rmX 3 2 7 66) [aR (some o)] T I R L (PXqTIR T I R L Q) := by
  refine CtX.intro (by decide) (Nat.le_of_ble_eq_true rfl) (fun E hE hR hN => ?_)
  have hRm := hR.rm
  have hE : OkX E X RJ4 cJ4_descendingIterator 1 (some (.object "java/util/Iterator")) := hE
  have hE1 := hE.1
  show GX E X T I R L 0 0 0 [some (aR (some o))] []
  unfold wx_J4_descendingIterator at hw
  intro hok
  refine gx_new hE hRm in_J27 tyJ27 tyJ27_ok (t := 15) rfl (by decide) (by decide) rfl (by decide) q1509 q1510 q132 (by decide) (by decide) dJ4_descendingIterator_0 (fun q1 hq2 hbs3 => ?_) hok
  intro hok
  have hw := hw q1 hq2 hbs3 _ rfl
  have hl5 := tle.new (T := T) (q := q1) (t := 15) (n := 0) hq2
  have hT6 : xtag (xnew T q1 15 0) q1 = 15 := if_pos rfl
  generalize xnew T q1 15 0 = T4 at hw hl5 hok hT6 ⊢
  refine g_dup hE1 dJ4_descendingIterator_3 rfl ?_
  refine g_aldn0 hE1 dJ4_descendingIterator_4 ?_
  refine gx_callIN hE hRm (As := [aR (some o)]) (b := q1) hx_J27_init (lw_meth q1513) q1511 q132 q1512 rfl (tx_J27_init X hw) ⟨by decide, by decide⟩ ⟨(by decide), (by decide)⟩ rfl (Nat.le_of_ble_eq_true rfl) dJ4_descendingIterator_5 rfl (fun r9 T7 I8 R9 Lz hΦ => ?_) hok
  obtain ⟨rfl, rfl, hl10, hw⟩ := hΦ
  have hw := hw hl10
  show GX E X T7 I8 R9 L 2 7 8 [some (aR (some o))] [aR (some q1)]
  intro hok
  exact gx_aret hE hR dJ4_descendingIterator_8 (by decide) (by decide) (Or.inl ⟨_, rfl⟩) ⟨_, rfl, rfl, (hl5.tr hl10), hw⟩ hok

/-- java/util/LinkedList$ListItr.hasPrevious()Z -/
def wx_J15_hasPrevious (X : XT) (o : Nat)  (T : xT) (I : xI) (R : xR) (L : xL) (Q : Int → Prop) : Prop :=
  xtag T o = 9 ∧
  jn1 (fun (y0_12 : Int) => 
      bl y0_12 ∧ Q y0_12)
    (fun (J_12 : Int → Prop) =>
    cLt 0 (I o 2)
      (
      J_12 1)
      (
      J_12 0))
theorem hx_J15_hasPrevious : yJ15_hasPrevious.cls = RJ15 ∧ yJ15_hasPrevious.cls ≠ "java/lang/invoke/MethodHandle" ∧ yJ15_hasPrevious.cls ≠ "java/lang/invoke/VarHandle" ∧ (parseMethodDescriptor yJ15_hasPrevious.desc).map (fun d => d.parameters.length) = some 0 := by decide +kernel
set_option maxHeartbeats 4000000 in
theorem tx_J15_hasPrevious (X : XT) {o : Nat}  {T : xT} {I : xI} {R : xR} {L : xL} {Q : Int → Prop} (hw : wx_J15_hasPrevious X o T I R L Q) : CtX X yJ15_hasPrevious cJ15_hasPrevious 1 (some .boolean) (rmX 0 0 0 0) [aR (some o)] T I R L (PXi T I R L Q) := by
  refine CtX.intro (by decide) (Nat.le_of_ble_eq_true rfl) (fun E hE hR hN => ?_)
  have hRm := hR.rm
  have hE : OkX E X RJ15 cJ15_hasPrevious 1 (some .boolean) := hE
  have hE1 := hE.1
  show GX E X T I R L 0 0 0 [some (aR (some o))] []
  unfold wx_J15_hasPrevious at hw
  intro hok
  refine g_aldn0 hE1 dJ15_hasPrevious_0 ?_
  obtain ⟨ht1, hw⟩ := hw
  refine gx_geti hE in_J15 (t := 9) rfl (by decide) 2 2 rfl (by decide) rfl (by decide) rfl q509 (Or.inl rfl) ht1 dJ15_hasPrevious_1 ?_ hok
  intro hok
  refine jn1_walk (fun (y0_12 : Int) => GX E X T I R L 0 0 12 [some (aR (some o))] [aI y0_12]) hw (fun y0_12 hw => ?_) (fun J_12 hj_12 hw => ?_)
  · intro hok
    obtain ⟨h2, hw⟩ := hw
    exact gx_iret hE hR dJ15_hasPrevious_12 (by decide) (by decide) (narrow_bl h2) ⟨_, rfl, rfl, rfl, rfl, rfl, hw⟩ hok
  · skip
    obtain ⟨h3, h4, hT5, hN6⟩ := hw
    refine g_if_le hE1 (tgt := 11) dJ15_hasPrevious_4 (by decide) h4 (fun q => ?_) (fun q => ?_)
    · have hw := hT5 q
      refine g_iconst hE1 dJ15_hasPrevious_7 ?_
      refine g_goto hE1 (tgt := 12) dJ15_hasPrevious_8 (by decide) ?_
      exact hj_12 _ hw hok
    · have hw := hN6 q
      refine g_iconst hE1 dJ15_hasPrevious_11 ?_
      exact hj_12 _ hw hok

/-- java/util/LinkedList$DescendingIterator.hasNext()Z -/
def wx_J27_hasNext (X : XT) (o : Nat)  (T : xT) (I : xI) (R : xR) (L : xL) (Q : Int → Prop) : Prop :=
  xtag T o = 15 ∧
  ∃ b2 : Nat, R o 0 = some b2 ∧ xtag T b2 = 9 ∧ wx_J15_hasPrevious X b2 T I R L (fun (r5 : Int) => 
  bl r5 ∧ Q r5)
theorem hx_J27_hasNext : yJ27_hasNext.cls = RJ27 ∧ yJ27_hasNext.cls ≠ "java/lang/invoke/MethodHandle" ∧ yJ27_hasNext.cls ≠ "java/lang/invoke/VarHandle" ∧ (parseMethodDescriptor yJ27_hasNext.desc).map (fun d => d.parameters.length) = some 0 := by decide +kernel
set_option maxHeartbeats 4000000 in
theorem tx_J27_hasNext (X : XT) {o : Nat}  {T : xT} {I : xI} {R : xR} {L : xL} {Q : Int → Prop} (hw : wx_J27_hasNext X o T I R L Q) : CtX X yJ27_hasNext cJ27_hasNext 1 (some .boolean) (rmX 1 0 0 20) [aR (some o)] T I R L (PXi T I R L Q) := by
  refine CtX.intro (by decide) (Nat.le_of_ble_eq_true rfl) (fun E hE hR hN => ?_)
  have hRm := hR.rm
  have hE : OkX E X RJ27 cJ27_hasNext 1 (some .boolean) := hE
  have hE1 := hE.1
  show GX E X T I R L 0 0 0 [some (aR (some o))] []
  unfold wx_J27_hasNext at hw
  intro hok
  refine g_aldn0 hE1 dJ27_hasNext_0 ?_
  obtain ⟨ht1, hw⟩ := hw
  refine gx_getr hE in_J27 (t := 15) rfl (by decide) 0 0 rfl (by decide) rfl (by decide) rfl q1518 (Or.inl rfl) ht1 dJ27_hasNext_1 ?_ hok
  intro hok
  obtain ⟨b2, hb3, hw⟩ := hw
  rw [hb3]
  obtain ⟨ht4, hw⟩ := hw
  refine gx_callV hE hRm (As := []) ht4 (by decide) (by decide) rfl hx_J15_hasPrevious (tx_J15_hasPrevious X hw) (lw_V q555 q556 q557 q116 q558) ⟨by decide, by decide⟩ ⟨(by decide), (by decide)⟩ rfl (Nat.le_of_ble_eq_true rfl) dJ27_hasNext_4 rfl (fun r9 Tz Iz Rz Lz hΦ => ?_) hok
  obtain ⟨r5, rfl, rfl, rfl, rfl, rfl, hw⟩ := hΦ
  show GX E X T I R L 0 0 7 [some (aR (some o))] [aI r5]
  intro hok
  obtain ⟨h7, hw⟩ := hw
  exact gx_iret hE hR dJ27_hasNext_7 (by decide) (by decide) (narrow_bl h7) ⟨_, rfl, rfl, rfl, rfl, rfl, hw⟩ hok

/-- java/util/LinkedList$ListItr.previous()Ljava/lang/Object; -/
def wx_J15_previous (X : XT) (o : Nat)  (T : xT) (I : xI) (R : xR) (L : xL) (Q : Option Nat → xI → xR → Prop) : Prop :=
  xtag T o = 9 ∧ wx_J15_checkForComodification X o T I R L (
  wx_J15_hasPrevious X o T I R L (fun (r3 : Int) => 
  cEq r3 0
    (
    False)
    (
    jn1 (fun (y2_45 : Option Nat) => 
        ∀ R5 : xR, R5 = uR R o 1 y2_45 →
        ∀ R6 : xR, R6 = uR R5 o 0 y2_45 →
        ∀ I7 : xI, I7 = uI I o 2 ((I o 2) - 1) →
        ∃ b8 : Nat, R6 o 0 = some b8 ∧ xtag T b8 = 13 ∧
        Q (R6 b8 0) I7 R6)
      (fun (J_45 : Option Nat → Prop) =>
      (R o 1 = none →
        ∃ b13 : Nat, R o 4 = some b13 ∧ xtag T b13 = 4 ∧
        J_45 (R b13 3)) ∧
      (∀ b11 : Nat, R o 1 = some b11 →
        ∃ b16 : Nat, R o 1 = some b16 ∧ xtag T b16 = 13 ∧
        J_45 (R b16 2))))))
theorem hx_J15_previous : yJ15_previous.cls = RJ15 ∧ yJ15_previous.cls ≠ "java/lang/invoke/MethodHandle" ∧ yJ15_previous.cls ≠ "java/lang/invoke/VarHandle" ∧ (parseMethodDescriptor yJ15_previous.desc).map (fun d => d.parameters.length) = some 0 := by decide +kernel
set_option maxHeartbeats 4000000 in
theorem tx_J15_previous (X : XT) {o : Nat}  {T : xT} {I : xI} {R : xR} {L : xL} {Q : Option Nat → xI → xR → Prop} (hw : wx_J15_previous X o T I R L Q) : CtX X yJ15_previous cJ15_previous 1 (some (.object "java/lang/Object")) (rmX 1 0 0 20) [aR (some o)] T I R L (PXqIR T I R L Q) := by
  refine CtX.intro (by decide) (Nat.le_of_ble_eq_true rfl) (fun E hE hR hN => ?_)
  have hRm := hR.rm
  have hE : OkX E X RJ15 cJ15_previous 1 (some (.object "java/lang/Object")) := hE
  have hE1 := hE.1
  show GX E X T I R L 0 0 0 [some (aR (some o))] []
  unfold wx_J15_previous at hw
  intro hok
  refine g_aldn0 hE1 dJ15_previous_0 ?_
  obtain ⟨ht1, hw⟩ := hw
  refine gx_callV hE hRm (As := []) ht1 (by decide) (by decide) rfl hx_J15_checkForComodification (tx_J15_checkForComodification X hw) (lw_V q922 q923 q924 q116 q925) ⟨by decide, by decide⟩ ⟨(by decide), (by decide)⟩ rfl (Nat.le_of_ble_eq_true rfl) dJ15_previous_1 rfl (fun r9 Tz Iz Rz Lz hΦ => ?_) hok
  obtain ⟨rfl, rfl, rfl, rfl, rfl, hw⟩ := hΦ
  show GX E X T I R L 0 0 4 [some (aR (some o))] []
  intro hok
  refine g_aldn0 hE1 dJ15_previous_4 ?_
  refine gx_callV hE hRm (As := []) ht1 (by decide) (by decide) rfl hx_J15_hasPrevious (tx_J15_hasPrevious X hw) (lw_V q926 q556 q557 q116 q558) ⟨by decide, by decide⟩ ⟨(by decide), (by decide)⟩ rfl (Nat.le_of_ble_eq_true rfl) dJ15_previous_5 rfl (fun r9 Tz Iz Rz Lz hΦ => ?_) hok
  obtain ⟨r3, rfl, rfl, rfl, rfl, rfl, hw⟩ := hΦ
  show GX E X T I R L 0 0 8 [some (aR (some o))] [aI r3]
  intro hok
  obtain ⟨h19, h20, hT21, hN22⟩ := hw
  refine g_if_ne hE1 (tgt := 19) dJ15_previous_8 (by decide) h19 (fun q => ?_) (fun q => ?_)
  · have hw := hT21 q
    exact hw.elim
  · have hw := hN22 q
    refine g_aldn0 hE1 dJ15_previous_19 ?_
    refine g_aldn0 hE1 dJ15_previous_20 ?_
    refine g_aldn0 hE1 dJ15_previous_21 ?_
    refine gx_getr hE in_J15 (t := 9) rfl (by decide) 1 1 rfl (by decide) rfl (by decide) rfl q508 (Or.inl rfl) ht1 dJ15_previous_22 ?_ hok
    intro hok
    refine jn1_walk (fun (y2_45 : Option Nat) => GX E X T I R L 0 0 45 [some (aR (some o))] [aR y2_45, aR (some o), aR (some o)]) hw (fun y2_45 hw => ?_) (fun J_45 hj_45 hw => ?_)
    · intro hok
      refine g_dup_x1 hE1 dJ15_previous_45 rfl rfl ?_
      refine gx_putr hE in_J15 (t := 9) rfl (by decide) 1 1 rfl (by decide) rfl (by decide) (ty := tyJ15 1) tyJ15 tyJ15_ok nmJ15 rfl q508 (Or.inl rfl) rfl (tyJ15_ok 1 (by decide)) nar_o fit_o ht1 dJ15_previous_46 ?_ hok
      intro hok
      have hw := hw _ rfl
      generalize uR R o 1 y2_45 = R5 at hw hok ⊢
      refine gx_putr hE in_J15 (t := 9) rfl (by decide) 0 0 rfl (by decide) rfl (by decide) (ty := tyJ15 0) tyJ15 tyJ15_ok nmJ15 rfl q507 (Or.inl rfl) rfl (tyJ15_ok 0 (by decide)) nar_o fit_o ht1 dJ15_previous_49 ?_ hok
      intro hok
      have hw := hw _ rfl
      generalize uR R5 o 0 y2_45 = R6 at hw hok ⊢
      refine g_aldn0 hE1 dJ15_previous_52 ?_
      refine g_dup hE1 dJ15_previous_53 rfl ?_
      refine gx_geti hE in_J15 (t := 9) rfl (by decide) 2 2 rfl (by decide) rfl (by decide) rfl q509 (Or.inl rfl) ht1 dJ15_previous_54 ?_ hok
      intro hok
      refine g_iconst hE1 dJ15_previous_57 ?_
      refine g_isub hE1 dJ15_previous_58 ?_
      refine gx_puti hE in_J15 (t := 9) rfl (by decide) 2 2 rfl (by decide) rfl (by decide) (ty := tyJ15 2) tyJ15 tyJ15_ok nmJ15 rfl q509 (Or.inl rfl) rfl (tyJ15_ok 2 (by decide)) rfl rfl ht1 dJ15_previous_59 ?_ hok
      intro hok
      have hw := hw _ rfl
      generalize uI I o 2 ((I o 2) - 1) = I7 at hw hok ⊢
      refine g_aldn0 hE1 dJ15_previous_62 ?_
      refine gx_getr hE in_J15 (t := 9) rfl (by decide) 0 0 rfl (by decide) rfl (by decide) rfl q507 (Or.inl rfl) ht1 dJ15_previous_63 ?_ hok
      intro hok
      obtain ⟨b8, hb9, hw⟩ := hw
      rw [hb9]
      obtain ⟨ht10, hw⟩ := hw
      refine gx_getr hE in_J25 (t := 13) rfl (by decide) 0 0 rfl (by decide) rfl (by decide) rfl q1058 (Or.inl rfl) ht10 dJ15_previous_66 ?_ hok
      intro hok
      exact gx_aret hE hR dJ15_previous_69 (by decide) (by decide) (Or.inl ⟨_, rfl⟩) ⟨_, rfl, rfl, rfl, hw⟩ hok
    · skip
      refine g_ifnonnull hE1 (tgt := 38) dJ15_previous_25 (by decide) (fun q => ?_) (fun b11 hb12 => ?_)
      · have hw := hw.1 q
        refine g_aldn0 hE1 dJ15_previous_28 ?_
        refine gx_getr hE in_J15 (t := 9) rfl (by decide) 4 4 rfl (by decide) rfl (by decide) rfl q511 (Or.inl rfl) ht1 dJ15_previous_29 ?_ hok
        intro hok
        obtain ⟨b13, hb14, hw⟩ := hw
        rw [hb14]
        obtain ⟨ht15, hw⟩ := hw
        refine gx_getr hE in_J4 (t := 4) rfl (by decide) 3 3 rfl (by decide) rfl (by decide) rfl q202 (Or.inl rfl) ht15 dJ15_previous_32 ?_ hok
        intro hok
        refine g_goto hE1 (tgt := 45) dJ15_previous_35 (by decide) ?_
        exact hj_45 _ hw hok
      · have hw := hw.2 b11 hb12
        refine g_aldn0 hE1 dJ15_previous_38 ?_
        refine gx_getr hE in_J15 (t := 9) rfl (by decide) 1 1 rfl (by decide) rfl (by decide) rfl q508 (Or.inl rfl) ht1 dJ15_previous_39 ?_ hok
        intro hok
        obtain ⟨b16, hb17, hw⟩ := hw
        rw [hb17]
        obtain ⟨ht18, hw⟩ := hw
        refine gx_getr hE in_J25 (t := 13) rfl (by decide) 2 2 rfl (by decide) rfl (by decide) rfl q1065 (Or.inl rfl) ht18 dJ15_previous_42 ?_ hok
        intro hok
        exact hj_45 _ hw hok

