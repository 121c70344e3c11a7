set_option maxRecDepth 100000
/-- java/util/LinkedList$DescendingIterator.next()Ljava/lang/Object; -/
def wx_J27_next (X : XT) (o : Nat)  (T : xT) (I : xI) (R : xR) (L : xL) (Q : Option Nat → xI → xR → Prop) : Prop :=
  xtag T o = 15 ∧
  ∃ b2 : Nat, R o 0 = some b2 ∧ xtag T b2 = 9 ∧ wx_J15_previous X b2 T I R L (fun (r5 : Option Nat) (I6 : xI) (R7 : xR) => 
  Q r5 I6 R7)
theorem hx_J27_next : yJ27_next.cls = RJ27 ∧ yJ27_next.cls ≠ "java/lang/invoke/MethodHandle" ∧ yJ27_next.cls ≠ "java/lang/invoke/VarHandle" ∧ (parseMethodDescriptor yJ27_next.desc).map (fun d => d.parameters.length) = some 0 := by decide +kernel
set_option maxHeartbeats 4000000 in
theorem tx_J27_next (X : XT) {o : Nat}  {T : xT} {I : xI} {R : xR} {L : xL} {Q : Option Nat → xI → xR → Prop} (hw : wx_J27_next X o T I R L Q) : CtX X yJ27_next cJ27_next 1 (some (.object "java/lang/Object")) (rmX 2 0 0 40) [aR (some o)] T I R L (PXqIR T I R L Q) := by
  refine CtX.intro (by decide) (Nat.le_of_ble_eq_true rfl) (fun E hE hR hN => ?_)
  have hRm := hR.rm
  have hE : OkX E X RJ27 cJ27_next 1 (some (.object "java/lang/Object")) := hE
  have hE1 := hE.1
  show GX E X T I R L 0 0 0 [some (aR (some o))] []
  unfold wx_J27_next at hw
  intro hok
  refine g_aldn0 hE1 dJ27_next_0 ?_
  obtain ⟨ht1, hw⟩ := hw
  refine gx_getr hE in_J27 (t := 15) rfl (by decide) 0 0 rfl (by decide) rfl (by decide) rfl q1518 (Or.inl rfl) ht1 dJ27_next_1 ?_ hok
  intro hok
  obtain ⟨b2, hb3, hw⟩ := hw
  rw [hb3]
  obtain ⟨ht4, hw⟩ := hw
  refine gx_callV hE hRm (As := []) ht4 (by decide) (by decide) rfl hx_J15_previous (tx_J15_previous X hw) (lw_V q918 q919 q920 q116 q921) ⟨by decide, by decide⟩ ⟨(by decide), (by decide)⟩ rfl (Nat.le_of_ble_eq_true rfl) dJ27_next_4 rfl (fun r9 Tz I6 R7 Lz hΦ => ?_) hok
  obtain ⟨r5, rfl, rfl, rfl, hw⟩ := hΦ
  show GX E X T I6 R7 L 0 0 7 [some (aR (some o))] [aR r5]
  intro hok
  exact gx_aret hE hR dJ27_next_7 (by decide) (by decide) (Or.inl ⟨_, rfl⟩) ⟨_, rfl, rfl, rfl, hw⟩ hok

/-- WhalingLogs.later(Ljava/util/LinkedList;LWhalingLogs$Entry;)I -/
def wx_X0_later (X : XT) (x0 : Option Nat) (x1 : Option Nat) (T : xT) (I : xI) (R : xR) (L : xL) (Q : Int → xT → xI → xR → Prop) : Prop :=
  ∃ b1 : Nat, x0 = some b1 ∧ xtag T b1 = 4 ∧ wx_J4_descendingIterator X b1 T I R L (fun (r4 : Option Nat) (T5 : xT) (I6 : xI) (R7 : xR) => tle T T5 → 
  lq3 (fun (x2_7 : Int) (I_7 : xI) (R_7 : xR) (K_7 : Int → xI → xR → Prop) =>
    ∃ b9 : Nat, r4 = some b9 ∧ xtag T5 b9 = 15 ∧ wx_J27_hasNext X b9 T5 I_7 R_7 L (fun (r12 : Int) => 
    jn2 (fun (I_41 : xI) (R_41 : xR) => 
        Q x2_7 T5 I_41 R_41)
      (fun (J_41 : xI → xR → Prop) =>
      cEq r12 0
        (
        J_41 I_7 R_7)
        (
        wx_J27_next X b9 T5 I_7 R_7 L (fun (r14 : Option Nat) (I15 : xI) (R16 : xR) => 
        ∃ b18 : Nat, r14 = some b18 ∧ xtag T5 b18 = 12 ∧
        ∃ b21 : Nat, x1 = some b21 ∧ xtag T5 b21 = 12 ∧
        cLt (I15 b21 0) (I15 b18 0)
          (
          K_7 (x2_7 + 1) I15 R16)
          (
          J_41 I15 R16)))))) 0 I6 R7)
theorem hx_X0_later : yX0_later.cls ≠ "java/lang/invoke/MethodHandle" ∧ yX0_later.cls ≠ "java/lang/invoke/VarHandle" ∧ (parseMethodDescriptor yX0_later.desc).map (fun d => d.parameters.length) = some 2 := by decide +kernel
set_option maxHeartbeats 4000000 in
theorem tx_X0_later (X : XT) {x0 : Option Nat} {x1 : Option Nat} {T : xT} {I : xI} {R : xR} {L : xL} {Q : Int → xT → xI → xR → Prop} (hw : wx_X0_later X x0 x1 T I R L Q) : CtX X yX0_later cX0_later 4 (some .int) (rmX 4 2 7 86) [aR x0, aR x1] T I R L (PXiTIR T I R L Q) := by
  refine CtX.intro (by decide) (Nat.le_of_ble_eq_true rfl) (fun E hE hR hN => ?_)
  have hRm := hR.rm
  have hE : OkX E X RX0 cX0_later 4 (some .int) := hE
  have hE1 := hE.1
  show GX E X T I R L 0 0 0 [some (aR x0), some (aR x1), none, none] []
  unfold wx_X0_later at hw
  intro hok
  refine g_iconst hE1 dX0_later_0 ?_
  refine g_istn2 hE1 dX0_later_1 (by decide) rfl ?_
  refine g_aldn0 hE1 dX0_later_2 ?_
  obtain ⟨b1, hb2, hw⟩ := hw
  rw [hb2]
  obtain ⟨ht3, hw⟩ := hw
  refine gx_callV hE hRm (As := []) ht3 (by decide) (by decide) rfl hx_J4_descendingIterator (tx_J4_descendingIterator X hw) (lw_V q1505 q1506 q1507 q100 q1508) ⟨by decide, by decide⟩ ⟨(by decide), (by decide)⟩ rfl (Nat.le_of_ble_eq_true rfl) dX0_later_3 rfl (fun r9 T5 I6 R7 Lz hΦ => ?_) hok
  obtain ⟨r4, rfl, rfl, hl8, hw⟩ := hΦ
  have hw := hw hl8
  show GX E X T5 I6 R7 L 2 7 6 [some (aR (some b1)), some (aR x1), some (aI 0), none] [aR r4]
  intro hok
  refine g_astn3 hE1 dX0_later_6 (by decide) rfl ?_
  refine lq3_walk (fun (x2_7 : Int) (I_7 : xI) (R_7 : xR) => GX E X T5 I_7 R_7 L 2 7 7 [some (aR (some b1)), some (aR x1), some (aI x2_7), some (aR r4)] []) (fun K_7 hk_7 x2_7 I_7 R_7 hw => ?_) _ _ _ hw hok
  intro hok
  refine g_aldn3 hE1 dX0_later_7 ?_
  obtain ⟨b9, hb10, hw⟩ := hw
  rw [hb10]
  obtain ⟨ht11, hw⟩ := hw
  refine gx_callF hE hRm (na := 0) (As := []) ht11 (by decide) (by decide) rfl (x := ⟨"java/util/Iterator", "hasNext", "()Z"⟩) (by unfold fwL; simp; decide) (by decide +kernel) (tx_J27_hasNext X hw) (lw_F q1499 q550 q552 q132 q554) ⟨by decide, by decide⟩ ⟨(by decide), (by decide)⟩ rfl (Nat.le_of_ble_eq_true rfl) dX0_later_8 rfl (fun r9 Tz Iz Rz Lz hΦ => ?_) hok
  obtain ⟨r12, rfl, rfl, rfl, rfl, rfl, hw⟩ := hΦ
  show GX E X T5 I_7 R_7 L 2 7 13 [some (aR (some b1)), some (aR x1), some (aI x2_7), some (aR (some b9))] [aI r12]
  intro hok
  refine jn2_walk (fun (I_41 : xI) (R_41 : xR) => GX E X T5 I_41 R_41 L 2 7 41 [some (aR (some b1)), some (aR x1), some (aI x2_7), some (aR (some b9))] []) hw (fun I_41 R_41 hw => ?_) (fun J_41 hj_41 hw => ?_)
  · intro hok
    refine g_ildn2 hE1 dX0_later_41 ?_
    exact gx_iret hE hR dX0_later_42 (by decide) (by decide) rfl ⟨_, rfl, rfl, hl8, hw⟩ hok
  · skip
    obtain ⟨h28, h29, hT30, hN31⟩ := hw
    refine g_if_eq hE1 (tgt := 41) dX0_later_13 (by decide) h28 (fun q => ?_) (fun q => ?_)
    · have hw := hT30 q
      exact hj_41 _ _ hw hok
    · have hw := hN31 q
      refine g_aldn3 hE1 dX0_later_16 ?_
      refine gx_callF hE hRm (na := 0) (As := []) ht11 (by decide) (by decide) rfl (x := ⟨"java/util/Iterator", "next", "()Ljava/lang/Object;"⟩) (by unfold fwL; simp; decide) (by decide +kernel) (tx_J27_next X hw) (lw_F q1501 q913 q915 q132 q917) ⟨by decide, by decide⟩ ⟨(by decide), (by decide)⟩ rfl (Nat.le_of_ble_eq_true rfl) dX0_later_17 rfl (fun r9 Tz I15 R16 Lz hΦ => ?_) hok
      obtain ⟨r14, rfl, rfl, rfl, hw⟩ := hΦ
      show GX E X T5 I15 R16 L 2 7 22 [some (aR (some b1)), some (aR x1), some (aI x2_7), some (aR (some b9))] [aR r14]
      intro hok
      obtain ⟨b18, hb19, hw⟩ := hw
      rw [hb19]
      obtain ⟨ht20, hw⟩ := hw
      refine gx_castS hE ht20 (by decide) (by decide) rfl q1391 dX0_later_22 ?_ hok
      intro hok
      refine gx_getiN hE in_X6 (t := 12) rfl (by decide) 0 0 rfl (by decide) rfl (by decide) rfl q993 (Or.inl rfl) ht20 dX0_later_25 ?_ hok
      intro hok
      refine g_aldn1 hE1 dX0_later_28 ?_
      obtain ⟨b21, hb22, hw⟩ := hw
      rw [hb22]
      obtain ⟨ht23, hw⟩ := hw
      refine gx_getiN hE in_X6 (t := 12) rfl (by decide) 0 0 rfl (by decide) rfl (by decide) rfl q993 (Or.inl rfl) ht23 dX0_later_29 ?_ hok
      intro hok
      obtain ⟨h24, h25, hT26, hN27⟩ := hw
      refine g_icmp_le hE1 (tgt := 41) dX0_later_32 (by decide) h25 h24 (fun q => ?_) (fun q => ?_)
      · have hw := hT26 q
        refine g_iinc2 hE1 dX0_later_35 (by decide) rfl ?_
        refine g_goto hE1 (tgt := 7) dX0_later_38 (by decide) ?_
        simpa only [hb2, hb10, hb19, hb22] using hk_7 _ _ _ hw hok
      · have hw := hN27 q
        simpa only [hb2, hb10, hb19, hb22] using hj_41 _ _ hw hok

/-- WhalingLogs.passes(Ljava/util/LinkedList;LWhalingLogs$Entry;)I -/
def wx_X0_passes (X : XT) (x0 : Option Nat) (x1 : Option Nat) (T : xT) (I : xI) (R : xR) (L : xL) (Q : Int → xT → xI → xR → Prop) : Prop :=
  ∃ b1 : Nat, x0 = some b1 ∧ xtag T b1 = 4 ∧ wx_J4_size X b1 T I R L (fun (r4 : Int) => 
  wx_J4_descendingIterator X b1 T I R L (fun (r6 : Option Nat) (T7 : xT) (I8 : xI) (R9 : xR) => tle T T7 → 
  lq3 (fun (x2_10 : Int) (I_10 : xI) (R_10 : xR) (K_10 : Int → xI → xR → Prop) =>
    ∃ b11 : Nat, r6 = some b11 ∧ xtag T7 b11 = 15 ∧ wx_J27_hasNext X b11 T7 I_10 R_10 L (fun (r14 : Int) => 
    jn2 (fun (I_44 : xI) (R_44 : xR) => 
        wx_J4_size X b1 T7 I_44 R_44 L (fun (r17 : Int) => 
        wx_J4_add X b1 x2_10 x1 T7 I_44 R_44 L (fun (T19 : xT) (I20 : xI) (R21 : xR) => tle T7 T19 → 
        Q (r17 - x2_10) T19 I20 R21)))
      (fun (J_44 : xI → xR → Prop) =>
      cEq r14 0
        (
        J_44 I_10 R_10)
        (
        wx_J27_next X b11 T7 I_10 R_10 L (fun (r23 : Option Nat) (I24 : xI) (R25 : xR) => 
        ∃ b27 : Nat, r23 = some b27 ∧ xtag T7 b27 = 12 ∧
        ∃ b30 : Nat, x1 = some b30 ∧ xtag T7 b30 = 12 ∧
        cLt (I24 b30 0) (I24 b27 0)
          (
          K_10 (x2_10 + (-1)) I24 R25)
          (
          J_44 I24 R25)))))) r4 I8 R9))
theorem hx_X0_passes : yX0_passes.cls ≠ "java/lang/invoke/MethodHandle" ∧ yX0_passes.cls ≠ "java/lang/invoke/VarHandle" ∧ (parseMethodDescriptor yX0_passes.desc).map (fun d => d.parameters.length) = some 2 := by decide +kernel
set_option maxHeartbeats 4000000 in
theorem tx_X0_passes (X : XT) {x0 : Option Nat} {x1 : Option Nat} {T : xT} {I : xI} {R : xR} {L : xL} {Q : Int → xT → xI → xR → Prop} (hw : wx_X0_passes X x0 x1 T I R L Q) : CtX X yX0_passes cX0_passes 4 (some .int) (rmX 4 4 13 89) [aR x0, aR x1] T I R L (PXiTIR T I R L Q) := by
  refine CtX.intro (by decide) (Nat.le_of_ble_eq_true rfl) (fun E hE hR hN => ?_)
  have hRm := hR.rm
  have hE : OkX E X RX0 cX0_passes 4 (some .int) := hE
  have hE1 := hE.1
  show GX E X T I R L 0 0 0 [some (aR x0), some (aR x1), none, none] []
  unfold wx_X0_passes at hw
  intro hok
  refine g_aldn0 hE1 dX0_passes_0 ?_
  obtain ⟨b1, hb2, hw⟩ := hw
  rw [hb2]
  obtain ⟨ht3, hw⟩ := hw
  refine gx_callV hE hRm (As := []) ht3 (by decide) (by decide) rfl hx_J4_size (tx_J4_size X hw) (lw_V q1312 q541 q2594 q100 q542) ⟨by decide, by decide⟩ ⟨(by decide), (by decide)⟩ rfl (Nat.le_of_ble_eq_true rfl) dX0_passes_1 rfl (fun r9 Tz Iz Rz Lz hΦ => ?_) hok
  obtain ⟨r4, rfl, rfl, rfl, rfl, rfl, hw⟩ := hΦ
  show GX E X T I R L 0 0 4 [some (aR (some b1)), some (aR x1), none, none] [aI r4]
  intro hok
  refine g_istn2 hE1 dX0_passes_4 (by decide) rfl ?_
  refine g_aldn0 hE1 dX0_passes_5 ?_
  refine gx_callV hE hRm (As := []) ht3 (by decide) (by decide) rfl hx_J4_descendingIterator (tx_J4_descendingIterator X hw) (lw_V q1505 q1506 q1507 q100 q1508) ⟨by decide, by decide⟩ ⟨(by decide), (by decide)⟩ rfl (Nat.le_of_ble_eq_true rfl) dX0_passes_6 rfl (fun r9 T7 I8 R9 Lz hΦ => ?_) hok
  obtain ⟨r6, rfl, rfl, hl10, hw⟩ := hΦ
  have hw := hw hl10
  show GX E X T7 I8 R9 L 2 7 9 [some (aR (some b1)), some (aR x1), some (aI r4), none] [aR r6]
  intro hok
  refine g_astn3 hE1 dX0_passes_9 (by decide) rfl ?_
  refine lq3_walk (fun (x2_10 : Int) (I_10 : xI) (R_10 : xR) => GX E X T7 I_10 R_10 L 2 7 10 [some (aR (some b1)), some (aR x1), some (aI x2_10), some (aR r6)] []) (fun K_10 hk_10 x2_10 I_10 R_10 hw => ?_) _ _ _ hw hok
  intro hok
  refine g_aldn3 hE1 dX0_passes_10 ?_
  obtain ⟨b11, hb12, hw⟩ := hw
  rw [hb12]
  obtain ⟨ht13, hw⟩ := hw
  refine gx_callF hE hRm (na := 0) (As := []) ht13 (by decide) (by decide) rfl (x := ⟨"java/util/Iterator", "hasNext", "()Z"⟩) (by unfold fwL; simp; decide) (by decide +kernel) (tx_J27_hasNext X hw) (lw_F q1499 q550 q552 q132 q554) ⟨by decide, by decide⟩ ⟨(by decide), (by decide)⟩ rfl (Nat.le_of_ble_eq_true rfl) dX0_passes_11 rfl (fun r9 Tz Iz Rz Lz hΦ => ?_) hok
  obtain ⟨r14, rfl, rfl, rfl, rfl, rfl, hw⟩ := hΦ
  show GX E X T7 I_10 R_10 L 2 7 16 [some (aR (some b1)), some (aR x1), some (aI x2_10), some (aR (some b11))] [aI r14]
  intro hok
  refine jn2_walk (fun (I_44 : xI) (R_44 : xR) => GX E X T7 I_44 R_44 L 2 7 44 [some (aR (some b1)), some (aR x1), some (aI x2_10), some (aR (some b11))] []) hw (fun I_44 R_44 hw => ?_) (fun J_44 hj_44 hw => ?_)
  · intro hok
    refine g_aldn0 hE1 dX0_passes_44 ?_
    have ht16 := hl10.tag ht3 (by decide)
    refine gx_callV hE hRm (As := []) ht16 (by decide) (by decide) rfl hx_J4_size (tx_J4_size X hw) (lw_V q1312 q541 q2594 q100 q542) ⟨by decide, by decide⟩ ⟨(by decide), (by decide)⟩ rfl (Nat.le_of_ble_eq_true rfl) dX0_passes_45 rfl (fun r9 Tz Iz Rz Lz hΦ => ?_) hok
    obtain ⟨r17, rfl, rfl, rfl, rfl, rfl, hw⟩ := hΦ
    show GX E X T7 I_44 R_44 L 2 7 48 [some (aR (some b1)), some (aR x1), some (aI x2_10), some (aR (some b11))] [aI r17]
    intro hok
    refine g_ildn2 hE1 dX0_passes_48 ?_
    refine g_isub hE1 dX0_passes_49 ?_
    refine g_istn3 hE1 dX0_passes_50 (by decide) rfl ?_
    refine g_aldn0 hE1 dX0_passes_51 ?_
    refine g_ildn2 hE1 dX0_passes_52 ?_
    refine g_aldn1 hE1 dX0_passes_53 ?_
    refine gx_callV hE hRm (As := [aI x2_10, aR x1]) ht16 (by decide) (by decide) rfl hx_J4_add (tx_J4_add X hw) (lw_V q1292 q1293 q1294 q100 q1295) ⟨by decide, by decide⟩ ⟨(by decide), (by decide)⟩ rfl (Nat.le_of_ble_eq_true rfl) dX0_passes_54 rfl (fun r9 T19 I20 R21 Lz hΦ => ?_) hok
    obtain ⟨rfl, rfl, hl22, hw⟩ := hΦ
    have hw := hw hl22
    show GX E X T19 I20 R21 L 4 13 57 [some (aR (some b1)), some (aR x1), some (aI x2_10), some (aI (r17 - x2_10))] []
    intro hok
    refine g_ildn3 hE1 dX0_passes_57 ?_
    exact gx_iret hE hR dX0_passes_58 (by decide) (by decide) rfl ⟨_, rfl, rfl, (hl10.tr hl22), hw⟩ hok
  · skip
    obtain ⟨h37, h38, hT39, hN40⟩ := hw
    refine g_if_eq hE1 (tgt := 44) dX0_passes_16 (by decide) h37 (fun q => ?_) (fun q => ?_)
    · have hw := hT39 q
      exact hj_44 _ _ hw hok
    · have hw := hN40 q
      refine g_aldn3 hE1 dX0_passes_19 ?_
      refine gx_callF hE hRm (na := 0) (As := []) ht13 (by decide) (by decide) rfl (x := ⟨"java/util/Iterator", "next", "()Ljava/lang/Object;"⟩) (by unfold fwL; simp; decide) (by decide +kernel) (tx_J27_next X hw) (lw_F q1501 q913 q915 q132 q917) ⟨by decide, by decide⟩ ⟨(by decide), (by decide)⟩ rfl (Nat.le_of_ble_eq_true rfl) dX0_passes_20 rfl (fun r9 Tz I24 R25 Lz hΦ => ?_) hok
      obtain ⟨r23, rfl, rfl, rfl, hw⟩ := hΦ
      show GX E X T7 I24 R25 L 2 7 25 [some (aR (some b1)), some (aR x1), some (aI x2_10), some (aR (some b11))] [aR r23]
      intro hok
      obtain ⟨b27, hb28, hw⟩ := hw
      rw [hb28]
      obtain ⟨ht29, hw⟩ := hw
      refine gx_castS hE ht29 (by decide) (by decide) rfl q1391 dX0_passes_25 ?_ hok
      intro hok
      refine gx_getiN hE in_X6 (t := 12) rfl (by decide) 0 0 rfl (by decide) rfl (by decide) rfl q993 (Or.inl rfl) ht29 dX0_passes_28 ?_ hok
      intro hok
      refine g_aldn1 hE1 dX0_passes_31 ?_
      obtain ⟨b30, hb31, hw⟩ := hw
      rw [hb31]
      obtain ⟨ht32, hw⟩ := hw
      refine gx_getiN hE in_X6 (t := 12) rfl (by decide) 0 0 rfl (by decide) rfl (by decide) rfl q993 (Or.inl rfl) ht32 dX0_passes_32 ?_ hok
      intro hok
      obtain ⟨h33, h34, hT35, hN36⟩ := hw
      refine g_icmp_le hE1 (tgt := 44) dX0_passes_35 (by decide) h34 h33 (fun q => ?_) (fun q => ?_)
      · have hw := hT35 q
        refine g_iinc2 hE1 dX0_passes_38 (by decide) rfl ?_
        refine g_goto hE1 (tgt := 10) dX0_passes_41 (by decide) ?_
        simpa only [hb2, hb12, hb28, hb31] using hk_10 _ _ _ hw hok
      · have hw := hN36 q
        simpa only [hb2, hb12, hb28, hb31] using hj_44 _ _ hw hok

/-- WhalingLogs.crossingsAgain()I -/
def wx_X0_crossingsAgain (X : XT) (o : Nat)  (T : xT) (I : xI) (R : xR) (L : xL) (Q : Int → xT → xI → xR → Prop) : Prop :=
  ∀ q1 : Nat, xtag T q1 = 0 → bsX X ≤ q1 → ∀ T4 : xT, T4 = xnew T q1 4 0 →
  wx_J4_init X q1 T4 I R L (fun (I7 : xI) => 
  xtag T4 o = 1 ∧
  ∃ b10 : Nat, R o 0 = some b10 ∧ xtag T4 b10 = 2 ∧
  ∃ b13 : Nat, R b10 1 = some b13 ∧ xtag T4 b13 = 4 ∧ wx_J3_iterator_J4 X b13 T4 I7 R L (fun (r16 : Option Nat) (T17 : xT) (I18 : xI) (R19 : xR) => tle T4 T17 → 
  lq6 (fun (x2_21 : Int) (T_21 : xT) (I_21 : xI) (R_21 : xR) (k_21 : Nat) (n_21 : Nat) (K_21 : Int → xT → xI → xR → Nat → Nat → Prop) =>
    ∃ b21 : Nat, r16 = some b21 ∧ xtag T_21 b21 = 9 ∧ wx_J15_hasNext X b21 T_21 I_21 R_21 L (fun (r24 : Int) => 
    cEq r24 0
      (
      Q x2_21 T_21 I_21 R_21)
      (
      wx_J15_next X b21 T_21 I_21 R_21 L (fun (r26 : Option Nat) (I27 : xI) (R28 : xR) => 
      ∃ b30 : Nat, r26 = some b30 ∧ xtag T_21 b30 = 10 ∧
      lq7 (fun (x2_47 : Int) (x5_47 : Int) (T_47 : xT) (I_47 : xI) (R_47 : xR) (k_47 : Nat) (n_47 : Nat) (K_47 : Int → Int → xT → xI → xR → Nat → Nat → Prop) =>
        ∃ b33 : Nat, R28 b30 1 = some b33 ∧ xtag T_47 b33 = 11 ∧ wx_J24_size X b33 T_47 I_47 R_47 L (fun (r36 : Int) => 
        cLt x5_47 r36
          (
          wx_J24_get X b33 x5_47 T_47 I_47 R_47 L (fun (r38 : Option Nat) => 
          ∃ b40 : Nat, r38 = some b40 ∧ xtag T_47 b40 = 12 ∧
          jn6 (fun (T_93 : xT) (I_93 : xI) (R_93 : xR) (k_93 : Nat) (n_93 : Nat) (y1_93 : Int) => 
              K_47 (x2_47 + y1_93) (x5_47 + 1) T_93 I_93 R_93 k_93 n_93)
            (fun (J_93 : xT → xI → xR → Nat → Nat → Int → Prop) =>
            cEq (I_47 b40 3) 1
              (
              wx_J24_get X b33 x5_47 T_47 I_47 R_47 L (fun (r43 : Option Nat) => 
              ∃ b45 : Nat, r43 = some b45 ∧ xtag T_47 b45 = 12 ∧
              k_47 + 2 ≤ 300 ∧ n_47 + 7 ≤ 1300 ∧ wx_X0_later X (some q1) (some b45) T_47 I_47 R_47 L (fun (r50 : Int) (T51 : xT) (I52 : xI) (R53 : xR) => tle T_47 T51 → 
              J_93 T51 I52 R53 (k_47 + 2) (n_47 + 7) r50)))
              (
              J_93 T_47 I_47 R_47 k_47 n_47 0))))
          (
          lq6 (fun (x5_104 : Int) (T_104 : xT) (I_104 : xI) (R_104 : xR) (k_104 : Nat) (n_104 : Nat) (K_104 : Int → xT → xI → xR → Nat → Nat → Prop) =>
            wx_J24_size X b33 T_104 I_104 R_104 L (fun (r60 : Int) => 
            cLt x5_104 r60
              (
              wx_J24_get X b33 x5_104 T_104 I_104 R_104 L (fun (r62 : Option Nat) => 
              ∃ b64 : Nat, r62 = some b64 ∧ xtag T_104 b64 = 12 ∧
              jn6 (fun (T_149 : xT) (I_149 : xI) (R_149 : xR) (k_149 : Nat) (n_149 : Nat) (y0_149 : Int) => 
                  K_104 (x5_104 + 1) T_149 I_149 R_149 k_149 n_149)
                (fun (J_149 : xT → xI → xR → Nat → Nat → Int → Prop) =>
                cEq (I_104 b64 3) 1
                  (
                  wx_J24_get X b33 x5_104 T_104 I_104 R_104 L (fun (r67 : Option Nat) => 
                  ∃ b69 : Nat, r67 = some b69 ∧ xtag T_104 b69 = 12 ∧
                  k_104 + 4 ≤ 300 ∧ n_104 + 13 ≤ 1300 ∧ wx_X0_passes X (some q1) (some b69) T_104 I_104 R_104 L (fun (r74 : Int) (T75 : xT) (I76 : xI) (R77 : xR) => tle T_104 T75 → 
                  J_149 T75 I76 R77 (k_104 + 4) (n_104 + 13) r74)))
                  (
                  J_149 T_104 I_104 R_104 k_104 n_104 0))))
              (
              K_21 x2_47 T_104 I_104 R_104 k_104 n_104))) 0 T_47 I_47 R_47 k_47 n_47))) x2_21 0 T_21 I27 R28 k_21 n_21)))) 0 T17 I18 R19 2 9))
theorem hx_X0_crossingsAgain : yX0_crossingsAgain.cls = RX0 ∧ yX0_crossingsAgain.cls ≠ "java/lang/invoke/MethodHandle" ∧ yX0_crossingsAgain.cls ≠ "java/lang/invoke/VarHandle" ∧ (parseMethodDescriptor yX0_crossingsAgain.desc).map (fun d => d.parameters.length) = some 0 := by decide +kernel
set_option maxHeartbeats 4000000 in
theorem tx_X0_crossingsAgain (X : XT) {o : Nat}  {T : xT} {I : xI} {R : xR} {L : xL} {Q : Int → xT → xI → xR → Prop} (hw : wx_X0_crossingsAgain X o T I R L Q) : CtX X yX0_crossingsAgain cX0_crossingsAgain 7 (some .int) (rmX 5 300 1300 112) [aR (some o)] T I R L (PXiTIR T I R L Q) := by
  refine CtX.intro (by decide) (Nat.le_of_ble_eq_true rfl) (fun E hE hR hN => ?_)
  have hRm := hR.rm
  have hE : OkX E X RX0 cX0_crossingsAgain 7 (some .int) := hE
  have hE1 := hE.1
  show GX E X T I R L 0 0 0 [some (aR (some o)), none, none, none, none, none, none] []
  unfold wx_X0_crossingsAgain at hw
  intro hok
  refine gx_new hE hRm in_J4 tyJ4 tyJ4_ok (t := 4) rfl (by decide) (by decide) rfl (by decide) q1495 q184 q100 (by decide) (by decide) dX0_crossingsAgain_0 (fun q1 hq2 hbs3 => ?_) hok
  intro hok
  have hw := hw q1 hq2 hbs3 _ rfl
  have hl5 := tle.new (T := T) (q := q1) (t := 4) (n := 0) hq2
  have hT6 : xtag (xnew T q1 4 0) q1 = 4 := if_pos rfl
  generalize xnew T q1 4 0 = T4 at hw hl5 hok hT6 ⊢
  refine g_dup hE1 dX0_crossingsAgain_3 rfl ?_
  refine gx_callI hE hRm (As := []) (b := q1) hx_J4_init (lw_meth q187) q1496 q100 q186 rfl (tx_J4_init X hw) ⟨by decide, by decide⟩ ⟨(by decide), (by decide)⟩ rfl (Nat.le_of_ble_eq_true rfl) dX0_crossingsAgain_4 rfl (fun r9 Tz I7 Rz Lz hΦ => ?_) hok
  obtain ⟨rfl, rfl, rfl, rfl, hw⟩ := hΦ
  show GX E X T4 I7 R L 1 4 7 [some (aR (some o)), none, none, none, none, none, none] [aR (some q1)]
  intro hok
  refine g_astn1 hE1 dX0_crossingsAgain_7 (by decide) rfl ?_
  refine g_iconst hE1 dX0_crossingsAgain_8 ?_
  refine g_istn2 hE1 dX0_crossingsAgain_9 (by decide) rfl ?_
  refine g_aldn0 hE1 dX0_crossingsAgain_10 ?_
  obtain ⟨ht9, hw⟩ := hw
  refine gx_getr hE in_X0 (t := 1) rfl (by decide) 0 0 rfl (by decide) rfl (by decide) rfl q353 (Or.inl rfl) ht9 dX0_crossingsAgain_11 ?_ hok
  intro hok
  obtain ⟨b10, hb11, hw⟩ := hw
  rw [hb11]
  obtain ⟨ht12, hw⟩ := hw
  refine gx_getrN hE in_X1 (t := 2) rfl (by decide) 1 1 rfl (by decide) rfl (by decide) rfl q225 (Or.inl rfl) ht12 dX0_crossingsAgain_14 ?_ hok
  intro hok
  obtain ⟨b13, hb14, hw⟩ := hw
  rw [hb14]
  obtain ⟨ht15, hw⟩ := hw
  refine gx_callU hE hRm (na := 0) (As := []) ht15 (by decide) (by decide) rfl (owner := "java/util/AbstractSequentialList") (x := ⟨"java/util/LinkedList", "iterator", "()Ljava/util/Iterator;"⟩) (by decide +kernel) (tx_J3_iterator_J4 X hw) (lw_U q1497 q437 q439 q440 q99 q441) rfl ⟨by decide, by decide⟩ ⟨(by decide), (by decide)⟩ rfl (Nat.le_of_ble_eq_true rfl) dX0_crossingsAgain_17 rfl (fun r9 T17 I18 R19 Lz hΦ => ?_) hok
  obtain ⟨r16, rfl, rfl, hl20, hw⟩ := hΦ
  have hw := hw hl20
  show GX E X T17 I18 R19 L 2 9 20 [some (aR (some o)), some (aR (some q1)), some (aI 0), none, none, none, none] [aR r16]
  intro hok
  refine g_astn3 hE1 dX0_crossingsAgain_20 (by decide) rfl ?_
  refine lq6_walk (fun (x2_21 : Int) (T_21 : xT) (I_21 : xI) (R_21 : xR) (k_21 : Nat) (n_21 : Nat) => tle T17 T_21 → k_21 ≤ 300 → n_21 ≤ 1300 → GX E X T_21 I_21 R_21 L k_21 n_21 21 [some (aR (some o)), some (aR (some q1)), some (aI x2_21), some (aR r16), none, none, none] []) (fun K_21 hk_21 x2_21 T_21 I_21 R_21 k_21 n_21 hw => ?_) _ _ _ _ _ _ hw tle.rf (by omega) (by omega) hok
  intro hl_21 hkc_21 hnc_21
  intro hok
  refine g_aldn3 hE1 dX0_crossingsAgain_21 ?_
  obtain ⟨b21, hb22, hw⟩ := hw
  rw [hb22]
  obtain ⟨ht23, hw⟩ := hw
  refine gx_callF hE hRm (na := 0) (As := []) ht23 (by decide) (by decide) rfl (x := ⟨"java/util/Iterator", "hasNext", "()Z"⟩) (by unfold fwL; simp; decide) (by decide +kernel) (tx_J15_hasNext X hw) (lw_F q1499 q560 q562 q116 q564) ⟨by decide, by decide⟩ ⟨(show k_21 + 0 ≤ 300 by omega), (show n_21 + 0 ≤ 1300 by omega)⟩ rfl (Nat.le_of_ble_eq_true rfl) dX0_crossingsAgain_22 rfl (fun r9 Tz Iz Rz Lz hΦ => ?_) hok
  obtain ⟨r24, rfl, rfl, rfl, rfl, rfl, hw⟩ := hΦ
  show GX E X T_21 I_21 R_21 L k_21 n_21 27 [some (aR (some o)), some (aR (some q1)), some (aI x2_21), some (aR (some b21)), none, none, none] [aI r24]
  intro hok
  obtain ⟨h91, h92, hT93, hN94⟩ := hw
  refine g_if_eq hE1 (tgt := 160) dX0_crossingsAgain_27 (by decide) h91 (fun q => ?_) (fun q => ?_)
  · have hw := hT93 q
    refine g_ildn2 hE1 dX0_crossingsAgain_160 ?_
    exact gx_iret hE hR dX0_crossingsAgain_161 (show k_21 ≤ 300 by omega) (show n_21 ≤ 1300 by omega) rfl ⟨_, rfl, rfl, ((hl5.tr hl20).tr hl_21), hw⟩ hok
  · have hw := hN94 q
    refine g_aldn3 hE1 dX0_crossingsAgain_30 ?_
    refine gx_callF hE hRm (na := 0) (As := []) ht23 (by decide) (by decide) rfl (x := ⟨"java/util/Iterator", "next", "()Ljava/lang/Object;"⟩) (by unfold fwL; simp; decide) (by decide +kernel) (tx_J15_next X hw) (lw_F q1501 q927 q929 q116 q931) ⟨by decide, by decide⟩ ⟨(show k_21 + 0 ≤ 300 by omega), (show n_21 + 0 ≤ 1300 by omega)⟩ rfl (Nat.le_of_ble_eq_true rfl) dX0_crossingsAgain_31 rfl (fun r9 Tz I27 R28 Lz hΦ => ?_) hok
    obtain ⟨r26, rfl, rfl, rfl, hw⟩ := hΦ
    show GX E X T_21 I27 R28 L k_21 n_21 36 [some (aR (some o)), some (aR (some q1)), some (aI x2_21), some (aR (some b21)), none, none, none] [aR r26]
    intro hok
    obtain ⟨b30, hb31, hw⟩ := hw
    rw [hb31]
    obtain ⟨ht32, hw⟩ := hw
    refine gx_castS hE ht32 (by decide) (by decide) rfl q1291 dX0_crossingsAgain_36 ?_ hok
    intro hok
    refine gx_getrN hE in_X5 (t := 10) rfl (by decide) 1 1 rfl (by decide) rfl (by decide) rfl q967 (Or.inl rfl) ht32 dX0_crossingsAgain_39 ?_ hok
    intro hok
    refine g_ast4 hE1 dX0_crossingsAgain_42 (by decide) rfl ?_
    refine g_iconst hE1 dX0_crossingsAgain_44 ?_
    refine g_ist5 hE1 dX0_crossingsAgain_45 (by decide) rfl ?_
    refine lq7_walk (fun (x2_47 : Int) (x5_47 : Int) (T_47 : xT) (I_47 : xI) (R_47 : xR) (k_47 : Nat) (n_47 : Nat) => tle T_21 T_47 → k_47 ≤ 300 → n_47 ≤ 1300 → GX E X T_47 I_47 R_47 L k_47 n_47 47 [some (aR (some o)), some (aR (some q1)), some (aI x2_47), some (aR (some b21)), some (aR (R28 b30 1)), some (aI x5_47), none] []) (fun K_47 hk_47 x2_47 x5_47 T_47 I_47 R_47 k_47 n_47 hw => ?_) _ _ _ _ _ _ _ hw tle.rf (by omega) (by omega) hok
    intro hl_47 hkc_47 hnc_47
    intro hok
    refine g_ild5 hE1 dX0_crossingsAgain_47 ?_
    refine g_ald4 hE1 dX0_crossingsAgain_49 ?_
    obtain ⟨b33, hb34, hw⟩ := hw
    rw [hb34]
    obtain ⟨ht35, hw⟩ := hw
    refine gx_callV hE hRm (As := []) ht35 (by decide) (by decide) rfl hx_J24_size (tx_J24_size X hw) (lw_V q1376 q538 q2592 q126 q539) ⟨by decide, by decide⟩ ⟨(show k_47 + 0 ≤ 300 by omega), (show n_47 + 0 ≤ 1300 by omega)⟩ rfl (Nat.le_of_ble_eq_true rfl) dX0_crossingsAgain_51 rfl (fun r9 Tz Iz Rz Lz hΦ => ?_) hok
    obtain ⟨r36, rfl, rfl, rfl, rfl, rfl, hw⟩ := hΦ
    show GX E X T_47 I_47 R_47 L k_47 n_47 54 [some (aR (some o)), some (aR (some q1)), some (aI x2_47), some (aR (some b21)), some (aR (some b33)), some (aI x5_47), none] [aI r36, aI x5_47]
    intro hok
    obtain ⟨h87, h88, hT89, hN90⟩ := hw
    refine g_icmp_ge hE1 (tgt := 101) dX0_crossingsAgain_54 (by decide) h87 h88 (fun q => ?_) (fun q => ?_)
    · have hw := hT89 q
      refine g_ildn2 hE1 dX0_crossingsAgain_57 ?_
      refine g_ald4 hE1 dX0_crossingsAgain_58 ?_
      refine g_ild5 hE1 dX0_crossingsAgain_60 ?_
      refine gx_callV hE hRm (As := [aI x5_47]) ht35 (by decide) (by decide) rfl hx_J24_get (tx_J24_get X hw) (lw_V q1390 q583 q2593 q126 q584) ⟨by decide, by decide⟩ ⟨(show k_47 + 0 ≤ 300 by omega), (show n_47 + 0 ≤ 1300 by omega)⟩ rfl (Nat.le_of_ble_eq_true rfl) dX0_crossingsAgain_62 rfl (fun r9 Tz Iz Rz Lz hΦ => ?_) hok
      obtain ⟨r38, rfl, rfl, rfl, rfl, rfl, hw⟩ := hΦ
      show GX E X T_47 I_47 R_47 L k_47 n_47 65 [some (aR (some o)), some (aR (some q1)), some (aI x2_47), some (aR (some b21)), some (aR (some b33)), some (aI x5_47), none] [aR r38, aI x2_47]
      intro hok
      obtain ⟨b40, hb41, hw⟩ := hw
      rw [hb41]
      obtain ⟨ht42, hw⟩ := hw
      refine gx_castS hE ht42 (by decide) (by decide) rfl q1391 dX0_crossingsAgain_65 ?_ hok
      intro hok
      refine gx_getiN hE in_X6 (t := 12) rfl (by decide) 3 3 rfl (by decide) rfl (by decide) rfl q1004 (Or.inl rfl) ht42 dX0_crossingsAgain_68 ?_ hok
      intro hok
      refine g_iconst hE1 dX0_crossingsAgain_71 ?_
      refine jn6_walk (fun (T_93 : xT) (I_93 : xI) (R_93 : xR) (k_93 : Nat) (n_93 : Nat) (y1_93 : Int) => tle T_47 T_93 → k_93 ≤ 300 → n_93 ≤ 1300 → GX E X T_93 I_93 R_93 L k_93 n_93 93 [some (aR (some o)), some (aR (some q1)), some (aI x2_47), some (aR (some b21)), some (aR (some b33)), some (aI x5_47), none] [aI y1_93, aI x2_47]) hw (fun T_93 I_93 R_93 k_93 n_93 y1_93 hw => ?_) (fun J_93 hj_93 hw => ?_)
      · intro hl_93 hkc_93 hnc_93; intro hok
        refine g_iadd hE1 dX0_crossingsAgain_93 ?_
        refine g_istn2 hE1 dX0_crossingsAgain_94 (by decide) rfl ?_
        refine g_iinc5 hE1 dX0_crossingsAgain_95 (by decide) rfl ?_
        refine g_goto hE1 (tgt := 47) dX0_crossingsAgain_98 (by decide) ?_
        simpa only [hb11, hb14, hb22, hb31, hb34, hb41] using hk_47 _ _ _ _ _ _ _ hw (hl_47.tr hl_93) (by omega) (by omega) hok
      · skip
        obtain ⟨h55, h56, hT57, hN58⟩ := hw
        refine g_icmp_ne hE1 (tgt := 92) dX0_crossingsAgain_72 (by decide) h55 h56 (fun q => ?_) (fun q => ?_)
        · have hw := hT57 q
          refine g_aldn1 hE1 dX0_crossingsAgain_75 ?_
          refine g_ald4 hE1 dX0_crossingsAgain_76 ?_
          refine g_ild5 hE1 dX0_crossingsAgain_78 ?_
          refine gx_callV hE hRm (As := [aI x5_47]) ht35 (by decide) (by decide) rfl hx_J24_get (tx_J24_get X hw) (lw_V q1390 q583 q2593 q126 q584) ⟨by decide, by decide⟩ ⟨(show k_47 + 0 ≤ 300 by omega), (show n_47 + 0 ≤ 1300 by omega)⟩ rfl (Nat.le_of_ble_eq_true rfl) dX0_crossingsAgain_80 rfl (fun r9 Tz Iz Rz Lz hΦ => ?_) hok
          obtain ⟨r43, rfl, rfl, rfl, rfl, rfl, hw⟩ := hΦ
          show GX E X T_47 I_47 R_47 L k_47 n_47 83 [some (aR (some o)), some (aR (some q1)), some (aI x2_47), some (aR (some b21)), some (aR (some b33)), some (aI x5_47), none] [aR r43, aR (some q1), aI x2_47]
          intro hok
          obtain ⟨b45, hb46, hw⟩ := hw
          rw [hb46]
          obtain ⟨ht47, hw⟩ := hw
          refine gx_castS hE ht47 (by decide) (by decide) rfl q1391 dX0_crossingsAgain_83 ?_ hok
          intro hok
          obtain ⟨hc48, hw⟩ := hw
          obtain ⟨hc49, hw⟩ := hw
          refine gx_callS hE hRm (As := [aR (some q1), aR (some b45)]) hx_X0_later (tx_X0_later X hw) (lw_S q1502 q1503 q94 q1504) ⟨by decide, by decide⟩ ⟨hc48, hc49⟩ rfl (Nat.le_of_ble_eq_true rfl) dX0_crossingsAgain_86 rfl (fun r9 T51 I52 R53 Lz hΦ => ?_) hok
          obtain ⟨r50, rfl, rfl, hl54, hw⟩ := hΦ
          have hw := hw hl54
          show GX E X T51 I52 R53 L (k_47 + 2) (n_47 + 7) 89 [some (aR (some o)), some (aR (some q1)), some (aI x2_47), some (aR (some b21)), some (aR (some b33)), some (aI x5_47), none] [aI r50, aI x2_47]
          intro hok
          refine g_goto hE1 (tgt := 93) dX0_crossingsAgain_89 (by decide) ?_
          exact hj_93 _ _ _ _ _ _ hw hl54 (by omega) (by omega) hok
        · have hw := hN58 q
          refine g_iconst hE1 dX0_crossingsAgain_92 ?_
          exact hj_93 _ _ _ _ _ _ hw tle.rf (by omega) (by omega) hok
    · have hw := hN90 q
      refine g_iconst hE1 dX0_crossingsAgain_101 ?_
      refine g_ist5 hE1 dX0_crossingsAgain_102 (by decide) rfl ?_
      refine lq6_walk (fun (x5_104 : Int) (T_104 : xT) (I_104 : xI) (R_104 : xR) (k_104 : Nat) (n_104 : Nat) => tle T_47 T_104 → k_104 ≤ 300 → n_104 ≤ 1300 → GX E X T_104 I_104 R_104 L k_104 n_104 104 [some (aR (some o)), some (aR (some q1)), some (aI x2_47), some (aR (some b21)), some (aR (some b33)), some (aI x5_104), none] []) (fun K_104 hk_104 x5_104 T_104 I_104 R_104 k_104 n_104 hw => ?_) _ _ _ _ _ _ hw tle.rf (by omega) (by omega) hok
      intro hl_104 hkc_104 hnc_104
      intro hok
      refine g_ild5 hE1 dX0_crossingsAgain_104 ?_
      refine g_ald4 hE1 dX0_crossingsAgain_106 ?_
      have ht59 := hl_104.tag ht35 (by decide)
      refine gx_callV hE hRm (As := []) ht59 (by decide) (by decide) rfl hx_J24_size (tx_J24_size X hw) (lw_V q1376 q538 q2592 q126 q539) ⟨by decide, by decide⟩ ⟨(show k_104 + 0 ≤ 300 by omega), (show n_104 + 0 ≤ 1300 by omega)⟩ rfl (Nat.le_of_ble_eq_true rfl) dX0_crossingsAgain_108 rfl (fun r9 Tz Iz Rz Lz hΦ => ?_) hok
      obtain ⟨r60, rfl, rfl, rfl, rfl, rfl, hw⟩ := hΦ
      show GX E X T_104 I_104 R_104 L k_104 n_104 111 [some (aR (some o)), some (aR (some q1)), some (aI x2_47), some (aR (some b21)), some (aR (some b33)), some (aI x5_104), none] [aI r60, aI x5_104]
      intro hok
      obtain ⟨h83, h84, hT85, hN86⟩ := hw
      refine g_icmp_ge hE1 (tgt := 157) dX0_crossingsAgain_111 (by decide) h83 h84 (fun q => ?_) (fun q => ?_)
      · have hw := hT85 q
        refine g_ald4 hE1 dX0_crossingsAgain_114 ?_
        refine g_ild5 hE1 dX0_crossingsAgain_116 ?_
        refine gx_callV hE hRm (As := [aI x5_104]) ht59 (by decide) (by decide) rfl hx_J24_get (tx_J24_get X hw) (lw_V q1390 q583 q2593 q126 q584) ⟨by decide, by decide⟩ ⟨(show k_104 + 0 ≤ 300 by omega), (show n_104 + 0 ≤ 1300 by omega)⟩ rfl (Nat.le_of_ble_eq_true rfl) dX0_crossingsAgain_118 rfl (fun r9 Tz Iz Rz Lz hΦ => ?_) hok
        obtain ⟨r62, rfl, rfl, rfl, rfl, rfl, hw⟩ := hΦ
        show GX E X T_104 I_104 R_104 L k_104 n_104 121 [some (aR (some o)), some (aR (some q1)), some (aI x2_47), some (aR (some b21)), some (aR (some b33)), some (aI x5_104), none] [aR r62]
        intro hok
        obtain ⟨b64, hb65, hw⟩ := hw
        rw [hb65]
        obtain ⟨ht66, hw⟩ := hw
        refine gx_castS hE ht66 (by decide) (by decide) rfl q1391 dX0_crossingsAgain_121 ?_ hok
        intro hok
        refine gx_getiN hE in_X6 (t := 12) rfl (by decide) 3 3 rfl (by decide) rfl (by decide) rfl q1004 (Or.inl rfl) ht66 dX0_crossingsAgain_124 ?_ hok
        intro hok
        refine g_iconst hE1 dX0_crossingsAgain_127 ?_
        refine jn6_walk (fun (T_149 : xT) (I_149 : xI) (R_149 : xR) (k_149 : Nat) (n_149 : Nat) (y0_149 : Int) => tle T_104 T_149 → k_149 ≤ 300 → n_149 ≤ 1300 → GX E X T_149 I_149 R_149 L k_149 n_149 149 [some (aR (some o)), some (aR (some q1)), some (aI x2_47), some (aR (some b21)), some (aR (some b33)), some (aI x5_104), none] [aI y0_149]) hw (fun T_149 I_149 R_149 k_149 n_149 y0_149 hw => ?_) (fun J_149 hj_149 hw => ?_)
        · intro hl_149 hkc_149 hnc_149; intro hok
          refine g_ist6 hE1 dX0_crossingsAgain_149 (by decide) rfl ?_
          refine g_iinc5 hE1 dX0_crossingsAgain_151 (by decide) rfl ?_
          refine g_goto hE1 (tgt := 104) dX0_crossingsAgain_154 (by decide) ?_
          refine g_kl6 ?_
          exact hk_104 _ _ _ _ _ _ hw (hl_104.tr hl_149) (by omega) (by omega) hok
        · skip
          obtain ⟨h79, h80, hT81, hN82⟩ := hw
          refine g_icmp_ne hE1 (tgt := 148) dX0_crossingsAgain_128 (by decide) h79 h80 (fun q => ?_) (fun q => ?_)
          · have hw := hT81 q
            refine g_aldn1 hE1 dX0_crossingsAgain_131 ?_
            refine g_ald4 hE1 dX0_crossingsAgain_132 ?_
            refine g_ild5 hE1 dX0_crossingsAgain_134 ?_
            refine gx_callV hE hRm (As := [aI x5_104]) ht59 (by decide) (by decide) rfl hx_J24_get (tx_J24_get X hw) (lw_V q1390 q583 q2593 q126 q584) ⟨by decide, by decide⟩ ⟨(show k_104 + 0 ≤ 300 by omega), (show n_104 + 0 ≤ 1300 by omega)⟩ rfl (Nat.le_of_ble_eq_true rfl) dX0_crossingsAgain_136 rfl (fun r9 Tz Iz Rz Lz hΦ => ?_) hok
            obtain ⟨r67, rfl, rfl, rfl, rfl, rfl, hw⟩ := hΦ
            show GX E X T_104 I_104 R_104 L k_104 n_104 139 [some (aR (some o)), some (aR (some q1)), some (aI x2_47), some (aR (some b21)), some (aR (some b33)), some (aI x5_104), none] [aR r67, aR (some q1)]
            intro hok
            obtain ⟨b69, hb70, hw⟩ := hw
            rw [hb70]
            obtain ⟨ht71, hw⟩ := hw
            refine gx_castS hE ht71 (by decide) (by decide) rfl q1391 dX0_crossingsAgain_139 ?_ hok
            intro hok
            obtain ⟨hc72, hw⟩ := hw
            obtain ⟨hc73, hw⟩ := hw
            refine gx_callS hE hRm (As := [aR (some q1), aR (some b69)]) hx_X0_passes (tx_X0_passes X hw) (lw_S q1525 q1526 q94 q1527) ⟨by decide, by decide⟩ ⟨hc72, hc73⟩ rfl (Nat.le_of_ble_eq_true rfl) dX0_crossingsAgain_142 rfl (fun r9 T75 I76 R77 Lz hΦ => ?_) hok
            obtain ⟨r74, rfl, rfl, hl78, hw⟩ := hΦ
            have hw := hw hl78
            show GX E X T75 I76 R77 L (k_104 + 4) (n_104 + 13) 145 [some (aR (some o)), some (aR (some q1)), some (aI x2_47), some (aR (some b21)), some (aR (some b33)), some (aI x5_104), none] [aI r74]
            intro hok
            refine g_goto hE1 (tgt := 149) dX0_crossingsAgain_145 (by decide) ?_
            exact hj_149 _ _ _ _ _ _ hw hl78 (by omega) (by omega) hok
          · have hw := hN82 q
            refine g_iconst hE1 dX0_crossingsAgain_148 ?_
            exact hj_149 _ _ _ _ _ _ hw tle.rf (by omega) (by omega) hok
      · have hw := hN86 q
        refine g_goto hE1 (tgt := 21) dX0_crossingsAgain_157 (by decide) ?_
        refine g_kl4 ?_
        refine g_kl5 ?_
        simpa only [hb11, hb14, hb22, hb31, hb34] using hk_21 _ _ _ _ _ _ hw ((hl_21.tr hl_47).tr hl_104) (by omega) (by omega) hok

/-- WhalingLogs$Listing.weightOfTrack()I -/
def wx_X3_weightOfTrack (X : XT) (o : Nat)  (T : xT) (I : xI) (R : xR) (L : xL) (Q : Int → Prop) : Prop :=
  lq2 (fun (x1_4 : Int) (x2_4 : Int) (K_4 : Int → Int → Prop) =>
    xtag T o = 7 ∧
    cLt x2_4 (I o 8)
      (
      ∃ b2 : Nat, R o 5 = some b2 ∧ xtag T b2 = 100 ∧ ib x2_4 (xlen T b2) ∧ xlen T b2 < 2147483648 ∧
      wx_X3_weight X o (I b2 x2_4) T I R L (fun (r7 : Int) => 
      K_4 (x1_4 + r7) (x2_4 + 1)))
      (
      Q x1_4)) 0 0
theorem hx_X3_weightOfTrack : yX3_weightOfTrack.cls = RX3 ∧ yX3_weightOfTrack.cls ≠ "java/lang/invoke/MethodHandle" ∧ yX3_weightOfTrack.cls ≠ "java/lang/invoke/VarHandle" ∧ (parseMethodDescriptor yX3_weightOfTrack.desc).map (fun d => d.parameters.length) = some 0 := by decide +kernel
set_option maxHeartbeats 4000000 in
theorem tx_X3_weightOfTrack (X : XT) {o : Nat}  {T : xT} {I : xI} {R : xR} {L : xL} {Q : Int → Prop} (hw : wx_X3_weightOfTrack X o T I R L Q) : CtX X yX3_weightOfTrack cX3_weightOfTrack 3 (some .int) (rmX 2 0 0 42) [aR (some o)] T I R L (PXi T I R L Q) := by
  refine CtX.intro (by decide) (Nat.le_of_ble_eq_true rfl) (fun E hE hR hN => ?_)
  have hRm := hR.rm
  have hE : OkX E X RX3 cX3_weightOfTrack 3 (some .int) := hE
  have hE1 := hE.1
  show GX E X T I R L 0 0 0 [some (aR (some o)), none, none] []
  unfold wx_X3_weightOfTrack at hw
  intro hok
  refine g_iconst hE1 dX3_weightOfTrack_0 ?_
  refine g_istn1 hE1 dX3_weightOfTrack_1 (by decide) rfl ?_
  refine g_iconst hE1 dX3_weightOfTrack_2 ?_
  refine g_istn2 hE1 dX3_weightOfTrack_3 (by decide) rfl ?_
  refine lq2_walk (fun (x1_4 : Int) (x2_4 : Int) => GX E X T I R L 0 0 4 [some (aR (some o)), some (aI x1_4), some (aI x2_4)] []) (fun K_4 hk_4 x1_4 x2_4 hw => ?_) _ _ hw hok
  intro hok
  refine g_ildn2 hE1 dX3_weightOfTrack_4 ?_
  refine g_aldn0 hE1 dX3_weightOfTrack_5 ?_
  obtain ⟨ht1, hw⟩ := hw
  refine gx_geti hE in_X3 (t := 7) rfl (by decide) 8 8 rfl (by decide) rfl (by decide) rfl q299 (Or.inl rfl) ht1 dX3_weightOfTrack_6 ?_ hok
  intro hok
  obtain ⟨h9, h10, hT11, hN12⟩ := hw
  refine g_icmp_ge hE1 (tgt := 31) dX3_weightOfTrack_9 (by decide) h9 h10 (fun q => ?_) (fun q => ?_)
  · have hw := hT11 q
    refine g_ildn1 hE1 dX3_weightOfTrack_12 ?_
    refine g_aldn0 hE1 dX3_weightOfTrack_13 ?_
    refine g_aldn0 hE1 dX3_weightOfTrack_14 ?_
    refine gx_getr hE in_X3 (t := 7) rfl (by decide) 5 5 rfl (by decide) rfl (by decide) rfl q294 (Or.inl rfl) ht1 dX3_weightOfTrack_15 ?_ hok
    intro hok
    refine g_ildn2 hE1 dX3_weightOfTrack_18 ?_
    obtain ⟨b2, hb3, hw⟩ := hw
    rw [hb3]
    obtain ⟨ht4, hw⟩ := hw
    obtain ⟨h5, h6, hw⟩ := hw
    refine gx_iald hE ht4 h5 h6 dX3_weightOfTrack_19 ?_ hok
    intro hok
    refine gx_callV hE hRm (As := [aI (I b2 x2_4)]) ht1 (by decide) (by decide) rfl hx_X3_weight (tx_X3_weight X hw) (lw_V q1440 q1441 q1442 q103 q1443) ⟨by decide, by decide⟩ ⟨(by decide), (by decide)⟩ rfl (Nat.le_of_ble_eq_true rfl) dX3_weightOfTrack_20 rfl (fun r9 Tz Iz Rz Lz hΦ => ?_) hok
    obtain ⟨r7, rfl, rfl, rfl, rfl, rfl, hw⟩ := hΦ
    show GX E X T I R L 0 0 23 [some (aR (some o)), some (aI x1_4), some (aI x2_4)] [aI r7, aI x1_4]
    intro hok
    refine g_iadd hE1 dX3_weightOfTrack_23 ?_
    refine g_istn1 hE1 dX3_weightOfTrack_24 (by decide) rfl ?_
    refine g_iinc2 hE1 dX3_weightOfTrack_25 (by decide) rfl ?_
    refine g_goto hE1 (tgt := 4) dX3_weightOfTrack_28 (by decide) ?_
    exact hk_4 _ _ hw hok
  · have hw := hN12 q
    refine g_ildn1 hE1 dX3_weightOfTrack_31 ?_
    exact gx_iret hE hR dX3_weightOfTrack_32 (by decide) (by decide) rfl ⟨_, rfl, rfl, rfl, rfl, rfl, hw⟩ hok

/-- WhalingLogs$Listing.stepsOfTrack()I -/
def wx_X3_stepsOfTrack (X : XT) (o : Nat)  (T : xT) (I : xI) (R : xR) (L : xL) (Q : Int → Prop) : Prop :=
  lq2 (fun (x1_4 : Int) (x2_4 : Int) (K_4 : Int → Int → Prop) =>
    xtag T o = 7 ∧
    cLt x2_4 (I o 8)
      (
      ∃ b2 : Nat, R o 5 = some b2 ∧ xtag T b2 = 100 ∧ ib (x2_4 - 1) (xlen T b2) ∧ xlen T b2 < 2147483648 ∧
      ∃ b7 : Nat, R o 5 = some b7 ∧ xtag T b7 = 100 ∧ ib x2_4 (xlen T b7) ∧ xlen T b7 < 2147483648 ∧
      wx_X3_between X o (I b2 (x2_4 - 1)) (I b7 x2_4) T I R L (fun (r12 : Int) => 
      K_4 (x1_4 + r12) (x2_4 + 1)))
      (
      Q x1_4)) 0 1
theorem hx_X3_stepsOfTrack : yX3_stepsOfTrack.cls = RX3 ∧ yX3_stepsOfTrack.cls ≠ "java/lang/invoke/MethodHandle" ∧ yX3_stepsOfTrack.cls ≠ "java/lang/invoke/VarHandle" ∧ (parseMethodDescriptor yX3_stepsOfTrack.desc).map (fun d => d.parameters.length) = some 0 := by decide +kernel
set_option maxHeartbeats 4000000 in
theorem tx_X3_stepsOfTrack (X : XT) {o : Nat}  {T : xT} {I : xI} {R : xR} {L : xL} {Q : Int → Prop} (hw : wx_X3_stepsOfTrack X o T I R L Q) : CtX X yX3_stepsOfTrack cX3_stepsOfTrack 3 (some .int) (rmX 1 0 0 22) [aR (some o)] T I R L (PXi T I R L Q) := by
  refine CtX.intro (by decide) (Nat.le_of_ble_eq_true rfl) (fun E hE hR hN => ?_)
  have hRm := hR.rm
  have hE : OkX E X RX3 cX3_stepsOfTrack 3 (some .int) := hE
  have hE1 := hE.1
  show GX E X T I R L 0 0 0 [some (aR (some o)), none, none] []
  unfold wx_X3_stepsOfTrack at hw
  intro hok
  refine g_iconst hE1 dX3_stepsOfTrack_0 ?_
  refine g_istn1 hE1 dX3_stepsOfTrack_1 (by decide) rfl ?_
  refine g_iconst hE1 dX3_stepsOfTrack_2 ?_
  refine g_istn2 hE1 dX3_stepsOfTrack_3 (by decide) rfl ?_
  refine lq2_walk (fun (x1_4 : Int) (x2_4 : Int) => GX E X T I R L 0 0 4 [some (aR (some o)), some (aI x1_4), some (aI x2_4)] []) (fun K_4 hk_4 x1_4 x2_4 hw => ?_) _ _ hw hok
  intro hok
  refine g_ildn2 hE1 dX3_stepsOfTrack_4 ?_
  refine g_aldn0 hE1 dX3_stepsOfTrack_5 ?_
  obtain ⟨ht1, hw⟩ := hw
  refine gx_geti hE in_X3 (t := 7) rfl (by decide) 8 8 rfl (by decide) rfl (by decide) rfl q299 (Or.inl rfl) ht1 dX3_stepsOfTrack_6 ?_ hok
  intro hok
  obtain ⟨h14, h15, hT16, hN17⟩ := hw
  refine g_icmp_ge hE1 (tgt := 39) dX3_stepsOfTrack_9 (by decide) h14 h15 (fun q => ?_) (fun q => ?_)
  · have hw := hT16 q
    refine g_ildn1 hE1 dX3_stepsOfTrack_12 ?_
    refine g_aldn0 hE1 dX3_stepsOfTrack_13 ?_
    refine g_aldn0 hE1 dX3_stepsOfTrack_14 ?_
    refine gx_getr hE in_X3 (t := 7) rfl (by decide) 5 5 rfl (by decide) rfl (by decide) rfl q294 (Or.inl rfl) ht1 dX3_stepsOfTrack_15 ?_ hok
    intro hok
    refine g_ildn2 hE1 dX3_stepsOfTrack_18 ?_
    refine g_iconst hE1 dX3_stepsOfTrack_19 ?_
    refine g_isub hE1 dX3_stepsOfTrack_20 ?_
    obtain ⟨b2, hb3, hw⟩ := hw
    rw [hb3]
    obtain ⟨ht4, hw⟩ := hw
    obtain ⟨h5, h6, hw⟩ := hw
    refine gx_iald hE ht4 h5 h6 dX3_stepsOfTrack_21 ?_ hok
    intro hok
    refine g_aldn0 hE1 dX3_stepsOfTrack_22 ?_
    refine gx_getr hE in_X3 (t := 7) rfl (by decide) 5 5 rfl (by decide) rfl (by decide) rfl q294 (Or.inl rfl) ht1 dX3_stepsOfTrack_23 ?_ hok
    intro hok
    refine g_ildn2 hE1 dX3_stepsOfTrack_26 ?_
    obtain ⟨b7, hb8, hw⟩ := hw
    rw [hb8]
    obtain ⟨ht9, hw⟩ := hw
    obtain ⟨h10, h11, hw⟩ := hw
    refine gx_iald hE ht9 h10 h11 dX3_stepsOfTrack_27 ?_ hok
    intro hok
    refine gx_callV hE hRm (As := [aI (I b2 (x2_4 - 1)), aI (I b7 x2_4)]) ht1 (by decide) (by decide) rfl hx_X3_between (tx_X3_between X hw) (lw_V q1435 q1436 q1437 q103 q1438) ⟨by decide, by decide⟩ ⟨(by decide), (by decide)⟩ rfl (Nat.le_of_ble_eq_true rfl) dX3_stepsOfTrack_28 rfl (fun r9 Tz Iz Rz Lz hΦ => ?_) hok
    obtain ⟨r12, rfl, rfl, rfl, rfl, rfl, hw⟩ := hΦ
    show GX E X T I R L 0 0 31 [some (aR (some o)), some (aI x1_4), some (aI x2_4)] [aI r12, aI x1_4]
    intro hok
    refine g_iadd hE1 dX3_stepsOfTrack_31 ?_
    refine g_istn1 hE1 dX3_stepsOfTrack_32 (by decide) rfl ?_
    refine g_iinc2 hE1 dX3_stepsOfTrack_33 (by decide) rfl ?_
    refine g_goto hE1 (tgt := 4) dX3_stepsOfTrack_36 (by decide) ?_
    exact hk_4 _ _ hw hok
  · have hw := hN17 q
    refine g_ildn1 hE1 dX3_stepsOfTrack_39 ?_
    exact gx_iret hE hR dX3_stepsOfTrack_40 (by decide) (by decide) rfl ⟨_, rfl, rfl, rfl, rfl, rfl, hw⟩ hok

/-- WhalingLogs.track(I)I -/
def wx_X0_track (X : XT) (o : Nat) (x1 : Int) (T : xT) (I : xI) (R : xR) (L : xL) (Q : Int → xT → xI → xR → Prop) : Prop :=
  wx_X0_isIn X x1 0 2 T I R L (fun (r1 : Int) => 
  cEq r1 0
    (
    Q (-2) T I R)
    (
    xtag T o = 1 ∧ wx_X0_tracked X o T I R L (fun (r4 : Option Nat) (T5 : xT) (I6 : xI) (R7 : xR) => tle T T5 → 
    jn1 (fun (y0_44 : Int) => 
        Q y0_44 T5 I6 R7)
      (fun (J_44 : Int → Prop) =>
      cEq x1 0
        (
        ∃ b9 : Nat, r4 = some b9 ∧ xtag T5 b9 = 7 ∧ wx_X3_weightOfTrack X b9 T5 I6 R7 L (fun (r12 : Int) => 
        J_44 r12))
        (
        cEq x1 1
          (
          ∃ b14 : Nat, r4 = some b14 ∧ xtag T5 b14 = 7 ∧
          J_44 (I6 b14 8))
          (
          ∃ b17 : Nat, r4 = some b17 ∧ xtag T5 b17 = 7 ∧ wx_X3_stepsOfTrack X b17 T5 I6 R7 L (fun (r20 : Int) => 
          J_44 r20)))))))
theorem hx_X0_track : yX0_track.cls = RX0 ∧ yX0_track.cls ≠ "java/lang/invoke/MethodHandle" ∧ yX0_track.cls ≠ "java/lang/invoke/VarHandle" ∧ (parseMethodDescriptor yX0_track.desc).map (fun d => d.parameters.length) = some 1 := by decide +kernel
set_option maxHeartbeats 4000000 in
theorem tx_X0_track (X : XT) {o : Nat} {x1 : Int} {T : xT} {I : xI} {R : xR} {L : xL} {Q : Int → xT → xI → xR → Prop} (hw : wx_X0_track X o x1 T I R L Q) : CtX X yX0_track cX0_track 3 (some .int) (rmX 9 1 5 191) [aR (some o), aI x1] T I R L (PXiTIR T I R L Q) := by
  refine CtX.intro (by decide) (Nat.le_of_ble_eq_true rfl) (fun E hE hR hN => ?_)
  have hRm := hR.rm
  have hE : OkX E X RX0 cX0_track 3 (some .int) := hE
  have hE1 := hE.1
  show GX E X T I R L 0 0 0 [some (aR (some o)), some (aI x1), none] []
  unfold wx_X0_track at hw
  intro hok
  refine g_ildn1 hE1 dX0_track_0 ?_
  refine g_iconst hE1 dX0_track_1 ?_
  refine g_iconst hE1 dX0_track_2 ?_
  refine gx_callS hE hRm (As := [aI x1, aI 0, aI 2]) hx_X0_isIn (tx_X0_isIn X hw) (lw_S q392 q393 q94 q394) ⟨by decide, by decide⟩ ⟨(by decide), (by decide)⟩ rfl (Nat.le_of_ble_eq_true rfl) dX0_track_3 rfl (fun r9 Tz Iz Rz Lz hΦ => ?_) hok
  obtain ⟨r1, rfl, rfl, rfl, rfl, rfl, hw⟩ := hΦ
  show GX E X T I R L 0 0 6 [some (aR (some o)), some (aI x1), none] [aI r1]
  intro hok
  obtain ⟨h30, h31, hT32, hN33⟩ := hw
  refine g_if_ne hE1 (tgt := 12) dX0_track_6 (by decide) h30 (fun q => ?_) (fun q => ?_)
  · have hw := hT32 q
    refine g_bipush hE1 dX0_track_9 (by decide) ?_
    exact gx_iret hE hR dX0_track_11 (by decide) (by decide) rfl ⟨_, rfl, rfl, tle.rf, hw⟩ hok
  · have hw := hN33 q
    refine g_aldn0 hE1 dX0_track_12 ?_
    obtain ⟨ht3, hw⟩ := hw
    refine gx_callV hE hRm (As := []) ht3 (by decide) (by decide) rfl hx_X0_tracked (tx_X0_tracked X hw) (lw_V q1405 q1407 qs24 q94 q1408) ⟨by decide, by decide⟩ ⟨(by decide), (by decide)⟩ rfl (Nat.le_of_ble_eq_true rfl) dX0_track_13 rfl (fun r9 T5 I6 R7 Lz hΦ => ?_) hok
    obtain ⟨r4, rfl, rfl, hl8, hw⟩ := hΦ
    have hw := hw hl8
    show GX E X T5 I6 R7 L 1 5 16 [some (aR (some o)), some (aI x1), none] [aR r4]
    intro hok
    refine g_astn2 hE1 dX0_track_16 (by decide) rfl ?_
    refine g_ildn1 hE1 dX0_track_17 ?_
    refine jn1_walk (fun (y0_44 : Int) => GX E X T5 I6 R7 L 1 5 44 [some (aR (some o)), some (aI x1), some (aR r4)] [aI y0_44]) hw (fun y0_44 hw => ?_) (fun J_44 hj_44 hw => ?_)
    · intro hok
      exact gx_iret hE hR dX0_track_44 (by decide) (by decide) rfl ⟨_, rfl, rfl, hl8, hw⟩ hok
    · skip
      obtain ⟨h26, h27, hT28, hN29⟩ := hw
      refine g_if_ne hE1 (tgt := 28) dX0_track_18 (by decide) h26 (fun q => ?_) (fun q => ?_)
      · have hw := hT28 q
        refine g_aldn2 hE1 dX0_track_21 ?_
        obtain ⟨b9, hb10, hw⟩ := hw
        rw [hb10]
        obtain ⟨ht11, hw⟩ := hw
        refine gx_callV hE hRm (As := []) ht11 (by decide) (by decide) rfl hx_X3_weightOfTrack (tx_X3_weightOfTrack X hw) (lw_V q1532 q1533 q1534 q103 q1535) ⟨by decide, by decide⟩ ⟨(by decide), (by decide)⟩ rfl (Nat.le_of_ble_eq_true rfl) dX0_track_22 rfl (fun r9 Tz Iz Rz Lz hΦ => ?_) hok
        obtain ⟨r12, rfl, rfl, rfl, rfl, rfl, hw⟩ := hΦ
        show GX E X T5 I6 R7 L 1 5 25 [some (aR (some o)), some (aI x1), some (aR (some b9))] [aI r12]
        intro hok
        refine g_goto hE1 (tgt := 44) dX0_track_25 (by decide) ?_
        simpa only [hb10] using hj_44 _ hw hok
      · have hw := hN29 q
        refine g_ildn1 hE1 dX0_track_28 ?_
        refine g_iconst hE1 dX0_track_29 ?_
        obtain ⟨h22, h23, hT24, hN25⟩ := hw
        refine g_icmp_ne hE1 (tgt := 40) dX0_track_30 (by decide) h22 h23 (fun q => ?_) (fun q => ?_)
        · have hw := hT24 q
          refine g_aldn2 hE1 dX0_track_33 ?_
          obtain ⟨b14, hb15, hw⟩ := hw
          rw [hb15]
          obtain ⟨ht16, hw⟩ := hw
          refine gx_getiN hE in_X3 (t := 7) rfl (by decide) 8 8 rfl (by decide) rfl (by decide) rfl q300 (Or.inl rfl) ht16 dX0_track_34 ?_ hok
          intro hok
          refine g_goto hE1 (tgt := 44) dX0_track_37 (by decide) ?_
          simpa only [hb15] using hj_44 _ hw hok
        · have hw := hN25 q
          refine g_aldn2 hE1 dX0_track_40 ?_
          obtain ⟨b17, hb18, hw⟩ := hw
          rw [hb18]
          obtain ⟨ht19, hw⟩ := hw
          refine gx_callV hE hRm (As := []) ht19 (by decide) (by decide) rfl hx_X3_stepsOfTrack (tx_X3_stepsOfTrack X hw) (lw_V q1536 q1537 q1538 q103 q1539) ⟨by decide, by decide⟩ ⟨(by decide), (by decide)⟩ rfl (Nat.le_of_ble_eq_true rfl) dX0_track_41 rfl (fun r9 Tz Iz Rz Lz hΦ => ?_) hok
          obtain ⟨r20, rfl, rfl, rfl, rfl, rfl, hw⟩ := hΦ
          show GX E X T5 I6 R7 L 1 5 44 [some (aR (some o)), some (aI x1), some (aR (some b17))] [aI r20]
          intro hok
          simpa only [hb18] using hj_44 _ hw hok

/-- WhalingLogs.trackAt(I)I -/
def wx_X0_trackAt (X : XT) (o : Nat) (x1 : Int) (T : xT) (I : xI) (R : xR) (L : xL) (Q : Int → xT → xI → xR → Prop) : Prop :=
  xtag T o = 1 ∧ wx_X0_tracked X o T I R L (fun (r2 : Option Nat) (T3 : xT) (I4 : xI) (R5 : xR) => tle T T3 → 
  ∃ b7 : Nat, r2 = some b7 ∧ xtag T3 b7 = 7 ∧
  wx_X0_isIn X x1 0 ((I4 b7 8) - 1) T3 I4 R5 L (fun (r10 : Int) => 
  jn1 (fun (y0_29 : Int) => 
      Q y0_29 T3 I4 R5)
    (fun (J_29 : Int → Prop) =>
    cEq r10 0
      (
      J_29 (-1))
      (
      ∃ b12 : Nat, R5 b7 5 = some b12 ∧ xtag T3 b12 = 100 ∧ ib x1 (xlen T3 b12) ∧ xlen T3 b12 < 2147483648 ∧
      J_29 (I4 b12 x1)))))
theorem hx_X0_trackAt : yX0_trackAt.cls = RX0 ∧ yX0_trackAt.cls ≠ "java/lang/invoke/MethodHandle" ∧ yX0_trackAt.cls ≠ "java/lang/invoke/VarHandle" ∧ (parseMethodDescriptor yX0_trackAt.desc).map (fun d => d.parameters.length) = some 1 := by decide +kernel
set_option maxHeartbeats 4000000 in
theorem tx_X0_trackAt (X : XT) {o : Nat} {x1 : Int} {T : xT} {I : xI} {R : xR} {L : xL} {Q : Int → xT → xI → xR → Prop} (hw : wx_X0_trackAt X o x1 T I R L Q) : CtX X yX0_trackAt cX0_trackAt 3 (some .int) (rmX 9 1 5 191) [aR (some o), aI x1] T I R L (PXiTIR T I R L Q) := by
  refine CtX.intro (by decide) (Nat.le_of_ble_eq_true rfl) (fun E hE hR hN => ?_)
  have hRm := hR.rm
  have hE : OkX E X RX0 cX0_trackAt 3 (some .int) := hE
  have hE1 := hE.1
  show GX E X T I R L 0 0 0 [some (aR (some o)), some (aI x1), none] []
  unfold wx_X0_trackAt at hw
  intro hok
  refine g_aldn0 hE1 dX0_trackAt_0 ?_
  obtain ⟨ht1, hw⟩ := hw
  refine gx_callV hE hRm (As := []) ht1 (by decide) (by decide) rfl hx_X0_tracked (tx_X0_tracked X hw) (lw_V q1405 q1407 qs24 q94 q1408) ⟨by decide, by decide⟩ ⟨(by decide), (by decide)⟩ rfl (Nat.le_of_ble_eq_true rfl) dX0_trackAt_1 rfl (fun r9 T3 I4 R5 Lz hΦ => ?_) hok
  obtain ⟨r2, rfl, rfl, hl6, hw⟩ := hΦ
  have hw := hw hl6
  show GX E X T3 I4 R5 L 1 5 4 [some (aR (some o)), some (aI x1), none] [aR r2]
  intro hok
  refine g_astn2 hE1 dX0_trackAt_4 (by decide) rfl ?_
  refine g_ildn1 hE1 dX0_trackAt_5 ?_
  refine g_iconst hE1 dX0_trackAt_6 ?_
  refine g_aldn2 hE1 dX0_trackAt_7 ?_
  obtain ⟨b7, hb8, hw⟩ := hw
  rw [hb8]
  obtain ⟨ht9, hw⟩ := hw
  refine gx_getiN hE in_X3 (t := 7) rfl (by decide) 8 8 rfl (by decide) rfl (by decide) rfl q300 (Or.inl rfl) ht9 dX0_trackAt_8 ?_ hok
  intro hok
  refine g_iconst hE1 dX0_trackAt_11 ?_
  refine g_isub hE1 dX0_trackAt_12 ?_
  refine gx_callS hE hRm (As := [aI x1, aI 0, aI ((I4 b7 8) - 1)]) hx_X0_isIn (tx_X0_isIn X hw) (lw_S q392 q393 q94 q394) ⟨by decide, by decide⟩ ⟨(by decide), (by decide)⟩ rfl (Nat.le_of_ble_eq_true rfl) dX0_trackAt_13 rfl (fun r9 Tz Iz Rz Lz hΦ => ?_) hok
  obtain ⟨r10, rfl, rfl, rfl, rfl, rfl, hw⟩ := hΦ
  show GX E X T3 I4 R5 L 1 5 16 [some (aR (some o)), some (aI x1), some (aR (some b7))] [aI r10]
  intro hok
  refine jn1_walk (fun (y0_29 : Int) => GX E X T3 I4 R5 L 1 5 29 [some (aR (some o)), some (aI x1), some (aR (some b7))] [aI y0_29]) hw (fun y0_29 hw => ?_) (fun J_29 hj_29 hw => ?_)
  · intro hok
    exact gx_iret hE hR dX0_trackAt_29 (by decide) (by decide) rfl ⟨_, rfl, rfl, hl6, hw⟩ hok
  · skip
    obtain ⟨h17, h18, hT19, hN20⟩ := hw
    refine g_if_eq hE1 (tgt := 28) dX0_trackAt_16 (by decide) h17 (fun q => ?_) (fun q => ?_)
    · have hw := hT19 q
      refine g_iconst hE1 dX0_trackAt_28 ?_
      exact hj_29 _ hw hok
    · have hw := hN20 q
      refine g_aldn2 hE1 dX0_trackAt_19 ?_
      refine gx_getrN hE in_X3 (t := 7) rfl (by decide) 5 5 rfl (by decide) rfl (by decide) rfl q295 (Or.inl rfl) ht9 dX0_trackAt_20 ?_ hok
      intro hok
      refine g_ildn1 hE1 dX0_trackAt_23 ?_
      obtain ⟨b12, hb13, hw⟩ := hw
      rw [hb13]
      obtain ⟨ht14, hw⟩ := hw
      obtain ⟨h15, h16, hw⟩ := hw
      refine gx_iald hE ht14 h15 h16 dX0_trackAt_24 ?_ hok
      intro hok
      refine g_goto hE1 (tgt := 29) dX0_trackAt_25 (by decide) ?_
      exact hj_29 _ hw hok

/-- WhalingLogs$Listing.weightOf(I)I -/
def wx_X3_weightOf (X : XT) (o : Nat) (x1 : Int) (T : xT) (I : xI) (R : xR) (L : xL) (Q : Int → Prop) : Prop :=
  lq2 (fun (x2_4 : Int) (x3_4 : Int) (K_4 : Int → Int → Prop) =>
    xtag T o = 7 ∧
    cLt x3_4 (I o 7)
      (
      jn1 (fun (y1_31 : Int) => 
          K_4 (x2_4 + y1_31) (x3_4 + 1))
        (fun (J_31 : Int → Prop) =>
        cEq (bAnd (bShr x1 x3_4) 1) 1
          (
          wx_X3_weight X o x3_4 T I R L (fun (r2 : Int) => 
          J_31 r2))
          (
          J_31 0)))
      (
      Q x2_4)) 0 0
theorem hx_X3_weightOf : yX3_weightOf.cls = RX3 ∧ yX3_weightOf.cls ≠ "java/lang/invoke/MethodHandle" ∧ yX3_weightOf.cls ≠ "java/lang/invoke/VarHandle" ∧ (parseMethodDescriptor yX3_weightOf.desc).map (fun d => d.parameters.length) = some 1 := by decide +kernel
set_option maxHeartbeats 4000000 in
theorem tx_X3_weightOf (X : XT) {o : Nat} {x1 : Int} {T : xT} {I : xI} {R : xR} {L : xL} {Q : Int → Prop} (hw : wx_X3_weightOf X o x1 T I R L Q) : CtX X yX3_weightOf cX3_weightOf 4 (some .int) (rmX 2 0 0 42) [aR (some o), aI x1] T I R L (PXi T I R L Q) := by
  refine CtX.intro (by decide) (Nat.le_of_ble_eq_true rfl) (fun E hE hR hN => ?_)
  have hRm := hR.rm
  have hE : OkX E X RX3 cX3_weightOf 4 (some .int) := hE
  have hE1 := hE.1
  show GX E X T I R L 0 0 0 [some (aR (some o)), some (aI x1), none, none] []
  unfold wx_X3_weightOf at hw
  intro hok
  refine g_iconst hE1 dX3_weightOf_0 ?_
  refine g_istn2 hE1 dX3_weightOf_1 (by decide) rfl ?_
  refine g_iconst hE1 dX3_weightOf_2 ?_
  refine g_istn3 hE1 dX3_weightOf_3 (by decide) rfl ?_
  refine lq2_walk (fun (x2_4 : Int) (x3_4 : Int) => GX E X T I R L 0 0 4 [some (aR (some o)), some (aI x1), some (aI x2_4), some (aI x3_4)] []) (fun K_4 hk_4 x2_4 x3_4 hw => ?_) _ _ hw hok
  intro hok
  refine g_ildn3 hE1 dX3_weightOf_4 ?_
  refine g_aldn0 hE1 dX3_weightOf_5 ?_
  obtain ⟨ht1, hw⟩ := hw
  refine gx_geti hE in_X3 (t := 7) rfl (by decide) 7 7 rfl (by decide) rfl (by decide) rfl q297 (Or.inl rfl) ht1 dX3_weightOf_6 ?_ hok
  intro hok
  obtain ⟨h8, h9, hT10, hN11⟩ := hw
  refine g_icmp_ge hE1 (tgt := 39) dX3_weightOf_9 (by decide) h8 h9 (fun q => ?_) (fun q => ?_)
  · have hw := hT10 q
    refine g_ildn2 hE1 dX3_weightOf_12 ?_
    refine g_ildn1 hE1 dX3_weightOf_13 ?_
    refine g_ildn3 hE1 dX3_weightOf_14 ?_
    refine g_ishr hE1 dX3_weightOf_15 ?_
    refine g_iconst hE1 dX3_weightOf_16 ?_
    refine g_iand hE1 dX3_weightOf_17 ?_
    refine g_iconst hE1 dX3_weightOf_18 ?_
    refine jn1_walk (fun (y1_31 : Int) => GX E X T I R L 0 0 31 [some (aR (some o)), some (aI x1), some (aI x2_4), some (aI x3_4)] [aI y1_31, aI x2_4]) hw (fun y1_31 hw => ?_) (fun J_31 hj_31 hw => ?_)
    · intro hok
      refine g_iadd hE1 dX3_weightOf_31 ?_
      refine g_istn2 hE1 dX3_weightOf_32 (by decide) rfl ?_
      refine g_iinc3 hE1 dX3_weightOf_33 (by decide) rfl ?_
      refine g_goto hE1 (tgt := 4) dX3_weightOf_36 (by decide) ?_
      exact hk_4 _ _ hw hok
    · skip
      obtain ⟨h4, h5, hT6, hN7⟩ := hw
      refine g_icmp_ne hE1 (tgt := 30) dX3_weightOf_19 (by decide) h4 h5 (fun q => ?_) (fun q => ?_)
      · have hw := hT6 q
        refine g_aldn0 hE1 dX3_weightOf_22 ?_
        refine g_ildn3 hE1 dX3_weightOf_23 ?_
        refine gx_callV hE hRm (As := [aI x3_4]) ht1 (by decide) (by decide) rfl hx_X3_weight (tx_X3_weight X hw) (lw_V q1440 q1441 q1442 q103 q1443) ⟨by decide, by decide⟩ ⟨(by decide), (by decide)⟩ rfl (Nat.le_of_ble_eq_true rfl) dX3_weightOf_24 rfl (fun r9 Tz Iz Rz Lz hΦ => ?_) hok
        obtain ⟨r2, rfl, rfl, rfl, rfl, rfl, hw⟩ := hΦ
        show GX E X T I R L 0 0 27 [some (aR (some o)), some (aI x1), some (aI x2_4), some (aI x3_4)] [aI r2, aI x2_4]
        intro hok
        refine g_goto hE1 (tgt := 31) dX3_weightOf_27 (by decide) ?_
        exact hj_31 _ hw hok
      · have hw := hN7 q
        refine g_iconst hE1 dX3_weightOf_30 ?_
        exact hj_31 _ hw hok
  · have hw := hN11 q
    refine g_ildn2 hE1 dX3_weightOf_39 ?_
    exact gx_iret hE hR dX3_weightOf_40 (by decide) (by decide) rfl ⟨_, rfl, rfl, rfl, rfl, rfl, hw⟩ hok

/-- WhalingLogs$Listing.isTrack(I)Z -/
def wx_X3_isTrack (X : XT) (o : Nat) (x1 : Int) (T : xT) (I : xI) (R : xR) (L : xL) (Q : Int → Prop) : Prop :=
  lq1 (fun (x2_2 : Int) (K_2 : Int → Prop) =>
    xtag T o = 7 ∧
    cLt x2_2 (I o 7)
      (
      jn0 (
          lq1 (fun (x3_33 : Int) (K_33 : Int → Prop) =>
            jn0 (
                K_2 (x2_2 + 1))
              (fun (J_76 : Prop) =>
              cLt x3_33 (I o 7)
                (
                cEq (bAnd (bShr x1 x2_2) 1) 1
                  (
                  jn0 (
                      K_33 (x3_33 + 1))
                    (fun (J_70 : Prop) =>
                    cEq (bAnd (bShr x1 x3_33) 1) 1
                      (
                      wx_X3_canBoth X o x2_2 x3_33 T I R L (fun (r2 : Int) => 
                      cEq r2 0
                        (
                        Q 0)
                        (
                        J_70)))
                      (
                      J_70)))
                  (
                  J_76))
                (
                J_76))) (x2_2 + 1))
        (fun (J_29 : Prop) =>
        cEq (bAnd (bShr x1 x2_2) 1) 1
          (
          wx_X3_isOnWater X o x2_2 T I R L (fun (r20 : Int) => 
          cEq r20 0
            (
            Q 0)
            (
            J_29)))
          (
          J_29)))
      (
      Q 1)) 0
theorem hx_X3_isTrack : yX3_isTrack.cls = RX3 ∧ yX3_isTrack.cls ≠ "java/lang/invoke/MethodHandle" ∧ yX3_isTrack.cls ≠ "java/lang/invoke/VarHandle" ∧ (parseMethodDescriptor yX3_isTrack.desc).map (fun d => d.parameters.length) = some 1 := by decide +kernel
set_option maxHeartbeats 4000000 in
theorem tx_X3_isTrack (X : XT) {o : Nat} {x1 : Int} {T : xT} {I : xI} {R : xR} {L : xL} {Q : Int → Prop} (hw : wx_X3_isTrack X o x1 T I R L Q) : CtX X yX3_isTrack cX3_isTrack 4 (some .boolean) (rmX 3 0 0 86) [aR (some o), aI x1] T I R L (PXi T I R L Q) := by
  refine CtX.intro (by decide) (Nat.le_of_ble_eq_true rfl) (fun E hE hR hN => ?_)
  have hRm := hR.rm
  have hE : OkX E X RX3 cX3_isTrack 4 (some .boolean) := hE
  have hE1 := hE.1
  show GX E X T I R L 0 0 0 [some (aR (some o)), some (aI x1), none, none] []
  unfold wx_X3_isTrack at hw
  intro hok
  refine g_iconst hE1 dX3_isTrack_0 ?_
  refine g_istn2 hE1 dX3_isTrack_1 (by decide) rfl ?_
  refine lq1_walk (fun (x2_2 : Int) => GX E X T I R L 0 0 2 [some (aR (some o)), some (aI x1), some (aI x2_2), none] []) (fun K_2 hk_2 x2_2 hw => ?_) _ hw hok
  intro hok
  refine g_ildn2 hE1 dX3_isTrack_2 ?_
  refine g_aldn0 hE1 dX3_isTrack_3 ?_
  obtain ⟨ht1, hw⟩ := hw
  refine gx_geti hE in_X3 (t := 7) rfl (by decide) 7 7 rfl (by decide) rfl (by decide) rfl q297 (Or.inl rfl) ht1 dX3_isTrack_4 ?_ hok
  intro hok
  obtain ⟨h30, h31, hT32, hN33⟩ := hw
  refine g_icmp_ge hE1 (tgt := 82) dX3_isTrack_7 (by decide) h30 h31 (fun q => ?_) (fun q => ?_)
  · have hw := hT32 q
    refine g_ildn1 hE1 dX3_isTrack_10 ?_
    refine g_ildn2 hE1 dX3_isTrack_11 ?_
    refine g_ishr hE1 dX3_isTrack_12 ?_
    refine g_iconst hE1 dX3_isTrack_13 ?_
    refine g_iand hE1 dX3_isTrack_14 ?_
    refine g_iconst hE1 dX3_isTrack_15 ?_
    refine jn0_walk (GX E X T I R L 0 0 29 [some (aR (some o)), some (aI x1), some (aI x2_2), none] []) hw (fun  hw => ?_) (fun J_29 hj_29 hw => ?_)
    · intro hok
      refine g_ildn2 hE1 dX3_isTrack_29 ?_
      refine g_iconst hE1 dX3_isTrack_30 ?_
      refine g_iadd hE1 dX3_isTrack_31 ?_
      refine g_istn3 hE1 dX3_isTrack_32 (by decide) rfl ?_
      refine lq1_walk (fun (x3_33 : Int) => GX E X T I R L 0 0 33 [some (aR (some o)), some (aI x1), some (aI x2_2), some (aI x3_33)] []) (fun K_33 hk_33 x3_33 hw => ?_) _ hw hok
      intro hok
      refine g_ildn3 hE1 dX3_isTrack_33 ?_
      refine g_aldn0 hE1 dX3_isTrack_34 ?_
      refine gx_geti hE in_X3 (t := 7) rfl (by decide) 7 7 rfl (by decide) rfl (by decide) rfl q297 (Or.inl rfl) ht1 dX3_isTrack_35 ?_ hok
      intro hok
      refine jn0_walk (GX E X T I R L 0 0 76 [some (aR (some o)), some (aI x1), some (aI x2_2), some (aI x3_33)] []) hw (fun  hw => ?_) (fun J_76 hj_76 hw => ?_)
      · intro hok
        refine g_iinc2 hE1 dX3_isTrack_76 (by decide) rfl ?_
        refine g_goto hE1 (tgt := 2) dX3_isTrack_79 (by decide) ?_
        refine g_kl3 ?_
        exact hk_2 _ hw hok
      · skip
        obtain ⟨h16, h17, hT18, hN19⟩ := hw
        refine g_icmp_ge hE1 (tgt := 76) dX3_isTrack_38 (by decide) h16 h17 (fun q => ?_) (fun q => ?_)
        · have hw := hT18 q
          refine g_ildn1 hE1 dX3_isTrack_41 ?_
          refine g_ildn2 hE1 dX3_isTrack_42 ?_
          refine g_ishr hE1 dX3_isTrack_43 ?_
          refine g_iconst hE1 dX3_isTrack_44 ?_
          refine g_iand hE1 dX3_isTrack_45 ?_
          refine g_iconst hE1 dX3_isTrack_46 ?_
          obtain ⟨h12, h13, hT14, hN15⟩ := hw
          refine g_icmp_ne hE1 (tgt := 76) dX3_isTrack_47 (by decide) h12 h13 (fun q => ?_) (fun q => ?_)
          · have hw := hT14 q
            refine g_ildn1 hE1 dX3_isTrack_50 ?_
            refine g_ildn3 hE1 dX3_isTrack_51 ?_
            refine g_ishr hE1 dX3_isTrack_52 ?_
            refine g_iconst hE1 dX3_isTrack_53 ?_
            refine g_iand hE1 dX3_isTrack_54 ?_
            refine g_iconst hE1 dX3_isTrack_55 ?_
            refine jn0_walk (GX E X T I R L 0 0 70 [some (aR (some o)), some (aI x1), some (aI x2_2), some (aI x3_33)] []) hw (fun  hw => ?_) (fun J_70 hj_70 hw => ?_)
            · intro hok
              refine g_iinc3 hE1 dX3_isTrack_70 (by decide) rfl ?_
              refine g_goto hE1 (tgt := 33) dX3_isTrack_73 (by decide) ?_
              exact hk_33 _ hw hok
            · skip
              obtain ⟨h8, h9, hT10, hN11⟩ := hw
              refine g_icmp_ne hE1 (tgt := 70) dX3_isTrack_56 (by decide) h8 h9 (fun q => ?_) (fun q => ?_)
              · have hw := hT10 q
                refine g_aldn0 hE1 dX3_isTrack_59 ?_
                refine g_ildn2 hE1 dX3_isTrack_60 ?_
                refine g_ildn3 hE1 dX3_isTrack_61 ?_
                refine gx_callV hE hRm (As := [aI x2_2, aI x3_33]) ht1 (by decide) (by decide) rfl hx_X3_canBoth (tx_X3_canBoth X hw) (lw_V q1431 q1432 q1433 q103 q1434) ⟨by decide, by decide⟩ ⟨(by decide), (by decide)⟩ rfl (Nat.le_of_ble_eq_true rfl) dX3_isTrack_62 rfl (fun r9 Tz Iz Rz Lz hΦ => ?_) hok
                obtain ⟨r2, rfl, rfl, rfl, rfl, rfl, hw⟩ := hΦ
                show GX E X T I R L 0 0 65 [some (aR (some o)), some (aI x1), some (aI x2_2), some (aI x3_33)] [aI r2]
                intro hok
                obtain ⟨h4, h5, hT6, hN7⟩ := hw
                refine g_if_ne hE1 (tgt := 70) dX3_isTrack_65 (by decide) h4 (fun q => ?_) (fun q => ?_)
                · have hw := hT6 q
                  refine g_iconst hE1 dX3_isTrack_68 ?_
                  exact gx_iret hE hR dX3_isTrack_69 (by decide) (by decide) (narrow_bl (by decide)) ⟨_, rfl, rfl, rfl, rfl, rfl, hw⟩ hok
                · have hw := hN7 q
                  exact hj_70  hw hok
              · have hw := hN11 q
                exact hj_70  hw hok
          · have hw := hN15 q
            exact hj_76  hw hok
        · have hw := hN19 q
          exact hj_76  hw hok
    · skip
      obtain ⟨h26, h27, hT28, hN29⟩ := hw
      refine g_icmp_ne hE1 (tgt := 29) dX3_isTrack_16 (by decide) h26 h27 (fun q => ?_) (fun q => ?_)
      · have hw := hT28 q
        refine g_aldn0 hE1 dX3_isTrack_19 ?_
        refine g_ildn2 hE1 dX3_isTrack_20 ?_
        refine gx_callV hE hRm (As := [aI x2_2]) ht1 (by decide) (by decide) rfl hx_X3_isOnWater (tx_X3_isOnWater X hw) (lw_V q1426 q1427 q1428 q103 q1429) ⟨by decide, by decide⟩ ⟨(by decide), (by decide)⟩ rfl (Nat.le_of_ble_eq_true rfl) dX3_isTrack_21 rfl (fun r9 Tz Iz Rz Lz hΦ => ?_) hok
        obtain ⟨r20, rfl, rfl, rfl, rfl, rfl, hw⟩ := hΦ
        show GX E X T I R L 0 0 24 [some (aR (some o)), some (aI x1), some (aI x2_2), none] [aI r20]
        intro hok
        obtain ⟨h22, h23, hT24, hN25⟩ := hw
        refine g_if_ne hE1 (tgt := 29) dX3_isTrack_24 (by decide) h22 (fun q => ?_) (fun q => ?_)
        · have hw := hT24 q
          refine g_iconst hE1 dX3_isTrack_27 ?_
          exact gx_iret hE hR dX3_isTrack_28 (by decide) (by decide) (narrow_bl (by decide)) ⟨_, rfl, rfl, rfl, rfl, rfl, hw⟩ hok
        · have hw := hN25 q
          exact hj_29  hw hok
      · have hw := hN29 q
        exact hj_29  hw hok
  · have hw := hN33 q
    refine g_iconst hE1 dX3_isTrack_82 ?_
    exact gx_iret hE hR dX3_isTrack_83 (by decide) (by decide) (narrow_bl (by decide)) ⟨_, rfl, rfl, rfl, rfl, rfl, hw⟩ hok

/-- WhalingLogs$Listing.heaviest()I -/
def wx_X3_heaviest (X : XT) (o : Nat)  (T : xT) (I : xI) (R : xR) (L : xL) (Q : Int → Prop) : Prop :=
  lq2 (fun (x1_4 : Int) (x2_4 : Int) (K_4 : Int → Int → Prop) =>
    xtag T o = 7 ∧
    cLt x2_4 (bShl 1 (I o 7))
      (
      wx_X3_weightOf X o x2_4 T I R L (fun (r2 : Int) => 
      jn1 (fun (y0_38 : Int) => 
          K_4 y0_38 (x2_4 + 1))
        (fun (J_38 : Int → Prop) =>
        jn0 (
            J_38 x1_4)
          (fun (J_37 : Prop) =>
          cLt x1_4 r2
            (
            wx_X3_isTrack X o x2_4 T I R L (fun (r4 : Int) => 
            cEq r4 0
              (
              J_37)
              (
              J_38 r2)))
            (
            J_37)))))
      (
      Q x1_4)) 0 0
theorem hx_X3_heaviest : yX3_heaviest.cls = RX3 ∧ yX3_heaviest.cls ≠ "java/lang/invoke/MethodHandle" ∧ yX3_heaviest.cls ≠ "java/lang/invoke/VarHandle" ∧ (parseMethodDescriptor yX3_heaviest.desc).map (fun d => d.parameters.length) = some 0 := by decide +kernel
set_option maxHeartbeats 4000000 in
theorem tx_X3_heaviest (X : XT) {o : Nat}  {T : xT} {I : xI} {R : xR} {L : xL} {Q : Int → Prop} (hw : wx_X3_heaviest X o T I R L Q) : CtX X yX3_heaviest cX3_heaviest 4 (some .int) (rmX 4 0 0 109) [aR (some o)] T I R L (PXi T I R L Q) := by
  refine CtX.intro (by decide) (Nat.le_of_ble_eq_true rfl) (fun E hE hR hN => ?_)
  have hRm := hR.rm
  have hE : OkX E X RX3 cX3_heaviest 4 (some .int) := hE
  have hE1 := hE.1
  show GX E X T I R L 0 0 0 [some (aR (some o)), none, none, none] []
  unfold wx_X3_heaviest at hw
  intro hok
  refine g_iconst hE1 dX3_heaviest_0 ?_
  refine g_istn1 hE1 dX3_heaviest_1 (by decide) rfl ?_
  refine g_iconst hE1 dX3_heaviest_2 ?_
  refine g_istn2 hE1 dX3_heaviest_3 (by decide) rfl ?_
  refine lq2_walk (fun (x1_4 : Int) (x2_4 : Int) => GX E X T I R L 0 0 4 [some (aR (some o)), some (aI x1_4), some (aI x2_4), none] []) (fun K_4 hk_4 x1_4 x2_4 hw => ?_) _ _ hw hok
  intro hok
  refine g_ildn2 hE1 dX3_heaviest_4 ?_
  refine g_iconst hE1 dX3_heaviest_5 ?_
  refine g_aldn0 hE1 dX3_heaviest_6 ?_
  obtain ⟨ht1, hw⟩ := hw
  refine gx_geti hE in_X3 (t := 7) rfl (by decide) 7 7 rfl (by decide) rfl (by decide) rfl q297 (Or.inl rfl) ht1 dX3_heaviest_7 ?_ hok
  intro hok
  refine g_ishl hE1 dX3_heaviest_10 ?_
  obtain ⟨h14, h15, hT16, hN17⟩ := hw
  refine g_icmp_ge hE1 (tgt := 45) dX3_heaviest_11 (by decide) h14 h15 (fun q => ?_) (fun q => ?_)
  · have hw := hT16 q
    refine g_aldn0 hE1 dX3_heaviest_14 ?_
    refine g_ildn2 hE1 dX3_heaviest_15 ?_
    refine gx_callV hE hRm (As := [aI x2_4]) ht1 (by decide) (by decide) rfl hx_X3_weightOf (tx_X3_weightOf X hw) (lw_V q1552 q1554 qs27 q103 q1555) ⟨by decide, by decide⟩ ⟨(by decide), (by decide)⟩ rfl (Nat.le_of_ble_eq_true rfl) dX3_heaviest_16 rfl (fun r9 Tz Iz Rz Lz hΦ => ?_) hok
    obtain ⟨r2, rfl, rfl, rfl, rfl, rfl, hw⟩ := hΦ
    show GX E X T I R L 0 0 19 [some (aR (some o)), some (aI x1_4), some (aI x2_4), none] [aI r2]
    intro hok
    refine g_istn3 hE1 dX3_heaviest_19 (by decide) rfl ?_
    refine g_ildn3 hE1 dX3_heaviest_20 ?_
    refine g_ildn1 hE1 dX3_heaviest_21 ?_
    refine jn1_walk (fun (y0_38 : Int) => GX E X T I R L 0 0 38 [some (aR (some o)), some (aI x1_4), some (aI x2_4), some (aI r2)] [aI y0_38]) hw (fun y0_38 hw => ?_) (fun J_38 hj_38 hw => ?_)
    · intro hok
      refine g_istn1 hE1 dX3_heaviest_38 (by decide) rfl ?_
      refine g_iinc2 hE1 dX3_heaviest_39 (by decide) rfl ?_
      refine g_goto hE1 (tgt := 4) dX3_heaviest_42 (by decide) ?_
      refine g_kl3 ?_
      exact hk_4 _ _ hw hok
    · skip
      refine jn0_walk (GX E X T I R L 0 0 37 [some (aR (some o)), some (aI x1_4), some (aI x2_4), some (aI r2)] []) hw (fun  hw => ?_) (fun J_37 hj_37 hw => ?_)
      · intro hok
        refine g_ildn1 hE1 dX3_heaviest_37 ?_
        exact hj_38 _ hw hok
      · skip
        obtain ⟨h10, h11, hT12, hN13⟩ := hw
        refine g_icmp_le hE1 (tgt := 37) dX3_heaviest_22 (by decide) h11 h10 (fun q => ?_) (fun q => ?_)
        · have hw := hT12 q
          refine g_aldn0 hE1 dX3_heaviest_25 ?_
          refine g_ildn2 hE1 dX3_heaviest_26 ?_
          refine gx_callV hE hRm (As := [aI x2_4]) ht1 (by decide) (by decide) rfl hx_X3_isTrack (tx_X3_isTrack X hw) (lw_V q1556 q1558 qs28 q103 q1559) ⟨by decide, by decide⟩ ⟨(by decide), (by decide)⟩ rfl (Nat.le_of_ble_eq_true rfl) dX3_heaviest_27 rfl (fun r9 Tz Iz Rz Lz hΦ => ?_) hok
          obtain ⟨r4, rfl, rfl, rfl, rfl, rfl, hw⟩ := hΦ
          show GX E X T I R L 0 0 30 [some (aR (some o)), some (aI x1_4), some (aI x2_4), some (aI r2)] [aI r4]
          intro hok
          obtain ⟨h6, h7, hT8, hN9⟩ := hw
          refine g_if_eq hE1 (tgt := 37) dX3_heaviest_30 (by decide) h6 (fun q => ?_) (fun q => ?_)
          · have hw := hT8 q
            exact hj_37  hw hok
          · have hw := hN9 q
            refine g_ildn3 hE1 dX3_heaviest_33 ?_
            refine g_goto hE1 (tgt := 38) dX3_heaviest_34 (by decide) ?_
            exact hj_38 _ hw hok
        · have hw := hN13 q
          exact hj_37  hw hok
  · have hw := hN17 q
    refine g_ildn1 hE1 dX3_heaviest_45 ?_
    exact gx_iret hE hR dX3_heaviest_46 (by decide) (by decide) rfl ⟨_, rfl, rfl, rfl, rfl, rfl, hw⟩ hok

/-- WhalingLogs.weightAgain()I -/
def wx_X0_weightAgain (X : XT) (o : Nat)  (T : xT) (I : xI) (R : xR) (L : xL) (Q : Int → xT → xI → xR → Prop) : Prop :=
  xtag T o = 1 ∧ wx_X0_spread X o T I R L (fun (r2 : Option Nat) (T3 : xT) (I4 : xI) (R5 : xR) => tle T T3 → 
  ∃ b7 : Nat, r2 = some b7 ∧ xtag T3 b7 = 7 ∧
  jn1 (fun (y0_23 : Int) => 
      Q y0_23 T3 I4 R5)
    (fun (J_23 : Int → Prop) =>
    cLt 10 (I4 b7 7)
      (
      J_23 (-3))
      (
      wx_X3_heaviest X b7 T3 I4 R5 L (fun (r10 : Int) => 
      J_23 r10))))
theorem hx_X0_weightAgain : yX0_weightAgain.cls = RX0 ∧ yX0_weightAgain.cls ≠ "java/lang/invoke/MethodHandle" ∧ yX0_weightAgain.cls ≠ "java/lang/invoke/VarHandle" ∧ (parseMethodDescriptor yX0_weightAgain.desc).map (fun d => d.parameters.length) = some 0 := by decide +kernel
set_option maxHeartbeats 4000000 in
theorem tx_X0_weightAgain (X : XT) {o : Nat}  {T : xT} {I : xI} {R : xR} {L : xL} {Q : Int → xT → xI → xR → Prop} (hw : wx_X0_weightAgain X o T I R L Q) : CtX X yX0_weightAgain cX0_weightAgain 2 (some .int) (rmX 8 1 5 171) [aR (some o)] T I R L (PXiTIR T I R L Q) := by
  refine CtX.intro (by decide) (Nat.le_of_ble_eq_true rfl) (fun E hE hR hN => ?_)
  have hRm := hR.rm
  have hE : OkX E X RX0 cX0_weightAgain 2 (some .int) := hE
  have hE1 := hE.1
  show GX E X T I R L 0 0 0 [some (aR (some o)), none] []
  unfold wx_X0_weightAgain at hw
  intro hok
  refine g_aldn0 hE1 dX0_weightAgain_0 ?_
  obtain ⟨ht1, hw⟩ := hw
  refine gx_callV hE hRm (As := []) ht1 (by decide) (by decide) rfl hx_X0_spread (tx_X0_spread X hw) (lw_V q1409 q1411 qs25 q94 q1412) ⟨by decide, by decide⟩ ⟨(by decide), (by decide)⟩ rfl (Nat.le_of_ble_eq_true rfl) dX0_weightAgain_1 rfl (fun r9 T3 I4 R5 Lz hΦ => ?_) hok
  obtain ⟨r2, rfl, rfl, hl6, hw⟩ := hΦ
  have hw := hw hl6
  show GX E X T3 I4 R5 L 1 5 4 [some (aR (some o)), none] [aR r2]
  intro hok
  refine g_astn1 hE1 dX0_weightAgain_4 (by decide) rfl ?_
  refine g_aldn1 hE1 dX0_weightAgain_5 ?_
  obtain ⟨b7, hb8, hw⟩ := hw
  rw [hb8]
  obtain ⟨ht9, hw⟩ := hw
  refine gx_getiN hE in_X3 (t := 7) rfl (by decide) 7 7 rfl (by decide) rfl (by decide) rfl q298 (Or.inl rfl) ht9 dX0_weightAgain_6 ?_ hok
  intro hok
  refine g_bipush hE1 dX0_weightAgain_9 (by decide) ?_
  refine jn1_walk (fun (y0_23 : Int) => GX E X T3 I4 R5 L 1 5 23 [some (aR (some o)), some (aR (some b7))] [aI y0_23]) hw (fun y0_23 hw => ?_) (fun J_23 hj_23 hw => ?_)
  · intro hok
    exact gx_iret hE hR dX0_weightAgain_23 (by decide) (by decide) rfl ⟨_, rfl, rfl, hl6, hw⟩ hok
  · skip
    obtain ⟨h12, h13, hT14, hN15⟩ := hw
    refine g_icmp_le hE1 (tgt := 19) dX0_weightAgain_11 (by decide) h13 h12 (fun q => ?_) (fun q => ?_)
    · have hw := hT14 q
      refine g_bipush hE1 dX0_weightAgain_14 (by decide) ?_
      refine g_goto hE1 (tgt := 23) dX0_weightAgain_16 (by decide) ?_
      exact hj_23 _ hw hok
    · have hw := hN15 q
      refine g_aldn1 hE1 dX0_weightAgain_19 ?_
      refine gx_callV hE hRm (As := []) ht9 (by decide) (by decide) rfl hx_X3_heaviest (tx_X3_heaviest X hw) (lw_V q1548 q1549 q1550 q103 q1551) ⟨by decide, by decide⟩ ⟨(by decide), (by decide)⟩ rfl (Nat.le_of_ble_eq_true rfl) dX0_weightAgain_20 rfl (fun r9 Tz Iz Rz Lz hΦ => ?_) hok
      obtain ⟨r10, rfl, rfl, rfl, rfl, rfl, hw⟩ := hΦ
      show GX E X T3 I4 R5 L 1 5 23 [some (aR (some o)), some (aR (some b7))] [aI r10]
      intro hok
      exact hj_23 _ hw hok

/-- WhalingLogs$Listing.before(I)I -/
def wx_X3_before (X : XT) (o : Nat) (x1 : Int) (T : xT) (I : xI) (R : xR) (L : xL) (Q : Int → Prop) : Prop :=
  lq2 (fun (x2_4 : Int) (x3_4 : Int) (K_4 : Int → Int → Prop) =>
    xtag T o = 7 ∧
    cLt x3_4 (I o 8)
      (
      ∃ b2 : Nat, R o 5 = some b2 ∧ xtag T b2 = 100 ∧ ib x3_4 (xlen T b2) ∧ xlen T b2 < 2147483648 ∧
      ∃ b7 : Nat, R o 0 = some b7 ∧ xtag T b7 = 104 ∧ ib (I b2 x3_4) (xlen T b7) ∧ xlen T b7 < 2147483648 ∧
      ∃ b12 : Nat, R b7 (I b2 x3_4) = some b12 ∧ xtag T b12 = 12 ∧
      jn1 (fun (y0_40 : Int) => 
          K_4 y0_40 (x3_4 + 1))
        (fun (J_40 : Int → Prop) =>
        cLt x1 (I b12 0)
          (
          J_40 x2_4)
          (
          ∃ b15 : Nat, R o 5 = some b15 ∧ xtag T b15 = 100 ∧ ib x3_4 (xlen T b15) ∧ xlen T b15 < 2147483648 ∧
          J_40 (I b15 x3_4))))
      (
      Q x2_4)) (-1) 0
theorem hx_X3_before : yX3_before.cls = RX3 ∧ yX3_before.cls ≠ "java/lang/invoke/MethodHandle" ∧ yX3_before.cls ≠ "java/lang/invoke/VarHandle" ∧ (parseMethodDescriptor yX3_before.desc).map (fun d => d.parameters.length) = some 1 := by decide +kernel
set_option maxHeartbeats 4000000 in
theorem tx_X3_before (X : XT) {o : Nat} {x1 : Int} {T : xT} {I : xI} {R : xR} {L : xL} {Q : Int → Prop} (hw : wx_X3_before X o x1 T I R L Q) : CtX X yX3_before cX3_before 4 (some .int) (rmX 0 0 0 0) [aR (some o), aI x1] T I R L (PXi T I R L Q) := by
  refine CtX.intro (by decide) (Nat.le_of_ble_eq_true rfl) (fun E hE hR hN => ?_)
  have hRm := hR.rm
  have hE : OkX E X RX3 cX3_before 4 (some .int) := hE
  have hE1 := hE.1
  show GX E X T I R L 0 0 0 [some (aR (some o)), some (aI x1), none, none] []
  unfold wx_X3_before at hw
  intro hok
  refine g_iconst hE1 dX3_before_0 ?_
  refine g_istn2 hE1 dX3_before_1 (by decide) rfl ?_
  refine g_iconst hE1 dX3_before_2 ?_
  refine g_istn3 hE1 dX3_before_3 (by decide) rfl ?_
  refine lq2_walk (fun (x2_4 : Int) (x3_4 : Int) => GX E X T I R L 0 0 4 [some (aR (some o)), some (aI x1), some (aI x2_4), some (aI x3_4)] []) (fun K_4 hk_4 x2_4 x3_4 hw => ?_) _ _ hw hok
  intro hok
  refine g_ildn3 hE1 dX3_before_4 ?_
  refine g_aldn0 hE1 dX3_before_5 ?_
  obtain ⟨ht1, hw⟩ := hw
  refine gx_geti hE in_X3 (t := 7) rfl (by decide) 8 8 rfl (by decide) rfl (by decide) rfl q299 (Or.inl rfl) ht1 dX3_before_6 ?_ hok
  intro hok
  obtain ⟨h24, h25, hT26, hN27⟩ := hw
  refine g_icmp_ge hE1 (tgt := 47) dX3_before_9 (by decide) h24 h25 (fun q => ?_) (fun q => ?_)
  · have hw := hT26 q
    refine g_aldn0 hE1 dX3_before_12 ?_
    refine gx_getr hE in_X3 (t := 7) rfl (by decide) 0 0 rfl (by decide) rfl (by decide) rfl q286 (Or.inl rfl) ht1 dX3_before_13 ?_ hok
    intro hok
    refine g_aldn0 hE1 dX3_before_16 ?_
    refine gx_getr hE in_X3 (t := 7) rfl (by decide) 5 5 rfl (by decide) rfl (by decide) rfl q294 (Or.inl rfl) ht1 dX3_before_17 ?_ hok
    intro hok
    refine g_ildn3 hE1 dX3_before_20 ?_
    obtain ⟨b2, hb3, hw⟩ := hw
    rw [hb3]
    obtain ⟨ht4, hw⟩ := hw
    obtain ⟨h5, h6, hw⟩ := hw
    refine gx_iald hE ht4 h5 h6 dX3_before_21 ?_ hok
    intro hok
    obtain ⟨b7, hb8, hw⟩ := hw
    rw [hb8]
    obtain ⟨ht9, hw⟩ := hw
    obtain ⟨h10, h11, hw⟩ := hw
    refine gx_aald hE ht9 (by decide) h10 h11 dX3_before_22 ?_ hok
    intro hok
    obtain ⟨b12, hb13, hw⟩ := hw
    rw [hb13]
    obtain ⟨ht14, hw⟩ := hw
    refine gx_getiN hE in_X6 (t := 12) rfl (by decide) 0 0 rfl (by decide) rfl (by decide) rfl q992 (Or.inl rfl) ht14 dX3_before_23 ?_ hok
    intro hok
    refine g_ildn1 hE1 dX3_before_26 ?_
    refine jn1_walk (fun (y0_40 : Int) => GX E X T I R L 0 0 40 [some (aR (some o)), some (aI x1), some (aI x2_4), some (aI x3_4)] [aI y0_40]) hw (fun y0_40 hw => ?_) (fun J_40 hj_40 hw => ?_)
    · intro hok
      refine g_istn2 hE1 dX3_before_40 (by decide) rfl ?_
      refine g_iinc3 hE1 dX3_before_41 (by decide) rfl ?_
      refine g_goto hE1 (tgt := 4) dX3_before_44 (by decide) ?_
      exact hk_4 _ _ hw hok
    · skip
      obtain ⟨h20, h21, hT22, hN23⟩ := hw
      refine g_icmp_gt hE1 (tgt := 39) dX3_before_27 (by decide) h21 h20 (fun q => ?_) (fun q => ?_)
      · have hw := hT22 q
        refine g_ildn2 hE1 dX3_before_39 ?_
        exact hj_40 _ hw hok
      · have hw := hN23 q
        refine g_aldn0 hE1 dX3_before_30 ?_
        refine gx_getr hE in_X3 (t := 7) rfl (by decide) 5 5 rfl (by decide) rfl (by decide) rfl q294 (Or.inl rfl) ht1 dX3_before_31 ?_ hok
        intro hok
        refine g_ildn3 hE1 dX3_before_34 ?_
        obtain ⟨b15, hb16, hw⟩ := hw
        rw [hb16]
        obtain ⟨ht17, hw⟩ := hw
        obtain ⟨h18, h19, hw⟩ := hw
        refine gx_iald hE ht17 h18 h19 dX3_before_35 ?_ hok
        intro hok
        refine g_goto hE1 (tgt := 40) dX3_before_36 (by decide) ?_
        exact hj_40 _ hw hok
  · have hw := hN27 q
    refine g_ildn2 hE1 dX3_before_47 ?_
    exact gx_iret hE hR dX3_before_48 (by decide) (by decide) rfl ⟨_, rfl, rfl, rfl, rfl, rfl, hw⟩ hok

/-- WhalingLogs$Listing.isNear(III)Z -/
def wx_X3_isNear (X : XT) (o : Nat) (x1 : Int) (x2 : Int) (x3 : Int) (T : xT) (I : xI) (R : xR) (L : xL) (Q : Int → Prop) : Prop :=
  jn1 (fun (y0_47 : Int) => 
      bl y0_47 ∧ Q y0_47)
    (fun (J_47 : Int → Prop) =>
    jn0 (
        J_47 1)
      (fun (J_42 : Prop) =>
      cEq x1 (-1)
        (
        J_42)
        (
        xtag T o = 7 ∧
        ∃ b3 : Nat, R o 3 = some b3 ∧ xtag T b3 = 100 ∧ ib ((192 * x1) + x3) (xlen T b3) ∧ xlen T b3 < 2147483648 ∧
        ∃ b8 : Nat, R o 6 = some b8 ∧ xtag T b8 = 2 ∧
        ∃ b11 : Nat, R o 0 = some b11 ∧ xtag T b11 = 104 ∧ ib x1 (xlen T b11) ∧ xlen T b11 < 2147483648 ∧
        ∃ b16 : Nat, R b11 x1 = some b16 ∧ xtag T b16 = 12 ∧
        ((-2147483648 : Int) < ((I b16 0) - x2) ∧ (((I b16 0) - x2) : Int) < 2147483648) ∧
        cLt ((I b8 4) * (if 0 ≤ ((I b16 0) - x2) then ((I b16 0) - x2) else -((I b16 0) - x2))) (I b3 ((192 * x1) + x3))
          (
          J_47 0)
          (
          J_42))))
theorem hx_X3_isNear : yX3_isNear.cls = RX3 ∧ yX3_isNear.cls ≠ "java/lang/invoke/MethodHandle" ∧ yX3_isNear.cls ≠ "java/lang/invoke/VarHandle" ∧ (parseMethodDescriptor yX3_isNear.desc).map (fun d => d.parameters.length) = some 3 := by decide +kernel
set_option maxHeartbeats 4000000 in
theorem tx_X3_isNear (X : XT) {o : Nat} {x1 : Int} {x2 : Int} {x3 : Int} {T : xT} {I : xI} {R : xR} {L : xL} {Q : Int → Prop} (hw : wx_X3_isNear X o x1 x2 x3 T I R L Q) : CtX X yX3_isNear cX3_isNear 4 (some .boolean) (rmX 1 0 0 64) [aR (some o), aI x1, aI x2, aI x3] T I R L (PXi T I R L Q) := by
  refine CtX.intro (by decide) (Nat.le_of_ble_eq_true rfl) (fun E hE hR hN => ?_)
  have hRm := hR.rm
  have hE : OkX E X RX3 cX3_isNear 4 (some .boolean) := hE
  have hE1 := hE.1
  show GX E X T I R L 0 0 0 [some (aR (some o)), some (aI x1), some (aI x2), some (aI x3)] []
  unfold wx_X3_isNear at hw
  intro hok
  refine g_ildn1 hE1 dX3_isNear_0 ?_
  refine g_iconst hE1 dX3_isNear_1 ?_
  refine jn1_walk (fun (y0_47 : Int) => GX E X T I R L 0 0 47 [some (aR (some o)), some (aI x1), some (aI x2), some (aI x3)] [aI y0_47]) hw (fun y0_47 hw => ?_) (fun J_47 hj_47 hw => ?_)
  · intro hok
    obtain ⟨h1, hw⟩ := hw
    exact gx_iret hE hR dX3_isNear_47 (by decide) (by decide) (narrow_bl h1) ⟨_, rfl, rfl, rfl, rfl, rfl, hw⟩ hok
  · skip
    refine jn0_walk (GX E X T I R L 0 0 42 [some (aR (some o)), some (aI x1), some (aI x2), some (aI x3)] []) hw (fun  hw => ?_) (fun J_42 hj_42 hw => ?_)
    · intro hok
      refine g_iconst hE1 dX3_isNear_42 ?_
      refine g_goto hE1 (tgt := 47) dX3_isNear_43 (by decide) ?_
      exact hj_47 _ hw hok
    · skip
      obtain ⟨h24, h25, hT26, hN27⟩ := hw
      refine g_icmp_eq hE1 (tgt := 42) dX3_isNear_2 (by decide) h24 h25 (fun q => ?_) (fun q => ?_)
      · have hw := hT26 q
        exact hj_42  hw hok
      · have hw := hN27 q
        refine g_aldn0 hE1 dX3_isNear_5 ?_
        obtain ⟨ht2, hw⟩ := hw
        refine gx_getr hE in_X3 (t := 7) rfl (by decide) 3 3 rfl (by decide) rfl (by decide) rfl q292 (Or.inl rfl) ht2 dX3_isNear_6 ?_ hok
        intro hok
        refine g_sipush hE1 dX3_isNear_9 (by decide) ?_
        refine g_ildn1 hE1 dX3_isNear_12 ?_
        refine g_imul hE1 dX3_isNear_13 ?_
        refine g_ildn3 hE1 dX3_isNear_14 ?_
        refine g_iadd hE1 dX3_isNear_15 ?_
        obtain ⟨b3, hb4, hw⟩ := hw
        rw [hb4]
        obtain ⟨ht5, hw⟩ := hw
        obtain ⟨h6, h7, hw⟩ := hw
        refine gx_iald hE ht5 h6 h7 dX3_isNear_16 ?_ hok
        intro hok
        refine g_aldn0 hE1 dX3_isNear_17 ?_
        refine gx_getr hE in_X3 (t := 7) rfl (by decide) 6 6 rfl (by decide) rfl (by decide) rfl q296 (Or.inl rfl) ht2 dX3_isNear_18 ?_ hok
        intro hok
        obtain ⟨b8, hb9, hw⟩ := hw
        rw [hb9]
        obtain ⟨ht10, hw⟩ := hw
        refine gx_getiN hE in_X1 (t := 2) rfl (by decide) 4 4 rfl (by decide) rfl (by decide) rfl q232 (Or.inl rfl) ht10 dX3_isNear_21 ?_ hok
        intro hok
        refine g_aldn0 hE1 dX3_isNear_24 ?_
        refine gx_getr hE in_X3 (t := 7) rfl (by decide) 0 0 rfl (by decide) rfl (by decide) rfl q286 (Or.inl rfl) ht2 dX3_isNear_25 ?_ hok
        intro hok
        refine g_ildn1 hE1 dX3_isNear_28 ?_
        obtain ⟨b11, hb12, hw⟩ := hw
        rw [hb12]
        obtain ⟨ht13, hw⟩ := hw
        obtain ⟨h14, h15, hw⟩ := hw
        refine gx_aald hE ht13 (by decide) h14 h15 dX3_isNear_29 ?_ hok
        intro hok
        obtain ⟨b16, hb17, hw⟩ := hw
        rw [hb17]
        obtain ⟨ht18, hw⟩ := hw
        refine gx_getiN hE in_X6 (t := 12) rfl (by decide) 0 0 rfl (by decide) rfl (by decide) rfl q992 (Or.inl rfl) ht18 dX3_isNear_30 ?_ hok
        intro hok
        refine g_ildn2 hE1 dX3_isNear_33 ?_
        refine g_isub hE1 dX3_isNear_34 ?_
        obtain ⟨h19, hw⟩ := hw
        refine gx_abs hE hRm h19 q1439 q1326 q109 q1327 (by decide) (by decide) (by decide) (by decide) (Nat.le_of_ble_eq_true rfl) dX3_isNear_35 ?_ hok
        intro hok
        refine g_imul hE1 dX3_isNear_38 ?_
        obtain ⟨h20, h21, hT22, hN23⟩ := hw
        refine g_icmp_gt hE1 (tgt := 46) dX3_isNear_39 (by decide) h21 h20 (fun q => ?_) (fun q => ?_)
        · have hw := hT22 q
          refine g_iconst hE1 dX3_isNear_46 ?_
          exact hj_47 _ hw hok
        · have hw := hN23 q
          exact hj_42  hw hok

/-- WhalingLogs$Listing.behind(I)I -/
def wx_X3_behind (X : XT) (o : Nat) (x1 : Int) (T : xT) (I : xI) (R : xR) (L : xL) (Q : Int → Prop) : Prop :=
  xtag T o = 7 ∧
  lq2 (fun (x2_9 : Int) (x3_9 : Int) (K_9 : Int → Int → Prop) =>
    cLt x3_9 0
      (
      Q x2_9)
      (
      ∃ b2 : Nat, R o 5 = some b2 ∧ xtag T b2 = 100 ∧ ib x3_9 (xlen T b2) ∧ xlen T b2 < 2147483648 ∧
      ∃ b7 : Nat, R o 0 = some b7 ∧ xtag T b7 = 104 ∧ ib (I b2 x3_9) (xlen T b7) ∧ xlen T b7 < 2147483648 ∧
      ∃ b12 : Nat, R b7 (I b2 x3_9) = some b12 ∧ xtag T b12 = 12 ∧
      jn1 (fun (y0_41 : Int) => 
          K_9 y0_41 (x3_9 + (-1)))
        (fun (J_41 : Int → Prop) =>
        cLt (I b12 0) x1
          (
          J_41 x2_9)
          (
          ∃ b15 : Nat, R o 5 = some b15 ∧ xtag T b15 = 100 ∧ ib x3_9 (xlen T b15) ∧ xlen T b15 < 2147483648 ∧
          J_41 (I b15 x3_9))))) (-1) ((I o 8) - 1)
theorem hx_X3_behind : yX3_behind.cls = RX3 ∧ yX3_behind.cls ≠ "java/lang/invoke/MethodHandle" ∧ yX3_behind.cls ≠ "java/lang/invoke/VarHandle" ∧ (parseMethodDescriptor yX3_behind.desc).map (fun d => d.parameters.length) = some 1 := by decide +kernel
set_option maxHeartbeats 4000000 in
theorem tx_X3_behind (X : XT) {o : Nat} {x1 : Int} {T : xT} {I : xI} {R : xR} {L : xL} {Q : Int → Prop} (hw : wx_X3_behind X o x1 T I R L Q) : CtX X yX3_behind cX3_behind 4 (some .int) (rmX 0 0 0 0) [aR (some o), aI x1] T I R L (PXi T I R L Q) := by
  refine CtX.intro (by decide) (Nat.le_of_ble_eq_true rfl) (fun E hE hR hN => ?_)
  have hRm := hR.rm
  have hE : OkX E X RX3 cX3_behind 4 (some .int) := hE
  have hE1 := hE.1
  show GX E X T I R L 0 0 0 [some (aR (some o)), some (aI x1), none, none] []
  unfold wx_X3_behind at hw
  intro hok
  refine g_iconst hE1 dX3_behind_0 ?_
  refine g_istn2 hE1 dX3_behind_1 (by decide) rfl ?_
  refine g_aldn0 hE1 dX3_behind_2 ?_
  obtain ⟨ht1, hw⟩ := hw
  refine gx_geti hE in_X3 (t := 7) rfl (by decide) 8 8 rfl (by decide) rfl (by decide) rfl q299 (Or.inl rfl) ht1 dX3_behind_3 ?_ hok
  intro hok
  refine g_iconst hE1 dX3_behind_6 ?_
  refine g_isub hE1 dX3_behind_7 ?_
  refine g_istn3 hE1 dX3_behind_8 (by decide) rfl ?_
  refine lq2_walk (fun (x2_9 : Int) (x3_9 : Int) => GX E X T I R L 0 0 9 [some (aR (some o)), some (aI x1), some (aI x2_9), some (aI x3_9)] []) (fun K_9 hk_9 x2_9 x3_9 hw => ?_) _ _ hw hok
  intro hok
  refine g_ildn3 hE1 dX3_behind_9 ?_
  obtain ⟨h24, h25, hT26, hN27⟩ := hw
  refine g_if_lt hE1 (tgt := 48) dX3_behind_10 (by decide) h24 (fun q => ?_) (fun q => ?_)
  · have hw := hT26 q
    refine g_ildn2 hE1 dX3_behind_48 ?_
    exact gx_iret hE hR dX3_behind_49 (by decide) (by decide) rfl ⟨_, rfl, rfl, rfl, rfl, rfl, hw⟩ hok
  · have hw := hN27 q
    refine g_aldn0 hE1 dX3_behind_13 ?_
    refine gx_getr hE in_X3 (t := 7) rfl (by decide) 0 0 rfl (by decide) rfl (by decide) rfl q286 (Or.inl rfl) ht1 dX3_behind_14 ?_ hok
    intro hok
    refine g_aldn0 hE1 dX3_behind_17 ?_
    refine gx_getr hE in_X3 (t := 7) rfl (by decide) 5 5 rfl (by decide) rfl (by decide) rfl q294 (Or.inl rfl) ht1 dX3_behind_18 ?_ hok
    intro hok
    refine g_ildn3 hE1 dX3_behind_21 ?_
    obtain ⟨b2, hb3, hw⟩ := hw
    rw [hb3]
    obtain ⟨ht4, hw⟩ := hw
    obtain ⟨h5, h6, hw⟩ := hw
    refine gx_iald hE ht4 h5 h6 dX3_behind_22 ?_ hok
    intro hok
    obtain ⟨b7, hb8, hw⟩ := hw
    rw [hb8]
    obtain ⟨ht9, hw⟩ := hw
    obtain ⟨h10, h11, hw⟩ := hw
    refine gx_aald hE ht9 (by decide) h10 h11 dX3_behind_23 ?_ hok
    intro hok
    obtain ⟨b12, hb13, hw⟩ := hw
    rw [hb13]
    obtain ⟨ht14, hw⟩ := hw
    refine gx_getiN hE in_X6 (t := 12) rfl (by decide) 0 0 rfl (by decide) rfl (by decide) rfl q992 (Or.inl rfl) ht14 dX3_behind_24 ?_ hok
    intro hok
    refine g_ildn1 hE1 dX3_behind_27 ?_
    refine jn1_walk (fun (y0_41 : Int) => GX E X T I R L 0 0 41 [some (aR (some o)), some (aI x1), some (aI x2_9), some (aI x3_9)] [aI y0_41]) hw (fun y0_41 hw => ?_) (fun J_41 hj_41 hw => ?_)
    · intro hok
      refine g_istn2 hE1 dX3_behind_41 (by decide) rfl ?_
      refine g_iinc3 hE1 dX3_behind_42 (by decide) rfl ?_
      refine g_goto hE1 (tgt := 9) dX3_behind_45 (by decide) ?_
      exact hk_9 _ _ hw hok
    · skip
      obtain ⟨h20, h21, hT22, hN23⟩ := hw
      refine g_icmp_lt hE1 (tgt := 40) dX3_behind_28 (by decide) h20 h21 (fun q => ?_) (fun q => ?_)
      · have hw := hT22 q
        refine g_ildn2 hE1 dX3_behind_40 ?_
        exact hj_41 _ hw hok
      · have hw := hN23 q
        refine g_aldn0 hE1 dX3_behind_31 ?_
        refine gx_getr hE in_X3 (t := 7) rfl (by decide) 5 5 rfl (by decide) rfl (by decide) rfl q294 (Or.inl rfl) ht1 dX3_behind_32 ?_ hok
        intro hok
        refine g_ildn3 hE1 dX3_behind_35 ?_
        obtain ⟨b15, hb16, hw⟩ := hw
        rw [hb16]
        obtain ⟨ht17, hw⟩ := hw
        obtain ⟨h18, h19, hw⟩ := hw
        refine gx_iald hE ht17 h18 h19 dX3_behind_36 ?_ hok
        intro hok
        refine g_goto hE1 (tgt := 41) dX3_behind_37 (by decide) ?_
        exact hj_41 _ hw hok

