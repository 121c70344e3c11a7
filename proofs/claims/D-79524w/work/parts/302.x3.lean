set_option maxRecDepth 100000
/-- WhalingLogs$Listing.at(I)I -/
def wx_X3_at (X : XT) (o : Nat) (x1 : Int) (T : xT) (I : xI) (R : xR) (L : xL) (Q : Int → Prop) : Prop :=
  lq1 (fun (x2_2 : Int) (K_2 : Int → Prop) =>
    xtag T o = 7 ∧
    cLt x2_2 (I o 7)
      (
      ∃ b2 : Nat, R o 0 = some b2 ∧ xtag T b2 = 104 ∧ ib x2_2 (xlen T b2) ∧ xlen T b2 < 2147483648 ∧
      ∃ b7 : Nat, R b2 x2_2 = some b7 ∧ xtag T b7 = 12 ∧
      cEq (I b7 1) x1
        (
        Q x2_2)
        (
        K_2 (x2_2 + 1)))
      (
      Q (-1))) 0
theorem hx_X3_at : yX3_at.cls = RX3 ∧ yX3_at.cls ≠ "java/lang/invoke/MethodHandle" ∧ yX3_at.cls ≠ "java/lang/invoke/VarHandle" ∧ (parseMethodDescriptor yX3_at.desc).map (fun d => d.parameters.length) = some 1 := by decide +kernel
set_option maxHeartbeats 4000000 in
theorem tx_X3_at (X : XT) {o : Nat} {x1 : Int} {T : xT} {I : xI} {R : xR} {L : xL} {Q : Int → Prop} (hw : wx_X3_at X o x1 T I R L Q) : CtX X yX3_at cX3_at 3 (some .int) (rmX 0 0 0 0) [aR (some o), aI x1] T I R L (PXi T I R L Q) := by
  refine CtX.intro (by decide) (Nat.le_of_ble_eq_true rfl) (fun E hE hR hN => ?_)
  have hRm := hR.rm
  have hE : OkX E X RX3 cX3_at 3 (some .int) := hE
  have hE1 := hE.1
  show GX E X T I R L 0 0 0 [some (aR (some o)), some (aI x1), none] []
  unfold wx_X3_at at hw
  intro hok
  refine g_iconst hE1 dX3_at_0 ?_
  refine g_istn2 hE1 dX3_at_1 (by decide) rfl ?_
  refine lq1_walk (fun (x2_2 : Int) => GX E X T I R L 0 0 2 [some (aR (some o)), some (aI x1), some (aI x2_2)] []) (fun K_2 hk_2 x2_2 hw => ?_) _ hw hok
  intro hok
  refine g_ildn2 hE1 dX3_at_2 ?_
  refine g_aldn0 hE1 dX3_at_3 ?_
  obtain ⟨ht1, hw⟩ := hw
  refine gx_geti hE in_X3 (t := 7) rfl (by decide) 7 7 rfl (by decide) rfl (by decide) rfl q297 (Or.inl rfl) ht1 dX3_at_4 ?_ hok
  intro hok
  obtain ⟨h14, h15, hT16, hN17⟩ := hw
  refine g_icmp_ge hE1 (tgt := 31) dX3_at_7 (by decide) h14 h15 (fun q => ?_) (fun q => ?_)
  · have hw := hT16 q
    refine g_aldn0 hE1 dX3_at_10 ?_
    refine gx_getr hE in_X3 (t := 7) rfl (by decide) 0 0 rfl (by decide) rfl (by decide) rfl q286 (Or.inl rfl) ht1 dX3_at_11 ?_ hok
    intro hok
    refine g_ildn2 hE1 dX3_at_14 ?_
    obtain ⟨b2, hb3, hw⟩ := hw
    rw [hb3]
    obtain ⟨ht4, hw⟩ := hw
    obtain ⟨h5, h6, hw⟩ := hw
    refine gx_aald hE ht4 (by decide) h5 h6 dX3_at_15 ?_ hok
    intro hok
    obtain ⟨b7, hb8, hw⟩ := hw
    rw [hb8]
    obtain ⟨ht9, hw⟩ := hw
    refine gx_getiN hE in_X6 (t := 12) rfl (by decide) 1 1 rfl (by decide) rfl (by decide) rfl q995 (Or.inl rfl) ht9 dX3_at_16 ?_ hok
    intro hok
    refine g_ildn1 hE1 dX3_at_19 ?_
    obtain ⟨h10, h11, hT12, hN13⟩ := hw
    refine g_icmp_ne hE1 (tgt := 25) dX3_at_20 (by decide) h10 h11 (fun q => ?_) (fun q => ?_)
    · have hw := hT12 q
      refine g_ildn2 hE1 dX3_at_23 ?_
      exact gx_iret hE hR dX3_at_24 (by decide) (by decide) rfl ⟨_, rfl, rfl, rfl, rfl, rfl, hw⟩ hok
    · have hw := hN13 q
      refine g_iinc2 hE1 dX3_at_25 (by decide) rfl ?_
      refine g_goto hE1 (tgt := 2) dX3_at_28 (by decide) ?_
      exact hk_2 _ hw hok
  · have hw := hN17 q
    refine g_iconst hE1 dX3_at_31 ?_
    exact gx_iret hE hR dX3_at_32 (by decide) (by decide) rfl ⟨_, rfl, rfl, rfl, rfl, rfl, hw⟩ hok

/-- java/lang/Throwable.<init>(Ljava/lang/String;Ljava/lang/Throwable;ZZ)V -/
def wx_J18_init_3_X7 (X : XT) (o : Nat) (x1 : Option Nat) (x2 : Option Nat) (x3 : Int) (x4 : Int) (T : xT) (I : xI) (R : xR) (L : xL) (Q : xR → Prop) : Prop :=
  xtag T o = 14 ∧ ∀ R2 : xR, R2 = uR R o 0 (some o) →
  ∀ R3 : xR, R3 = uR R2 o 1 (srX X 0) →
  ∀ R4 : xR, R4 = uR R3 o 2 (srX X 1) →
  cEq x4 0
    (
    ∀ R5 : xR, R5 = uR R4 o 1 none →
    ∀ R6 : xR, R6 = uR R5 o 3 x1 →
    ∀ R7 : xR, R7 = uR R6 o 0 x2 →
    jn1 (fun (R_60 : xR) => 
        Q R_60)
      (fun (J_60 : xR → Prop) =>
      cEq x3 0
        (
        ∀ R8 : xR, R8 = uR R7 o 2 none →
        J_60 R8)
        (
        J_60 R7)))
    (
    False)
theorem hx_J18_init_3_X7 : yJ18_init_3.cls ≠ "java/lang/invoke/MethodHandle" ∧ yJ18_init_3.cls ≠ "java/lang/invoke/VarHandle" ∧ (parseMethodDescriptor yJ18_init_3.desc).map (fun d => d.parameters.length) = some 4 := by decide +kernel
set_option maxHeartbeats 4000000 in
theorem tx_J18_init_3_X7 (X : XT) {o : Nat} {x1 : Option Nat} {x2 : Option Nat} {x3 : Int} {x4 : Int} {T : xT} {I : xI} {R : xR} {L : xL} {Q : xR → Prop} (hw : wx_J18_init_3_X7 X o x1 x2 x3 x4 T I R L Q) : CtX X yJ18_init_3 cJ18_init_3 5 none (rmX 1 0 0 20) [aR (some o), aR x1, aR x2, aI x3, aI x4] T I R L (PXvR T I R L Q) := by
  refine CtX.intro (by decide) (Nat.le_of_ble_eq_true rfl) (fun E hE hR hN => ?_)
  have hRm := hR.rm
  have hE : OkX E X RJ18 cJ18_init_3 5 none := hE
  have hE1 := hE.1
  have hI : isInit E := hN
  show GX E X T I R L 0 0 0 [some (aR (some o)), some (aR x1), some (aR x2), some (aI x3), some (aI x4)] []
  unfold wx_J18_init_3_X7 at hw
  intro hok
  refine g_aldn0 hE1 dJ18_init_3_0 ?_
  refine gx_objInit hE hRm rfl q632 q151 q152 (by decide) (by decide) (Nat.le_of_ble_eq_true rfl) dJ18_init_3_1 ?_ hok
  intro hok
  refine g_aldn0 hE1 dJ18_init_3_4 ?_
  refine g_aldn0 hE1 dJ18_init_3_5 ?_
  obtain ⟨ht1, hw⟩ := hw
  refine gx_putr hE in_X7 (t := 14) rfl (by decide) 0 0 rfl (by decide) rfl (by decide) (ty := tyX7 0) tyX7 tyX7_ok nmX7 rfl q892 (Or.inl rfl) rfl (tyX7_ok 0 (by decide)) nar_o fit_o ht1 dJ18_init_3_6 ?_ hok
  intro hok
  have hw := hw _ rfl
  generalize uR R o 0 (some o) = R2 at hw hok ⊢
  refine g_aldn0 hE1 dJ18_init_3_9 ?_
  refine gx_gets_r hE (List.mem_of_getElem? (i := 2) rfl : ("java/lang/Throwable", "UNASSIGNED_STACK", "[Ljava/lang/StackTraceElement;", Sum.inr (0 : Nat)) ∈ stL) q633 dJ18_init_3_10 ?_ hok
  intro hok
  refine gx_putr hE in_X7 (t := 14) rfl (by decide) 1 1 rfl (by decide) rfl (by decide) (ty := tyX7 1) tyX7 tyX7_ok nmX7 rfl q893 (Or.inl rfl) rfl (tyX7_ok 1 (by decide)) nar_a fit_a ht1 dJ18_init_3_13 ?_ hok
  intro hok
  have hw := hw _ rfl
  generalize uR R2 o 1 (srX X 0) = R3 at hw hok ⊢
  refine g_aldn0 hE1 dJ18_init_3_16 ?_
  refine gx_gets_r hE (List.mem_of_getElem? (i := 3) rfl : ("java/lang/Throwable", "SUPPRESSED_SENTINEL", "Ljava/util/List;", Sum.inr (1 : Nat)) ∈ stL) q635 dJ18_init_3_17 ?_ hok
  intro hok
  refine gx_putr hE in_X7 (t := 14) rfl (by decide) 2 2 rfl (by decide) rfl (by decide) (ty := tyX7 2) tyX7 tyX7_ok nmX7 rfl q894 (Or.inl rfl) rfl (tyX7_ok 2 (by decide)) nar_o fit_o ht1 dJ18_init_3_20 ?_ hok
  intro hok
  have hw := hw _ rfl
  generalize uR R3 o 2 (srX X 1) = R4 at hw hok ⊢
  refine g_ild4 hE1 dJ18_init_3_23 ?_
  obtain ⟨h13, h14, hT15, hN16⟩ := hw
  refine g_if_eq hE1 (tgt := 36) dJ18_init_3_25 (by decide) h13 (fun q => ?_) (fun q => ?_)
  · have hw := hT15 q
    refine g_aldn0 hE1 dJ18_init_3_36 ?_
    refine g_null hE1 dJ18_init_3_37 ?_
    refine gx_putr hE in_X7 (t := 14) rfl (by decide) 1 1 rfl (by decide) rfl (by decide) (ty := tyX7 1) tyX7 tyX7_ok nmX7 rfl q893 (Or.inl rfl) rfl (tyX7_ok 1 (by decide)) nar_a fit_a ht1 dJ18_init_3_38 ?_ hok
    intro hok
    have hw := hw _ rfl
    generalize uR R4 o 1 none = R5 at hw hok ⊢
    refine g_aldn0 hE1 dJ18_init_3_41 ?_
    refine g_aldn1 hE1 dJ18_init_3_42 ?_
    refine gx_putr hE in_X7 (t := 14) rfl (by decide) 3 3 rfl (by decide) rfl (by decide) (ty := tyX7 3) tyX7 tyX7_ok nmX7 rfl q891 (Or.inl rfl) rfl (tyX7_ok 3 (by decide)) nar_o fit_o ht1 dJ18_init_3_43 ?_ hok
    intro hok
    have hw := hw _ rfl
    generalize uR R5 o 3 x1 = R6 at hw hok ⊢
    refine g_aldn0 hE1 dJ18_init_3_46 ?_
    refine g_aldn2 hE1 dJ18_init_3_47 ?_
    refine gx_putr hE in_X7 (t := 14) rfl (by decide) 0 0 rfl (by decide) rfl (by decide) (ty := tyX7 0) tyX7 tyX7_ok nmX7 rfl q892 (Or.inl rfl) rfl (tyX7_ok 0 (by decide)) nar_o fit_o ht1 dJ18_init_3_48 ?_ hok
    intro hok
    have hw := hw _ rfl
    generalize uR R6 o 0 x2 = R7 at hw hok ⊢
    refine g_ildn3 hE1 dJ18_init_3_51 ?_
    refine jn1_walk (fun (R_60 : xR) => GX E X T I R_60 L 0 0 60 [some (aR (some o)), some (aR x1), some (aR x2), some (aI x3), some (aI x4)] []) hw (fun R_60 hw => ?_) (fun J_60 hj_60 hw => ?_)
    · intro hok
      exact gx_vret hE hR dJ18_init_3_60 (by decide) (by decide) ⟨rfl, rfl, rfl, rfl, hw⟩ hok
    · skip
      obtain ⟨h9, h10, hT11, hN12⟩ := hw
      refine g_if_ne hE1 (tgt := 60) dJ18_init_3_52 (by decide) h9 (fun q => ?_) (fun q => ?_)
      · have hw := hT11 q
        refine g_aldn0 hE1 dJ18_init_3_55 ?_
        refine g_null hE1 dJ18_init_3_56 ?_
        refine gx_putr hE in_X7 (t := 14) rfl (by decide) 2 2 rfl (by decide) rfl (by decide) (ty := tyX7 2) tyX7 tyX7_ok nmX7 rfl q894 (Or.inl rfl) rfl (tyX7_ok 2 (by decide)) nar_o fit_o ht1 dJ18_init_3_57 ?_ hok
        intro hok
        have hw := hw _ rfl
        generalize uR R7 o 2 none = R8 at hw hok ⊢
        exact hj_60 _ hw hok
      · have hw := hN12 q
        exact hj_60 _ hw hok
  · have hw := hN16 q
    refine g_aldn0 hE1 dJ18_init_3_28 ?_
    exact hw.elim

/-- java/lang/Exception.<init>(Ljava/lang/String;Ljava/lang/Throwable;ZZ)V -/
def wx_J19_init_2_X7 (X : XT) (o : Nat) (x1 : Option Nat) (x2 : Option Nat) (x3 : Int) (x4 : Int) (T : xT) (I : xI) (R : xR) (L : xL) (Q : xR → Prop) : Prop :=
  wx_J18_init_3_X7 X o x1 x2 x3 x4 T I R L (fun (R1 : xR) => 
  Q R1)
theorem hx_J19_init_2_X7 : yJ19_init_2.cls ≠ "java/lang/invoke/MethodHandle" ∧ yJ19_init_2.cls ≠ "java/lang/invoke/VarHandle" ∧ (parseMethodDescriptor yJ19_init_2.desc).map (fun d => d.parameters.length) = some 4 := by decide +kernel
set_option maxHeartbeats 4000000 in
theorem tx_J19_init_2_X7 (X : XT) {o : Nat} {x1 : Option Nat} {x2 : Option Nat} {x3 : Int} {x4 : Int} {T : xT} {I : xI} {R : xR} {L : xL} {Q : xR → Prop} (hw : wx_J19_init_2_X7 X o x1 x2 x3 x4 T I R L Q) : CtX X yJ19_init_2 cJ19_init_2 5 none (rmX 2 0 0 44) [aR (some o), aR x1, aR x2, aI x3, aI x4] T I R L (PXvR T I R L Q) := by
  refine CtX.intro (by decide) (Nat.le_of_ble_eq_true rfl) (fun E hE hR hN => ?_)
  have hRm := hR.rm
  have hE : OkX E X RJ19 cJ19_init_2 5 none := hE
  have hE1 := hE.1
  have hI : isInit E := hN
  show GX E X T I R L 0 0 0 [some (aR (some o)), some (aR x1), some (aR x2), some (aI x3), some (aI x4)] []
  unfold wx_J19_init_2_X7 at hw
  intro hok
  refine g_aldn0 hE1 dJ19_init_2_0 ?_
  refine g_aldn1 hE1 dJ19_init_2_1 ?_
  refine g_aldn2 hE1 dJ19_init_2_2 ?_
  refine g_ildn3 hE1 dJ19_init_2_3 ?_
  refine g_ild4 hE1 dJ19_init_2_4 ?_
  refine gx_callI hE hRm (As := [aR x1, aR x2, aI x3, aI x4]) (b := o) hx_J18_init_3_X7 (lw_meth q1121) q1119 q119 q1120 rfl (tx_J18_init_3_X7 X hw) ⟨by decide, by decide⟩ ⟨(by decide), (by decide)⟩ rfl (Nat.le_of_ble_eq_true rfl) dJ19_init_2_6 rfl (fun r9 Tz Iz R1 Lz hΦ => ?_) hok
  obtain ⟨rfl, rfl, rfl, rfl, hw⟩ := hΦ
  show GX E X T I R1 L 0 0 9 [some (aR (some o)), some (aR x1), some (aR x2), some (aI x3), some (aI x4)] []
  intro hok
  exact gx_vret hE hR dJ19_init_2_9 (by decide) (by decide) ⟨rfl, rfl, rfl, rfl, hw⟩ hok

/-- WhalingLogs$Refused.<init>(II)V -/
def wx_X7_init (X : XT) (o : Nat) (x1 : Int) (x2 : Int) (T : xT) (I : xI) (R : xR) (L : xL) (Q : xI → xR → Prop) : Prop :=
  wx_J19_init_2_X7 X o none none 0 0 T I R L (fun (R1 : xR) => 
  xtag T o = 14 ∧ ∀ I4 : xI, I4 = uI I o 6 x1 →
  ∀ I5 : xI, I5 = uI I4 o 7 x2 →
  Q I5 R1)
theorem hx_X7_init : yX7_init.cls ≠ "java/lang/invoke/MethodHandle" ∧ yX7_init.cls ≠ "java/lang/invoke/VarHandle" ∧ (parseMethodDescriptor yX7_init.desc).map (fun d => d.parameters.length) = some 2 := by decide +kernel
set_option maxHeartbeats 4000000 in
theorem tx_X7_init (X : XT) {o : Nat} {x1 : Int} {x2 : Int} {T : xT} {I : xI} {R : xR} {L : xL} {Q : xI → xR → Prop} (hw : wx_X7_init X o x1 x2 T I R L Q) : CtX X yX7_init cX7_init 3 none (rmX 3 0 0 68) [aR (some o), aI x1, aI x2] T I R L (PXvIR T I R L Q) := by
  refine CtX.intro (by decide) (Nat.le_of_ble_eq_true rfl) (fun E hE hR hN => ?_)
  have hRm := hR.rm
  have hE : OkX E X RX7 cX7_init 3 none := hE
  have hE1 := hE.1
  have hI : isInit E := hN
  show GX E X T I R L 0 0 0 [some (aR (some o)), some (aI x1), some (aI x2)] []
  unfold wx_X7_init at hw
  intro hok
  refine g_aldn0 hE1 dX7_init_0 ?_
  refine g_null hE1 dX7_init_1 ?_
  refine g_null hE1 dX7_init_2 ?_
  refine g_iconst hE1 dX7_init_3 ?_
  refine g_iconst hE1 dX7_init_4 ?_
  refine gx_callI hE hRm (As := [aR none, aR none, aI 0, aI 0]) (b := o) hx_J19_init_2_X7 (lw_meth q1118) q1116 q120 q1117 rfl (tx_J19_init_2_X7 X hw) ⟨by decide, by decide⟩ ⟨(by decide), (by decide)⟩ rfl (Nat.le_of_ble_eq_true rfl) dX7_init_5 rfl (fun r9 Tz Iz R1 Lz hΦ => ?_) hok
  obtain ⟨rfl, rfl, rfl, rfl, hw⟩ := hΦ
  show GX E X T I R1 L 0 0 8 [some (aR (some o)), some (aI x1), some (aI x2)] []
  intro hok
  refine g_aldn0 hE1 dX7_init_8 ?_
  refine g_ildn1 hE1 dX7_init_9 ?_
  obtain ⟨ht3, hw⟩ := hw
  refine gx_putiF hE in_X7 (t := 14) rfl (by decide) 6 6 rfl (by decide) rfl (by decide) (ty := tyX7 6) tyX7 tyX7_ok nmX7 rfl q1122 (Or.inl rfl) rfl hI rfl (tyX7_ok 6 (by decide)) rfl rfl ht3 dX7_init_10 ?_ hok
  intro hok
  have hw := hw _ rfl
  generalize uI I o 6 x1 = I4 at hw hok ⊢
  refine g_aldn0 hE1 dX7_init_13 ?_
  refine g_ildn2 hE1 dX7_init_14 ?_
  refine gx_putiF hE in_X7 (t := 14) rfl (by decide) 7 7 rfl (by decide) rfl (by decide) (ty := tyX7 7) tyX7 tyX7_ok nmX7 rfl q1124 (Or.inl rfl) rfl hI rfl (tyX7_ok 7 (by decide)) rfl rfl ht3 dX7_init_15 ?_ hok
  intro hok
  have hw := hw _ rfl
  generalize uI I4 o 7 x2 = I5 at hw hok ⊢
  exact gx_vret hE hR dX7_init_18 (by decide) (by decide) ⟨rfl, rfl, rfl, hw⟩ hok

/-- WhalingLogs.refuse(ZII)V -/
def wx_X0_refuse (X : XT) (x0 : Int) (x1 : Int) (x2 : Int) (T : xT) (I : xI) (R : xR) (L : xL) (Q : xT → xI → xR → Prop) (Y : Nat → xT → xI → xR → Prop) : Prop :=
  cEq x0 0
    (
    Q T I R)
    (
    ∀ q1 : Nat, xtag T q1 = 0 → bsX X ≤ q1 → ∀ T4 : xT, T4 = xnew T q1 14 0 →
    wx_X7_init X q1 x1 x2 T4 I R L (fun (I7 : xI) (R8 : xR) => 
    Y q1 T4 I7 R8))
theorem hx_X0_refuse : yX0_refuse.cls ≠ "java/lang/invoke/MethodHandle" ∧ yX0_refuse.cls ≠ "java/lang/invoke/VarHandle" ∧ (parseMethodDescriptor yX0_refuse.desc).map (fun d => d.parameters.length) = some 3 := by decide +kernel
set_option maxHeartbeats 4000000 in
theorem tx_X0_refuse (X : XT) {x0 : Int} {x1 : Int} {x2 : Int} {T : xT} {I : xI} {R : xR} {L : xL} {Q : xT → xI → xR → Prop} {Y : Nat → xT → xI → xR → Prop} (hw : wx_X0_refuse X x0 x1 x2 T I R L Q Y) : CtY X yX0_refuse cX0_refuse 3 none (rmX 4 1 8 90) [aI x0, aI x1, aI x2] T I R L (PXvTIR T I R L Q) (PYTIR T I R L "WhalingLogs$Refused" 14 Y) := by
  refine CtY.intro (by decide) (Nat.le_of_ble_eq_true rfl) (fun E hE hR hY hN => ?_)
  have hRm := hR.rm
  have hE : OkX E X RX0 cX0_refuse 3 none := hE
  have hE1 := hE.1
  show GX E X T I R L 0 0 0 [some (aI x0), some (aI x1), some (aI x2)] []
  unfold wx_X0_refuse at hw
  intro hok
  refine g_ildn0 hE1 dX0_refuse_0 ?_
  obtain ⟨h10, h11, hT12, hN13⟩ := hw
  refine g_if_eq hE1 (tgt := 14) dX0_refuse_1 (by decide) h10 (fun q => ?_) (fun q => ?_)
  · have hw := hT12 q
    exact gx_vret hE hR dX0_refuse_14 (by decide) (by decide) ⟨rfl, rfl, tle.rf, hw⟩ hok
  · have hw := hN13 q
    refine gx_new hE hRm in_X7 tyX7 tyX7_ok (t := 14) rfl (by decide) (by decide) rfl (by decide) q388 q1105 q129 (by decide) (by decide) dX0_refuse_4 (fun q1 hq2 hbs3 => ?_) hok
    intro hok
    have hw := hw q1 hq2 hbs3 _ rfl
    have hl5 := tle.new (T := T) (q := q1) (t := 14) (n := 0) hq2
    have hT6 : xtag (xnew T q1 14 0) q1 = 14 := if_pos rfl
    generalize xnew T q1 14 0 = T4 at hw hl5 hok hT6 ⊢
    refine g_dup hE1 dX0_refuse_7 rfl ?_
    refine g_ildn1 hE1 dX0_refuse_8 ?_
    refine g_ildn2 hE1 dX0_refuse_9 ?_
    refine gx_callI hE hRm (As := [aI x1, aI x2]) (b := q1) hx_X7_init (lw_meth q1115) q1113 q129 q1114 rfl (tx_X7_init X hw) ⟨by decide, by decide⟩ ⟨(by decide), (by decide)⟩ rfl (Nat.le_of_ble_eq_true rfl) dX0_refuse_10 rfl (fun r9 Tz I7 R8 Lz hΦ => ?_) hok
    obtain ⟨rfl, rfl, rfl, hw⟩ := hΦ
    show GX E X T4 I7 R8 L 1 8 13 [some (aI x0), some (aI x1), some (aI x2)] [aR (some q1)]
    intro hok
    exact gx_athrow hE hT6 (by decide) (by decide) rfl dX0_refuse_13 (gx_out hE hY (by decide) (by decide) ⟨rfl, rfl, hl5, hT6, hw⟩) hok

/-- java/util/BitSet.expandTo(I)V -/
def wx_J0_expandTo (X : XT) (o : Nat) (x1 : Int) (T : xT) (I : xI) (R : xR) (L : xL) (Q : xI → Prop) : Prop :=
  xtag T o = 3 ∧
  jn1 (fun (I_22 : xI) => 
      Q I_22)
    (fun (J_22 : xI → Prop) =>
    cLt (I o 1) (x1 + 1)
      (
      wx_J0_ensureCapacity X o (x1 + 1) T I R L (
      ∀ I3 : xI, I3 = uI I o 1 (x1 + 1) →
      J_22 I3))
      (
      J_22 I))
theorem hx_J0_expandTo : yJ0_expandTo.cls = RJ0 ∧ yJ0_expandTo.cls ≠ "java/lang/invoke/MethodHandle" ∧ yJ0_expandTo.cls ≠ "java/lang/invoke/VarHandle" ∧ (parseMethodDescriptor yJ0_expandTo.desc).map (fun d => d.parameters.length) = some 1 := by decide +kernel
set_option maxHeartbeats 4000000 in
theorem tx_J0_expandTo (X : XT) {o : Nat} {x1 : Int} {T : xT} {I : xI} {R : xR} {L : xL} {Q : xI → Prop} (hw : wx_J0_expandTo X o x1 T I R L Q) : CtX X yJ0_expandTo cJ0_expandTo 3 none (rmX 2 0 0 86) [aR (some o), aI x1] T I R L (PXvI T I R L Q) := by
  refine CtX.intro (by decide) (Nat.le_of_ble_eq_true rfl) (fun E hE hR hN => ?_)
  have hRm := hR.rm
  have hE : OkX E X RJ0 cJ0_expandTo 3 none := hE
  have hE1 := hE.1
  show GX E X T I R L 0 0 0 [some (aR (some o)), some (aI x1), none] []
  unfold wx_J0_expandTo at hw
  intro hok
  refine g_ildn1 hE1 dJ0_expandTo_0 ?_
  refine g_iconst hE1 dJ0_expandTo_1 ?_
  refine g_iadd hE1 dJ0_expandTo_2 ?_
  refine g_istn2 hE1 dJ0_expandTo_3 (by decide) rfl ?_
  refine g_aldn0 hE1 dJ0_expandTo_4 ?_
  obtain ⟨ht1, hw⟩ := hw
  refine gx_geti hE in_J0 (t := 3) rfl (by decide) 1 1 rfl (by decide) rfl (by decide) rfl q173 (Or.inl rfl) ht1 dJ0_expandTo_5 ?_ hok
  intro hok
  refine g_ildn2 hE1 dJ0_expandTo_8 ?_
  refine jn1_walk (fun (I_22 : xI) => GX E X T I_22 R L 0 0 22 [some (aR (some o)), some (aI x1), some (aI (x1 + 1))] []) hw (fun I_22 hw => ?_) (fun J_22 hj_22 hw => ?_)
  · intro hok
    exact gx_vret hE hR dJ0_expandTo_22 (by decide) (by decide) ⟨rfl, rfl, rfl, rfl, hw⟩ hok
  · skip
    obtain ⟨h4, h5, hT6, hN7⟩ := hw
    refine g_icmp_ge hE1 (tgt := 22) dJ0_expandTo_9 (by decide) h4 h5 (fun q => ?_) (fun q => ?_)
    · have hw := hT6 q
      refine g_aldn0 hE1 dJ0_expandTo_12 ?_
      refine g_ildn2 hE1 dJ0_expandTo_13 ?_
      refine gx_callV hE hRm (As := [aI (x1 + 1)]) ht1 (by decide) (by decide) rfl hx_J0_ensureCapacity (tx_J0_ensureCapacity X hw) (lw_V q408 q410 qs1 q96 q411) ⟨by decide, by decide⟩ ⟨(by decide), (by decide)⟩ rfl (Nat.le_of_ble_eq_true rfl) dJ0_expandTo_14 rfl (fun r9 Tz Iz Rz Lz hΦ => ?_) hok
      obtain ⟨rfl, rfl, rfl, rfl, rfl, hw⟩ := hΦ
      show GX E X T I R L 0 0 17 [some (aR (some o)), some (aI x1), some (aI (x1 + 1))] []
      intro hok
      refine g_aldn0 hE1 dJ0_expandTo_17 ?_
      refine g_ildn2 hE1 dJ0_expandTo_18 ?_
      refine gx_puti hE in_J0 (t := 3) rfl (by decide) 1 1 rfl (by decide) rfl (by decide) (ty := tyJ0 1) tyJ0 tyJ0_ok nmJ0 rfl q173 (Or.inl rfl) rfl (tyJ0_ok 1 (by decide)) rfl rfl ht1 dJ0_expandTo_19 ?_ hok
      intro hok
      have hw := hw _ rfl
      generalize uI I o 1 (x1 + 1) = I3 at hw hok ⊢
      exact hj_22 _ hw hok
    · have hw := hN7 q
      exact hj_22 _ hw hok

/-- java/util/BitSet.set(I)V -/
def wx_J0_set_2 (X : XT) (o : Nat) (x1 : Int) (T : xT) (I : xI) (R : xR) (L : xL) (Q : xI → xL → Prop) : Prop :=
  cLt x1 0
    (
    False)
    (
    wx_J0_wordIndex X x1 T I R L (fun (r1 : Int) => 
    xtag T o = 3 ∧ wx_J0_expandTo X o r1 T I R L (fun (I4 : xI) => 
    ∃ b6 : Nat, R o 0 = some b6 ∧ xtag T b6 = 102 ∧ ib r1 (xlen T b6) ∧ xlen T b6 < 2147483648 ∧
    ib r1 (xlen T b6) ∧ xlen T b6 < 2147483648 ∧ ∀ L13 : xL, L13 = uL L b6 r1 ((L b6 r1) ||| (1 <<< ((iI x1).toInt64 &&& 63))) →
    wx_J0_checkInvariants X o T I4 R L13 (
    Q I4 L13))))
theorem hx_J0_set_2 : yJ0_set_2.cls = RJ0 ∧ yJ0_set_2.cls ≠ "java/lang/invoke/MethodHandle" ∧ yJ0_set_2.cls ≠ "java/lang/invoke/VarHandle" ∧ (parseMethodDescriptor yJ0_set_2.desc).map (fun d => d.parameters.length) = some 1 := by decide +kernel
set_option maxHeartbeats 4000000 in
theorem tx_J0_set_2 (X : XT) {o : Nat} {x1 : Int} {T : xT} {I : xI} {R : xR} {L : xL} {Q : xI → xL → Prop} (hw : wx_J0_set_2 X o x1 T I R L Q) : CtX X yJ0_set_2 cJ0_set_2 3 none (rmX 3 0 0 108) [aR (some o), aI x1] T I R L (PXvIL T I R L Q) := by
  refine CtX.intro (by decide) (Nat.le_of_ble_eq_true rfl) (fun E hE hR hN => ?_)
  have hRm := hR.rm
  have hE : OkX E X RJ0 cJ0_set_2 3 none := hE
  have hE1 := hE.1
  show GX E X T I R L 0 0 0 [some (aR (some o)), some (aI x1), none] []
  unfold wx_J0_set_2 at hw
  intro hok
  refine g_ildn1 hE1 dJ0_set_2_0 ?_
  obtain ⟨h15, h16, hT17, hN18⟩ := hw
  refine g_if_ge hE1 (tgt := 31) dJ0_set_2_1 (by decide) h15 (fun q => ?_) (fun q => ?_)
  · have hw := hT17 q
    exact hw.elim
  · have hw := hN18 q
    refine g_ildn1 hE1 dJ0_set_2_31 ?_
    refine gx_callS hE hRm (As := [aI x1]) hx_J0_wordIndex (tx_J0_wordIndex X hw) (lw_S q169 q170 q96 q171) ⟨by decide, by decide⟩ ⟨(by decide), (by decide)⟩ rfl (Nat.le_of_ble_eq_true rfl) dJ0_set_2_32 rfl (fun r9 Tz Iz Rz Lz hΦ => ?_) hok
    obtain ⟨r1, rfl, rfl, rfl, rfl, rfl, hw⟩ := hΦ
    show GX E X T I R L 0 0 35 [some (aR (some o)), some (aI x1), none] [aI r1]
    intro hok
    refine g_istn2 hE1 dJ0_set_2_35 (by decide) rfl ?_
    refine g_aldn0 hE1 dJ0_set_2_36 ?_
    refine g_ildn2 hE1 dJ0_set_2_37 ?_
    obtain ⟨ht3, hw⟩ := hw
    refine gx_callV hE hRm (As := [aI r1]) ht3 (by decide) (by decide) rfl hx_J0_expandTo (tx_J0_expandTo X hw) (lw_V q1140 q1142 qs14 q96 q1143) ⟨by decide, by decide⟩ ⟨(by decide), (by decide)⟩ rfl (Nat.le_of_ble_eq_true rfl) dJ0_set_2_38 rfl (fun r9 Tz I4 Rz Lz hΦ => ?_) hok
    obtain ⟨rfl, rfl, rfl, rfl, hw⟩ := hΦ
    show GX E X T I4 R L 0 0 41 [some (aR (some o)), some (aI x1), some (aI r1)] []
    intro hok
    refine g_aldn0 hE1 dJ0_set_2_41 ?_
    refine gx_getr hE in_J0 (t := 3) rfl (by decide) 0 0 rfl (by decide) rfl (by decide) rfl q172 (Or.inl rfl) ht3 dJ0_set_2_42 ?_ hok
    intro hok
    refine g_ildn2 hE1 dJ0_set_2_45 ?_
    refine g_dup2 hE1 dJ0_set_2_46 rfl rfl ?_
    obtain ⟨b6, hb7, hw⟩ := hw
    rw [hb7]
    obtain ⟨ht8, hw⟩ := hw
    obtain ⟨h9, h10, hw⟩ := hw
    refine gx_lald hE ht8 h9 h10 dJ0_set_2_47 ?_ hok
    intro hok
    refine g_lconst hE1 (v := 1) dJ0_set_2_48 rfl ?_
    refine g_ildn1 hE1 dJ0_set_2_49 ?_
    refine g_lshl hE1 dJ0_set_2_50 ?_
    refine g_lor hE1 dJ0_set_2_51 ?_
    obtain ⟨h11, h12, hw⟩ := hw
    refine gx_last hE ht8 h11 h12 dJ0_set_2_52 ?_ hok
    intro hok
    have hw := hw _ rfl
    generalize uL L b6 r1 ((L b6 r1) ||| (1 <<< ((iI x1).toInt64 &&& 63))) = L13 at hw hok ⊢
    refine g_aldn0 hE1 dJ0_set_2_53 ?_
    refine gx_callV hE hRm (As := []) ht3 (by decide) (by decide) rfl hx_J0_checkInvariants (tx_J0_checkInvariants X hw) (lw_V q430 q432 qs2 q96 q433) ⟨by decide, by decide⟩ ⟨(by decide), (by decide)⟩ rfl (Nat.le_of_ble_eq_true rfl) dJ0_set_2_54 rfl (fun r9 Tz Iz Rz Lz hΦ => ?_) hok
    obtain ⟨rfl, rfl, rfl, rfl, rfl, hw⟩ := hΦ
    show GX E X T I4 R L13 0 0 57 [some (aR (some o)), some (aI x1), some (aI r1)] []
    intro hok
    exact gx_vret hE hR dJ0_set_2_57 (by decide) (by decide) ⟨rfl, rfl, rfl, hw⟩ hok

/-- java/util/BitSet.recalculateWordsInUse()V -/
def wx_J0_recalculateWordsInUse (X : XT) (o : Nat)  (T : xT) (I : xI) (R : xR) (L : xL) (Q : xI → Prop) : Prop :=
  xtag T o = 3 ∧
  lq1 (fun (x1_7 : Int) (K_7 : Int → Prop) =>
    jn0 (
        ∀ I2 : xI, I2 = uI I o 1 (x1_7 + 1) →
        Q I2)
      (fun (J_31 : Prop) =>
      cLt x1_7 0
        (
        J_31)
        (
        ∃ b3 : Nat, R o 0 = some b3 ∧ xtag T b3 = 102 ∧ ib x1_7 (xlen T b3) ∧ xlen T b3 < 2147483648 ∧
        cEq (lcI (L b3 x1_7) 0) 0
          (
          K_7 (x1_7 + (-1)))
          (
          J_31)))) ((I o 1) - 1)
theorem hx_J0_recalculateWordsInUse : yJ0_recalculateWordsInUse.cls = RJ0 ∧ yJ0_recalculateWordsInUse.cls ≠ "java/lang/invoke/MethodHandle" ∧ yJ0_recalculateWordsInUse.cls ≠ "java/lang/invoke/VarHandle" ∧ (parseMethodDescriptor yJ0_recalculateWordsInUse.desc).map (fun d => d.parameters.length) = some 0 := by decide +kernel
set_option maxHeartbeats 4000000 in
theorem tx_J0_recalculateWordsInUse (X : XT) {o : Nat}  {T : xT} {I : xI} {R : xR} {L : xL} {Q : xI → Prop} (hw : wx_J0_recalculateWordsInUse X o T I R L Q) : CtX X yJ0_recalculateWordsInUse cJ0_recalculateWordsInUse 2 none (rmX 0 0 0 0) [aR (some o)] T I R L (PXvI T I R L Q) := by
  refine CtX.intro (by decide) (Nat.le_of_ble_eq_true rfl) (fun E hE hR hN => ?_)
  have hRm := hR.rm
  have hE : OkX E X RJ0 cJ0_recalculateWordsInUse 2 none := hE
  have hE1 := hE.1
  show GX E X T I R L 0 0 0 [some (aR (some o)), none] []
  unfold wx_J0_recalculateWordsInUse at hw
  intro hok
  refine g_aldn0 hE1 dJ0_recalculateWordsInUse_0 ?_
  obtain ⟨ht1, hw⟩ := hw
  refine gx_geti hE in_J0 (t := 3) rfl (by decide) 1 1 rfl (by decide) rfl (by decide) rfl q173 (Or.inl rfl) ht1 dJ0_recalculateWordsInUse_1 ?_ hok
  intro hok
  refine g_iconst hE1 dJ0_recalculateWordsInUse_4 ?_
  refine g_isub hE1 dJ0_recalculateWordsInUse_5 ?_
  refine g_istn1 hE1 dJ0_recalculateWordsInUse_6 (by decide) rfl ?_
  refine lq1_walk (fun (x1_7 : Int) => GX E X T I R L 0 0 7 [some (aR (some o)), some (aI x1_7)] []) (fun K_7 hk_7 x1_7 hw => ?_) _ hw hok
  intro hok
  refine g_ildn1 hE1 dJ0_recalculateWordsInUse_7 ?_
  refine jn0_walk (GX E X T I R L 0 0 31 [some (aR (some o)), some (aI x1_7)] []) hw (fun  hw => ?_) (fun J_31 hj_31 hw => ?_)
  · intro hok
    refine g_aldn0 hE1 dJ0_recalculateWordsInUse_31 ?_
    refine g_ildn1 hE1 dJ0_recalculateWordsInUse_32 ?_
    refine g_iconst hE1 dJ0_recalculateWordsInUse_33 ?_
    refine g_iadd hE1 dJ0_recalculateWordsInUse_34 ?_
    refine gx_puti hE in_J0 (t := 3) rfl (by decide) 1 1 rfl (by decide) rfl (by decide) (ty := tyJ0 1) tyJ0 tyJ0_ok nmJ0 rfl q173 (Or.inl rfl) rfl (tyJ0_ok 1 (by decide)) rfl rfl ht1 dJ0_recalculateWordsInUse_35 ?_ hok
    intro hok
    have hw := hw _ rfl
    generalize uI I o 1 (x1_7 + 1) = I2 at hw hok ⊢
    exact gx_vret hE hR dJ0_recalculateWordsInUse_38 (by decide) (by decide) ⟨rfl, rfl, rfl, rfl, hw⟩ hok
  · skip
    obtain ⟨h12, h13, hT14, hN15⟩ := hw
    refine g_if_lt hE1 (tgt := 31) dJ0_recalculateWordsInUse_8 (by decide) h12 (fun q => ?_) (fun q => ?_)
    · have hw := hT14 q
      exact hj_31  hw hok
    · have hw := hN15 q
      refine g_aldn0 hE1 dJ0_recalculateWordsInUse_11 ?_
      refine gx_getr hE in_J0 (t := 3) rfl (by decide) 0 0 rfl (by decide) rfl (by decide) rfl q172 (Or.inl rfl) ht1 dJ0_recalculateWordsInUse_12 ?_ hok
      intro hok
      refine g_ildn1 hE1 dJ0_recalculateWordsInUse_15 ?_
      obtain ⟨b3, hb4, hw⟩ := hw
      rw [hb4]
      obtain ⟨ht5, hw⟩ := hw
      obtain ⟨h6, h7, hw⟩ := hw
      refine gx_lald hE ht5 h6 h7 dJ0_recalculateWordsInUse_16 ?_ hok
      intro hok
      refine g_lconst hE1 (v := 0) dJ0_recalculateWordsInUse_17 rfl ?_
      refine gx_lcmp hE dJ0_recalculateWordsInUse_18 ?_ hok
      intro hok
      obtain ⟨h8, h9, hT10, hN11⟩ := hw
      refine g_if_eq hE1 (tgt := 25) dJ0_recalculateWordsInUse_19 (by decide) h8 (fun q => ?_) (fun q => ?_)
      · have hw := hT10 q
        refine g_iinc1 hE1 dJ0_recalculateWordsInUse_25 (by decide) rfl ?_
        refine g_goto hE1 (tgt := 7) dJ0_recalculateWordsInUse_28 (by decide) ?_
        exact hk_7 _ hw hok
      · have hw := hN11 q
        refine g_goto hE1 (tgt := 31) dJ0_recalculateWordsInUse_22 (by decide) ?_
        exact hj_31  hw hok

/-- java/util/BitSet.clear(I)V -/
def wx_J0_clear (X : XT) (o : Nat) (x1 : Int) (T : xT) (I : xI) (R : xR) (L : xL) (Q : xI → xL → Prop) : Prop :=
  cLt x1 0
    (
    False)
    (
    wx_J0_wordIndex X x1 T I R L (fun (r1 : Int) => 
    xtag T o = 3 ∧
    cLt r1 (I o 1)
      (
      ∃ b4 : Nat, R o 0 = some b4 ∧ xtag T b4 = 102 ∧ ib r1 (xlen T b4) ∧ xlen T b4 < 2147483648 ∧
      ib r1 (xlen T b4) ∧ xlen T b4 < 2147483648 ∧ ∀ L11 : xL, L11 = uL L b4 r1 ((L b4 r1) &&& ((1 <<< ((iI x1).toInt64 &&& 63)) ^^^ (-1 : Int64))) →
      wx_J0_recalculateWordsInUse X o T I R L11 (fun (I12 : xI) => 
      wx_J0_checkInvariants X o T I12 R L11 (
      Q I12 L11)))
      (
      Q I L)))
theorem hx_J0_clear : yJ0_clear.cls = RJ0 ∧ yJ0_clear.cls ≠ "java/lang/invoke/MethodHandle" ∧ yJ0_clear.cls ≠ "java/lang/invoke/VarHandle" ∧ (parseMethodDescriptor yJ0_clear.desc).map (fun d => d.parameters.length) = some 1 := by decide +kernel
set_option maxHeartbeats 4000000 in
theorem tx_J0_clear (X : XT) {o : Nat} {x1 : Int} {T : xT} {I : xI} {R : xR} {L : xL} {Q : xI → xL → Prop} (hw : wx_J0_clear X o x1 T I R L Q) : CtX X yJ0_clear cJ0_clear 3 none (rmX 1 0 0 21) [aR (some o), aI x1] T I R L (PXvIL T I R L Q) := by
  refine CtX.intro (by decide) (Nat.le_of_ble_eq_true rfl) (fun E hE hR hN => ?_)
  have hRm := hR.rm
  have hE : OkX E X RJ0 cJ0_clear 3 none := hE
  have hE1 := hE.1
  show GX E X T I R L 0 0 0 [some (aR (some o)), some (aI x1), none] []
  unfold wx_J0_clear at hw
  intro hok
  refine g_ildn1 hE1 dJ0_clear_0 ?_
  obtain ⟨h19, h20, hT21, hN22⟩ := hw
  refine g_if_ge hE1 (tgt := 31) dJ0_clear_1 (by decide) h19 (fun q => ?_) (fun q => ?_)
  · have hw := hT21 q
    exact hw.elim
  · have hw := hN22 q
    refine g_ildn1 hE1 dJ0_clear_31 ?_
    refine gx_callS hE hRm (As := [aI x1]) hx_J0_wordIndex (tx_J0_wordIndex X hw) (lw_S q169 q170 q96 q171) ⟨by decide, by decide⟩ ⟨(by decide), (by decide)⟩ rfl (Nat.le_of_ble_eq_true rfl) dJ0_clear_32 rfl (fun r9 Tz Iz Rz Lz hΦ => ?_) hok
    obtain ⟨r1, rfl, rfl, rfl, rfl, rfl, hw⟩ := hΦ
    show GX E X T I R L 0 0 35 [some (aR (some o)), some (aI x1), none] [aI r1]
    intro hok
    refine g_istn2 hE1 dJ0_clear_35 (by decide) rfl ?_
    refine g_ildn2 hE1 dJ0_clear_36 ?_
    refine g_aldn0 hE1 dJ0_clear_37 ?_
    obtain ⟨ht3, hw⟩ := hw
    refine gx_geti hE in_J0 (t := 3) rfl (by decide) 1 1 rfl (by decide) rfl (by decide) rfl q173 (Or.inl rfl) ht3 dJ0_clear_38 ?_ hok
    intro hok
    obtain ⟨h15, h16, hT17, hN18⟩ := hw
    refine g_icmp_lt hE1 (tgt := 45) dJ0_clear_41 (by decide) h15 h16 (fun q => ?_) (fun q => ?_)
    · have hw := hT17 q
      refine g_aldn0 hE1 dJ0_clear_45 ?_
      refine gx_getr hE in_J0 (t := 3) rfl (by decide) 0 0 rfl (by decide) rfl (by decide) rfl q172 (Or.inl rfl) ht3 dJ0_clear_46 ?_ hok
      intro hok
      refine g_ildn2 hE1 dJ0_clear_49 ?_
      refine g_dup2 hE1 dJ0_clear_50 rfl rfl ?_
      obtain ⟨b4, hb5, hw⟩ := hw
      rw [hb5]
      obtain ⟨ht6, hw⟩ := hw
      obtain ⟨h7, h8, hw⟩ := hw
      refine gx_lald hE ht6 h7 h8 dJ0_clear_51 ?_ hok
      intro hok
      refine g_lconst hE1 (v := 1) dJ0_clear_52 rfl ?_
      refine g_ildn1 hE1 dJ0_clear_53 ?_
      refine g_lshl hE1 dJ0_clear_54 ?_
      refine g_ldc2 hE1 dJ0_clear_55 q1148 ?_
      refine g_lxor hE1 dJ0_clear_58 ?_
      refine g_land hE1 dJ0_clear_59 ?_
      obtain ⟨h9, h10, hw⟩ := hw
      refine gx_last hE ht6 h9 h10 dJ0_clear_60 ?_ hok
      intro hok
      have hw := hw _ rfl
      generalize uL L b4 r1 ((L b4 r1) &&& ((1 <<< ((iI x1).toInt64 &&& 63)) ^^^ (-1 : Int64))) = L11 at hw hok ⊢
      refine g_aldn0 hE1 dJ0_clear_61 ?_
      refine gx_callV hE hRm (As := []) ht3 (by decide) (by decide) rfl hx_J0_recalculateWordsInUse (tx_J0_recalculateWordsInUse X hw) (lw_V q1149 q1151 qs15 q96 q1152) ⟨by decide, by decide⟩ ⟨(by decide), (by decide)⟩ rfl (Nat.le_of_ble_eq_true rfl) dJ0_clear_62 rfl (fun r9 Tz I12 Rz Lz hΦ => ?_) hok
      obtain ⟨rfl, rfl, rfl, rfl, hw⟩ := hΦ
      show GX E X T I12 R L11 0 0 65 [some (aR (some o)), some (aI x1), some (aI r1)] []
      intro hok
      refine g_aldn0 hE1 dJ0_clear_65 ?_
      refine gx_callV hE hRm (As := []) ht3 (by decide) (by decide) rfl hx_J0_checkInvariants (tx_J0_checkInvariants X hw) (lw_V q430 q432 qs2 q96 q433) ⟨by decide, by decide⟩ ⟨(by decide), (by decide)⟩ rfl (Nat.le_of_ble_eq_true rfl) dJ0_clear_66 rfl (fun r9 Tz Iz Rz Lz hΦ => ?_) hok
      obtain ⟨rfl, rfl, rfl, rfl, rfl, hw⟩ := hΦ
      show GX E X T I12 R L11 0 0 69 [some (aR (some o)), some (aI x1), some (aI r1)] []
      intro hok
      exact gx_vret hE hR dJ0_clear_69 (by decide) (by decide) ⟨rfl, rfl, rfl, hw⟩ hok
    · have hw := hN18 q
      exact gx_vret hE hR dJ0_clear_44 (by decide) (by decide) ⟨rfl, rfl, rfl, hw⟩ hok

/-- java/util/BitSet.set(IZ)V -/
def wx_J0_set (X : XT) (o : Nat) (x1 : Int) (x2 : Int) (T : xT) (I : xI) (R : xR) (L : xL) (Q : xI → xL → Prop) : Prop :=
  jn2 (fun (I_17 : xI) (L_17 : xL) => 
      Q I_17 L_17)
    (fun (J_17 : xI → xL → Prop) =>
    cEq x2 0
      (
      xtag T o = 3 ∧ wx_J0_clear X o x1 T I R L (fun (I2 : xI) (L3 : xL) => 
      J_17 I2 L3))
      (
      xtag T o = 3 ∧ wx_J0_set_2 X o x1 T I R L (fun (I6 : xI) (L7 : xL) => 
      J_17 I6 L7)))
theorem hx_J0_set : yJ0_set.cls = RJ0 ∧ yJ0_set.cls ≠ "java/lang/invoke/MethodHandle" ∧ yJ0_set.cls ≠ "java/lang/invoke/VarHandle" ∧ (parseMethodDescriptor yJ0_set.desc).map (fun d => d.parameters.length) = some 2 := by decide +kernel
set_option maxHeartbeats 4000000 in
theorem tx_J0_set (X : XT) {o : Nat} {x1 : Int} {x2 : Int} {T : xT} {I : xI} {R : xR} {L : xL} {Q : xI → xL → Prop} (hw : wx_J0_set X o x1 x2 T I R L Q) : CtX X yJ0_set cJ0_set 3 none (rmX 4 0 0 130) [aR (some o), aI x1, aI x2] T I R L (PXvIL T I R L Q) := by
  refine CtX.intro (by decide) (Nat.le_of_ble_eq_true rfl) (fun E hE hR hN => ?_)
  have hRm := hR.rm
  have hE : OkX E X RJ0 cJ0_set 3 none := hE
  have hE1 := hE.1
  show GX E X T I R L 0 0 0 [some (aR (some o)), some (aI x1), some (aI x2)] []
  unfold wx_J0_set at hw
  intro hok
  refine g_ildn2 hE1 dJ0_set_0 ?_
  refine jn2_walk (fun (I_17 : xI) (L_17 : xL) => GX E X T I_17 R L_17 0 0 17 [some (aR (some o)), some (aI x1), some (aI x2)] []) hw (fun I_17 L_17 hw => ?_) (fun J_17 hj_17 hw => ?_)
  · intro hok
    exact gx_vret hE hR dJ0_set_17 (by decide) (by decide) ⟨rfl, rfl, rfl, hw⟩ hok
  · skip
    obtain ⟨h9, h10, hT11, hN12⟩ := hw
    refine g_if_eq hE1 (tgt := 12) dJ0_set_1 (by decide) h9 (fun q => ?_) (fun q => ?_)
    · have hw := hT11 q
      refine g_aldn0 hE1 dJ0_set_12 ?_
      refine g_ildn1 hE1 dJ0_set_13 ?_
      obtain ⟨ht1, hw⟩ := hw
      refine gx_callV hE hRm (As := [aI x1]) ht1 (by decide) (by decide) rfl hx_J0_clear (tx_J0_clear X hw) (lw_V q1144 q1145 q1146 q96 q1147) ⟨by decide, by decide⟩ ⟨(by decide), (by decide)⟩ rfl (Nat.le_of_ble_eq_true rfl) dJ0_set_14 rfl (fun r9 Tz I2 Rz L3 hΦ => ?_) hok
      obtain ⟨rfl, rfl, rfl, hw⟩ := hΦ
      show GX E X T I2 R L3 0 0 17 [some (aR (some o)), some (aI x1), some (aI x2)] []
      intro hok
      exact hj_17 _ _ hw hok
    · have hw := hN12 q
      refine g_aldn0 hE1 dJ0_set_4 ?_
      refine g_ildn1 hE1 dJ0_set_5 ?_
      obtain ⟨ht5, hw⟩ := hw
      refine gx_callV hE hRm (As := [aI x1]) ht5 (by decide) (by decide) rfl hx_J0_set_2 (tx_J0_set_2 X hw) (lw_V q1136 q1137 q1138 q96 q1139) ⟨by decide, by decide⟩ ⟨(by decide), (by decide)⟩ rfl (Nat.le_of_ble_eq_true rfl) dJ0_set_6 rfl (fun r9 Tz I6 Rz L7 hΦ => ?_) hok
      obtain ⟨rfl, rfl, rfl, hw⟩ := hΦ
      show GX E X T I6 R L7 0 0 9 [some (aR (some o)), some (aI x1), some (aI x2)] []
      intro hok
      refine g_goto hE1 (tgt := 17) dJ0_set_9 (by decide) ?_
      exact hj_17 _ _ hw hok

/-- java/lang/Long.bitCount(J)I -/
def wx_J26_bitCount (X : XT) (x0 : Int64) (T : xT) (I : xI) (R : xR) (L : xL) (Q : Int → Prop) : Prop :=
  Q (bAnd ((Int64.toInt32 ((((((((x0 - ((((x0).toUInt64 >>> ((iI 1).toInt64.toUInt64 &&& Int64.toUInt64 63)).toInt64) &&& (6148914691236517205 : Int64))) &&& (3689348814741910323 : Int64)) + (((((x0 - ((((x0).toUInt64 >>> ((iI 1).toInt64.toUInt64 &&& Int64.toUInt64 63)).toInt64) &&& (6148914691236517205 : Int64)))).toUInt64 >>> ((iI 2).toInt64.toUInt64 &&& Int64.toUInt64 63)).toInt64) &&& (3689348814741910323 : Int64))) + ((((((x0 - ((((x0).toUInt64 >>> ((iI 1).toInt64.toUInt64 &&& Int64.toUInt64 63)).toInt64) &&& (6148914691236517205 : Int64))) &&& (3689348814741910323 : Int64)) + (((((x0 - ((((x0).toUInt64 >>> ((iI 1).toInt64.toUInt64 &&& Int64.toUInt64 63)).toInt64) &&& (6148914691236517205 : Int64)))).toUInt64 >>> ((iI 2).toInt64.toUInt64 &&& Int64.toUInt64 63)).toInt64) &&& (3689348814741910323 : Int64)))).toUInt64 >>> ((iI 4).toInt64.toUInt64 &&& Int64.toUInt64 63)).toInt64)) &&& (1085102592571150095 : Int64)) + ((((((((x0 - ((((x0).toUInt64 >>> ((iI 1).toInt64.toUInt64 &&& Int64.toUInt64 63)).toInt64) &&& (6148914691236517205 : Int64))) &&& (3689348814741910323 : Int64)) + (((((x0 - ((((x0).toUInt64 >>> ((iI 1).toInt64.toUInt64 &&& Int64.toUInt64 63)).toInt64) &&& (6148914691236517205 : Int64)))).toUInt64 >>> ((iI 2).toInt64.toUInt64 &&& Int64.toUInt64 63)).toInt64) &&& (3689348814741910323 : Int64))) + ((((((x0 - ((((x0).toUInt64 >>> ((iI 1).toInt64.toUInt64 &&& Int64.toUInt64 63)).toInt64) &&& (6148914691236517205 : Int64))) &&& (3689348814741910323 : Int64)) + (((((x0 - ((((x0).toUInt64 >>> ((iI 1).toInt64.toUInt64 &&& Int64.toUInt64 63)).toInt64) &&& (6148914691236517205 : Int64)))).toUInt64 >>> ((iI 2).toInt64.toUInt64 &&& Int64.toUInt64 63)).toInt64) &&& (3689348814741910323 : Int64)))).toUInt64 >>> ((iI 4).toInt64.toUInt64 &&& Int64.toUInt64 63)).toInt64)) &&& (1085102592571150095 : Int64))).toUInt64 >>> ((iI 8).toInt64.toUInt64 &&& Int64.toUInt64 63)).toInt64)) + (((((((((x0 - ((((x0).toUInt64 >>> ((iI 1).toInt64.toUInt64 &&& Int64.toUInt64 63)).toInt64) &&& (6148914691236517205 : Int64))) &&& (3689348814741910323 : Int64)) + (((((x0 - ((((x0).toUInt64 >>> ((iI 1).toInt64.toUInt64 &&& Int64.toUInt64 63)).toInt64) &&& (6148914691236517205 : Int64)))).toUInt64 >>> ((iI 2).toInt64.toUInt64 &&& Int64.toUInt64 63)).toInt64) &&& (3689348814741910323 : Int64))) + ((((((x0 - ((((x0).toUInt64 >>> ((iI 1).toInt64.toUInt64 &&& Int64.toUInt64 63)).toInt64) &&& (6148914691236517205 : Int64))) &&& (3689348814741910323 : Int64)) + (((((x0 - ((((x0).toUInt64 >>> ((iI 1).toInt64.toUInt64 &&& Int64.toUInt64 63)).toInt64) &&& (6148914691236517205 : Int64)))).toUInt64 >>> ((iI 2).toInt64.toUInt64 &&& Int64.toUInt64 63)).toInt64) &&& (3689348814741910323 : Int64)))).toUInt64 >>> ((iI 4).toInt64.toUInt64 &&& Int64.toUInt64 63)).toInt64)) &&& (1085102592571150095 : Int64)) + ((((((((x0 - ((((x0).toUInt64 >>> ((iI 1).toInt64.toUInt64 &&& Int64.toUInt64 63)).toInt64) &&& (6148914691236517205 : Int64))) &&& (3689348814741910323 : Int64)) + (((((x0 - ((((x0).toUInt64 >>> ((iI 1).toInt64.toUInt64 &&& Int64.toUInt64 63)).toInt64) &&& (6148914691236517205 : Int64)))).toUInt64 >>> ((iI 2).toInt64.toUInt64 &&& Int64.toUInt64 63)).toInt64) &&& (3689348814741910323 : Int64))) + ((((((x0 - ((((x0).toUInt64 >>> ((iI 1).toInt64.toUInt64 &&& Int64.toUInt64 63)).toInt64) &&& (6148914691236517205 : Int64))) &&& (3689348814741910323 : Int64)) + (((((x0 - ((((x0).toUInt64 >>> ((iI 1).toInt64.toUInt64 &&& Int64.toUInt64 63)).toInt64) &&& (6148914691236517205 : Int64)))).toUInt64 >>> ((iI 2).toInt64.toUInt64 &&& Int64.toUInt64 63)).toInt64) &&& (3689348814741910323 : Int64)))).toUInt64 >>> ((iI 4).toInt64.toUInt64 &&& Int64.toUInt64 63)).toInt64)) &&& (1085102592571150095 : Int64))).toUInt64 >>> ((iI 8).toInt64.toUInt64 &&& Int64.toUInt64 63)).toInt64))).toUInt64 >>> ((iI 16).toInt64.toUInt64 &&& Int64.toUInt64 63)).toInt64)) + ((((((((((x0 - ((((x0).toUInt64 >>> ((iI 1).toInt64.toUInt64 &&& Int64.toUInt64 63)).toInt64) &&& (6148914691236517205 : Int64))) &&& (3689348814741910323 : Int64)) + (((((x0 - ((((x0).toUInt64 >>> ((iI 1).toInt64.toUInt64 &&& Int64.toUInt64 63)).toInt64) &&& (6148914691236517205 : Int64)))).toUInt64 >>> ((iI 2).toInt64.toUInt64 &&& Int64.toUInt64 63)).toInt64) &&& (3689348814741910323 : Int64))) + ((((((x0 - ((((x0).toUInt64 >>> ((iI 1).toInt64.toUInt64 &&& Int64.toUInt64 63)).toInt64) &&& (6148914691236517205 : Int64))) &&& (3689348814741910323 : Int64)) + (((((x0 - ((((x0).toUInt64 >>> ((iI 1).toInt64.toUInt64 &&& Int64.toUInt64 63)).toInt64) &&& (6148914691236517205 : Int64)))).toUInt64 >>> ((iI 2).toInt64.toUInt64 &&& Int64.toUInt64 63)).toInt64) &&& (3689348814741910323 : Int64)))).toUInt64 >>> ((iI 4).toInt64.toUInt64 &&& Int64.toUInt64 63)).toInt64)) &&& (1085102592571150095 : Int64)) + ((((((((x0 - ((((x0).toUInt64 >>> ((iI 1).toInt64.toUInt64 &&& Int64.toUInt64 63)).toInt64) &&& (6148914691236517205 : Int64))) &&& (3689348814741910323 : Int64)) + (((((x0 - ((((x0).toUInt64 >>> ((iI 1).toInt64.toUInt64 &&& Int64.toUInt64 63)).toInt64) &&& (6148914691236517205 : Int64)))).toUInt64 >>> ((iI 2).toInt64.toUInt64 &&& Int64.toUInt64 63)).toInt64) &&& (3689348814741910323 : Int64))) + ((((((x0 - ((((x0).toUInt64 >>> ((iI 1).toInt64.toUInt64 &&& Int64.toUInt64 63)).toInt64) &&& (6148914691236517205 : Int64))) &&& (3689348814741910323 : Int64)) + (((((x0 - ((((x0).toUInt64 >>> ((iI 1).toInt64.toUInt64 &&& Int64.toUInt64 63)).toInt64) &&& (6148914691236517205 : Int64)))).toUInt64 >>> ((iI 2).toInt64.toUInt64 &&& Int64.toUInt64 63)).toInt64) &&& (3689348814741910323 : Int64)))).toUInt64 >>> ((iI 4).toInt64.toUInt64 &&& Int64.toUInt64 63)).toInt64)) &&& (1085102592571150095 : Int64))).toUInt64 >>> ((iI 8).toInt64.toUInt64 &&& Int64.toUInt64 63)).toInt64)) + (((((((((x0 - ((((x0).toUInt64 >>> ((iI 1).toInt64.toUInt64 &&& Int64.toUInt64 63)).toInt64) &&& (6148914691236517205 : Int64))) &&& (3689348814741910323 : Int64)) + (((((x0 - ((((x0).toUInt64 >>> ((iI 1).toInt64.toUInt64 &&& Int64.toUInt64 63)).toInt64) &&& (6148914691236517205 : Int64)))).toUInt64 >>> ((iI 2).toInt64.toUInt64 &&& Int64.toUInt64 63)).toInt64) &&& (3689348814741910323 : Int64))) + ((((((x0 - ((((x0).toUInt64 >>> ((iI 1).toInt64.toUInt64 &&& Int64.toUInt64 63)).toInt64) &&& (6148914691236517205 : Int64))) &&& (3689348814741910323 : Int64)) + (((((x0 - ((((x0).toUInt64 >>> ((iI 1).toInt64.toUInt64 &&& Int64.toUInt64 63)).toInt64) &&& (6148914691236517205 : Int64)))).toUInt64 >>> ((iI 2).toInt64.toUInt64 &&& Int64.toUInt64 63)).toInt64) &&& (3689348814741910323 : Int64)))).toUInt64 >>> ((iI 4).toInt64.toUInt64 &&& Int64.toUInt64 63)).toInt64)) &&& (1085102592571150095 : Int64)) + ((((((((x0 - ((((x0).toUInt64 >>> ((iI 1).toInt64.toUInt64 &&& Int64.toUInt64 63)).toInt64) &&& (6148914691236517205 : Int64))) &&& (3689348814741910323 : Int64)) + (((((x0 - ((((x0).toUInt64 >>> ((iI 1).toInt64.toUInt64 &&& Int64.toUInt64 63)).toInt64) &&& (6148914691236517205 : Int64)))).toUInt64 >>> ((iI 2).toInt64.toUInt64 &&& Int64.toUInt64 63)).toInt64) &&& (3689348814741910323 : Int64))) + ((((((x0 - ((((x0).toUInt64 >>> ((iI 1).toInt64.toUInt64 &&& Int64.toUInt64 63)).toInt64) &&& (6148914691236517205 : Int64))) &&& (3689348814741910323 : Int64)) + (((((x0 - ((((x0).toUInt64 >>> ((iI 1).toInt64.toUInt64 &&& Int64.toUInt64 63)).toInt64) &&& (6148914691236517205 : Int64)))).toUInt64 >>> ((iI 2).toInt64.toUInt64 &&& Int64.toUInt64 63)).toInt64) &&& (3689348814741910323 : Int64)))).toUInt64 >>> ((iI 4).toInt64.toUInt64 &&& Int64.toUInt64 63)).toInt64)) &&& (1085102592571150095 : Int64))).toUInt64 >>> ((iI 8).toInt64.toUInt64 &&& Int64.toUInt64 63)).toInt64))).toUInt64 >>> ((iI 16).toInt64.toUInt64 &&& Int64.toUInt64 63)).toInt64))).toUInt64 >>> ((iI 32).toInt64.toUInt64 &&& Int64.toUInt64 63)).toInt64))).toInt) 127)
theorem hx_J26_bitCount : yJ26_bitCount.cls ≠ "java/lang/invoke/MethodHandle" ∧ yJ26_bitCount.cls ≠ "java/lang/invoke/VarHandle" ∧ (parseMethodDescriptor yJ26_bitCount.desc).map (fun d => d.parameters.length) = some 1 := by decide +kernel
set_option maxHeartbeats 4000000 in
theorem tx_J26_bitCount (X : XT) {x0 : Int64} {T : xT} {I : xI} {R : xR} {L : xL} {Q : Int → Prop} (hw : wx_J26_bitCount X x0 T I R L Q) : CtX X yJ26_bitCount cJ26_bitCount 2 (some .int) (rmX 0 0 0 0) [aL x0] T I R L (PXi T I R L Q) := by
  refine CtX.intro (by decide) (Nat.le_of_ble_eq_true rfl) (fun E hE hR hN => ?_)
  have hRm := hR.rm
  have hE : OkX E X RJ26 cJ26_bitCount 2 (some .int) := hE
  have hE1 := hE.1
  show GX E X T I R L 0 0 0 [some (aL x0), none] []
  unfold wx_J26_bitCount at hw
  intro hok
  refine g_lldn0 hE1 dJ26_bitCount_0 ?_
  refine g_lldn0 hE1 dJ26_bitCount_1 ?_
  refine g_iconst hE1 dJ26_bitCount_2 ?_
  refine g_lushr hE1 dJ26_bitCount_3 ?_
  refine g_ldc2 hE1 dJ26_bitCount_4 q1160 ?_
  refine g_land hE1 dJ26_bitCount_7 ?_
  refine g_lsub hE1 dJ26_bitCount_8 ?_
  refine g_lstn0 hE1 dJ26_bitCount_9 (by decide) rfl ?_
  refine g_lldn0 hE1 dJ26_bitCount_10 ?_
  refine g_ldc2 hE1 dJ26_bitCount_11 q1161 ?_
  refine g_land hE1 dJ26_bitCount_14 ?_
  refine g_lldn0 hE1 dJ26_bitCount_15 ?_
  refine g_iconst hE1 dJ26_bitCount_16 ?_
  refine g_lushr hE1 dJ26_bitCount_17 ?_
  refine g_ldc2 hE1 dJ26_bitCount_18 q1161 ?_
  refine g_land hE1 dJ26_bitCount_21 ?_
  refine g_ladd hE1 dJ26_bitCount_22 ?_
  refine g_lstn0 hE1 dJ26_bitCount_23 (by decide) rfl ?_
  refine g_lldn0 hE1 dJ26_bitCount_24 ?_
  refine g_lldn0 hE1 dJ26_bitCount_25 ?_
  refine g_iconst hE1 dJ26_bitCount_26 ?_
  refine g_lushr hE1 dJ26_bitCount_27 ?_
  refine g_ladd hE1 dJ26_bitCount_28 ?_
  refine g_ldc2 hE1 dJ26_bitCount_29 q1162 ?_
  refine g_land hE1 dJ26_bitCount_32 ?_
  refine g_lstn0 hE1 dJ26_bitCount_33 (by decide) rfl ?_
  refine g_lldn0 hE1 dJ26_bitCount_34 ?_
  refine g_lldn0 hE1 dJ26_bitCount_35 ?_
  refine g_bipush hE1 dJ26_bitCount_36 (by decide) ?_
  refine g_lushr hE1 dJ26_bitCount_38 ?_
  refine g_ladd hE1 dJ26_bitCount_39 ?_
  refine g_lstn0 hE1 dJ26_bitCount_40 (by decide) rfl ?_
  refine g_lldn0 hE1 dJ26_bitCount_41 ?_
  refine g_lldn0 hE1 dJ26_bitCount_42 ?_
  refine g_bipush hE1 dJ26_bitCount_43 (by decide) ?_
  refine g_lushr hE1 dJ26_bitCount_45 ?_
  refine g_ladd hE1 dJ26_bitCount_46 ?_
  refine g_lstn0 hE1 dJ26_bitCount_47 (by decide) rfl ?_
  refine g_lldn0 hE1 dJ26_bitCount_48 ?_
  refine g_lldn0 hE1 dJ26_bitCount_49 ?_
  refine g_bipush hE1 dJ26_bitCount_50 (by decide) ?_
  refine g_lushr hE1 dJ26_bitCount_52 ?_
  refine g_ladd hE1 dJ26_bitCount_53 ?_
  refine g_lstn0 hE1 dJ26_bitCount_54 (by decide) rfl ?_
  refine g_lldn0 hE1 dJ26_bitCount_55 ?_
  refine g_l2i hE1 dJ26_bitCount_56 ?_
  refine g_bipush hE1 dJ26_bitCount_57 (by decide) ?_
  refine g_iand hE1 dJ26_bitCount_59 ?_
  exact gx_iret hE hR dJ26_bitCount_60 (by decide) (by decide) rfl ⟨_, rfl, rfl, rfl, rfl, rfl, hw⟩ hok

/-- java/util/BitSet.cardinality()I -/
def wx_J0_cardinality (X : XT) (o : Nat)  (T : xT) (I : xI) (R : xR) (L : xL) (Q : Int → Prop) : Prop :=
  lq2 (fun (x1_4 : Int) (x2_4 : Int) (K_4 : Int → Int → Prop) =>
    xtag T o = 3 ∧
    cLt x2_4 (I o 1)
      (
      ∃ b2 : Nat, R o 0 = some b2 ∧ xtag T b2 = 102 ∧ ib x2_4 (xlen T b2) ∧ xlen T b2 < 2147483648 ∧
      wx_J26_bitCount X (L b2 x2_4) T I R L (fun (r7 : Int) => 
      K_4 (x1_4 + r7) (x2_4 + 1)))
      (
      Q x1_4)) 0 0
theorem hx_J0_cardinality : yJ0_cardinality.cls = RJ0 ∧ yJ0_cardinality.cls ≠ "java/lang/invoke/MethodHandle" ∧ yJ0_cardinality.cls ≠ "java/lang/invoke/VarHandle" ∧ (parseMethodDescriptor yJ0_cardinality.desc).map (fun d => d.parameters.length) = some 0 := by decide +kernel
set_option maxHeartbeats 4000000 in
theorem tx_J0_cardinality (X : XT) {o : Nat}  {T : xT} {I : xI} {R : xR} {L : xL} {Q : Int → Prop} (hw : wx_J0_cardinality X o T I R L Q) : CtX X yJ0_cardinality cJ0_cardinality 3 (some .int) (rmX 1 0 0 21) [aR (some o)] T I R L (PXi T I R L Q) := by
  refine CtX.intro (by decide) (Nat.le_of_ble_eq_true rfl) (fun E hE hR hN => ?_)
  have hRm := hR.rm
  have hE : OkX E X RJ0 cJ0_cardinality 3 (some .int) := hE
  have hE1 := hE.1
  show GX E X T I R L 0 0 0 [some (aR (some o)), none, none] []
  unfold wx_J0_cardinality at hw
  intro hok
  refine g_iconst hE1 dJ0_cardinality_0 ?_
  refine g_istn1 hE1 dJ0_cardinality_1 (by decide) rfl ?_
  refine g_iconst hE1 dJ0_cardinality_2 ?_
  refine g_istn2 hE1 dJ0_cardinality_3 (by decide) rfl ?_
  refine lq2_walk (fun (x1_4 : Int) (x2_4 : Int) => GX E X T I R L 0 0 4 [some (aR (some o)), some (aI x1_4), some (aI x2_4)] []) (fun K_4 hk_4 x1_4 x2_4 hw => ?_) _ _ hw hok
  intro hok
  refine g_ildn2 hE1 dJ0_cardinality_4 ?_
  refine g_aldn0 hE1 dJ0_cardinality_5 ?_
  obtain ⟨ht1, hw⟩ := hw
  refine gx_geti hE in_J0 (t := 3) rfl (by decide) 1 1 rfl (by decide) rfl (by decide) rfl q173 (Or.inl rfl) ht1 dJ0_cardinality_6 ?_ hok
  intro hok
  obtain ⟨h9, h10, hT11, hN12⟩ := hw
  refine g_icmp_ge hE1 (tgt := 30) dJ0_cardinality_9 (by decide) h9 h10 (fun q => ?_) (fun q => ?_)
  · have hw := hT11 q
    refine g_ildn1 hE1 dJ0_cardinality_12 ?_
    refine g_aldn0 hE1 dJ0_cardinality_13 ?_
    refine gx_getr hE in_J0 (t := 3) rfl (by decide) 0 0 rfl (by decide) rfl (by decide) rfl q172 (Or.inl rfl) ht1 dJ0_cardinality_14 ?_ hok
    intro hok
    refine g_ildn2 hE1 dJ0_cardinality_17 ?_
    obtain ⟨b2, hb3, hw⟩ := hw
    rw [hb3]
    obtain ⟨ht4, hw⟩ := hw
    obtain ⟨h5, h6, hw⟩ := hw
    refine gx_lald hE ht4 h5 h6 dJ0_cardinality_18 ?_ hok
    intro hok
    refine gx_callS hE hRm (As := [aL (L b2 x2_4)]) hx_J26_bitCount (tx_J26_bitCount X hw) (lw_S q1157 q1158 q131 q1159) ⟨by decide, by decide⟩ ⟨(by decide), (by decide)⟩ rfl (Nat.le_of_ble_eq_true rfl) dJ0_cardinality_19 rfl (fun r9 Tz Iz Rz Lz hΦ => ?_) hok
    obtain ⟨r7, rfl, rfl, rfl, rfl, rfl, hw⟩ := hΦ
    show GX E X T I R L 0 0 22 [some (aR (some o)), some (aI x1_4), some (aI x2_4)] [aI r7, aI x1_4]
    intro hok
    refine g_iadd hE1 dJ0_cardinality_22 ?_
    refine g_istn1 hE1 dJ0_cardinality_23 (by decide) rfl ?_
    refine g_iinc2 hE1 dJ0_cardinality_24 (by decide) rfl ?_
    refine g_goto hE1 (tgt := 4) dJ0_cardinality_27 (by decide) ?_
    exact hk_4 _ _ hw hok
  · have hw := hN12 q
    refine g_ildn1 hE1 dJ0_cardinality_30 ?_
    exact gx_iret hE hR dJ0_cardinality_31 (by decide) (by decide) rfl ⟨_, rfl, rfl, rfl, rfl, rfl, hw⟩ hok

/-- WhalingLogs$Archive.becomes(IZI)I -/
def wx_X1_becomes (X : XT) (o : Nat) (x1 : Int) (x2 : Int) (x3 : Int) (T : xT) (I : xI) (R : xR) (L : xL) (Q : Int → xT → xI → xR → xL → Prop) (Y : Nat → xT → xI → xR → xL → Prop) : Prop :=
  jn1 (fun (y0_14 : Int) => 
      wx_X0_refuse X y0_14 6 x3 T I R L (fun (T1 : xT) (I2 : xI) (R3 : xR) => tle T T1 → 
        xtag T1 o = 2 ∧
        ∃ b6 : Nat, R3 o 0 = some b6 ∧ xtag T1 b6 = 3 ∧ wx_J0_set X b6 x1 x2 T1 I2 R3 L (fun (I9 : xI) (L10 : xL) => 
        ∃ b12 : Nat, R3 o 0 = some b12 ∧ xtag T1 b12 = 3 ∧ wx_J0_cardinality X b12 T1 I9 R3 L10 (fun (r15 : Int) => 
        Q r15 T1 I9 R3 L10)))
        (fun (e17 : Nat) (T18 : xT) (I19 : xI) (R20 : xR) => tle T T18 → xtag T18 e17 = 14 → 
        Y e17 T18 I19 R20 L))
    (fun (J_14 : Int → Prop) =>
    jn0 (
        J_14 0)
      (fun (J_13 : Prop) =>
      cEq x2 0
        (
        J_13)
        (
        cEq x3 (-1)
          (
          J_13)
          (
          J_14 1))))
theorem hx_X1_becomes : yX1_becomes.cls = RX1 ∧ yX1_becomes.cls ≠ "java/lang/invoke/MethodHandle" ∧ yX1_becomes.cls ≠ "java/lang/invoke/VarHandle" ∧ (parseMethodDescriptor yX1_becomes.desc).map (fun d => d.parameters.length) = some 3 := by decide +kernel
set_option maxHeartbeats 4000000 in
theorem tx_X1_becomes (X : XT) {o : Nat} {x1 : Int} {x2 : Int} {x3 : Int} {T : xT} {I : xI} {R : xR} {L : xL} {Q : Int → xT → xI → xR → xL → Prop} {Y : Nat → xT → xI → xR → xL → Prop} (hw : wx_X1_becomes X o x1 x2 x3 T I R L Q Y) : CtY X yX1_becomes cX1_becomes 4 (some .int) (rmX 5 1 8 152) [aR (some o), aI x1, aI x2, aI x3] T I R L (PXiTIRL T I R L Q) (PYTIRL T I R L "WhalingLogs$Refused" 14 Y) := by
  refine CtY.intro (by decide) (Nat.le_of_ble_eq_true rfl) (fun E hE hR hY hN => ?_)
  have hRm := hR.rm
  have hE : OkX E X RX1 cX1_becomes 4 (some .int) := hE
  have hE1 := hE.1
  show GX E X T I R L 0 0 0 [some (aR (some o)), some (aI x1), some (aI x2), some (aI x3)] []
  unfold wx_X1_becomes at hw
  intro hok
  refine g_ildn2 hE1 dX1_becomes_0 ?_
  refine jn1_walk (fun (y0_14 : Int) => GX E X T I R L 0 0 14 [some (aR (some o)), some (aI x1), some (aI x2), some (aI x3)] [aI y0_14]) hw (fun y0_14 hw => ?_) (fun J_14 hj_14 hw => ?_)
  · intro hok
    refine g_bipush hE1 dX1_becomes_14 (by decide) ?_
    refine g_ildn3 hE1 dX1_becomes_16 ?_
    refine gy_callSN hE hRm (As := [aI y0_14, aI 6, aI x3]) hx_X0_refuse (tx_X0_refuse X hw) (lw_meth q1104) q1102 q94 q1103 ⟨by decide, by decide⟩ ⟨(by decide), (by decide)⟩ rfl (Nat.le_of_ble_eq_true rfl) dX1_becomes_17 rfl (fun r9 T1 I2 R3 Lz hΦ => ?_) (fun Ec q9 T18 I19 R20 Lz hΦ => ?_) hok
    · obtain ⟨rfl, rfl, hl4, hw⟩ := hΦ
      have hw := hw hl4
      show GX E X T1 I2 R3 L 1 8 20 [some (aR (some o)), some (aI x1), some (aI x2), some (aI x3)] []
      intro hok
      refine g_aldn0 hE1 dX1_becomes_20 ?_
      obtain ⟨ht5, hw⟩ := hw
      refine gx_getr hE in_X1 (t := 2) rfl (by decide) 0 0 rfl (by decide) rfl (by decide) rfl q220 (Or.inl rfl) ht5 dX1_becomes_21 ?_ hok
      intro hok
      refine g_ildn1 hE1 dX1_becomes_24 ?_
      refine g_ildn2 hE1 dX1_becomes_25 ?_
      obtain ⟨b6, hb7, hw⟩ := hw
      rw [hb7]
      obtain ⟨ht8, hw⟩ := hw
      refine gx_callV hE hRm (As := [aI x1, aI x2]) ht8 (by decide) (by decide) rfl hx_J0_set (tx_J0_set X hw) (lw_V q1132 q1133 q1134 q96 q1135) ⟨by decide, by decide⟩ ⟨(by decide), (by decide)⟩ rfl (Nat.le_of_ble_eq_true rfl) dX1_becomes_26 rfl (fun r9 Tz I9 Rz L10 hΦ => ?_) hok
      obtain ⟨rfl, rfl, rfl, hw⟩ := hΦ
      show GX E X T1 I9 R3 L10 1 8 29 [some (aR (some o)), some (aI x1), some (aI x2), some (aI x3)] []
      intro hok
      refine g_aldn0 hE1 dX1_becomes_29 ?_
      refine gx_getr hE in_X1 (t := 2) rfl (by decide) 0 0 rfl (by decide) rfl (by decide) rfl q220 (Or.inl rfl) ht5 dX1_becomes_30 ?_ hok
      intro hok
      obtain ⟨b12, hb13, hw⟩ := hw
      rw [hb13]
      obtain ⟨ht14, hw⟩ := hw
      refine gx_callV hE hRm (As := []) ht14 (by decide) (by decide) rfl hx_J0_cardinality (tx_J0_cardinality X hw) (lw_V q1153 q1154 q1155 q96 q1156) ⟨by decide, by decide⟩ ⟨(by decide), (by decide)⟩ rfl (Nat.le_of_ble_eq_true rfl) dX1_becomes_33 rfl (fun r9 Tz Iz Rz Lz hΦ => ?_) hok
      obtain ⟨r15, rfl, rfl, rfl, rfl, rfl, hw⟩ := hΦ
      show GX E X T1 I9 R3 L10 1 8 36 [some (aR (some o)), some (aI x1), some (aI x2), some (aI x3)] [aI r15]
      intro hok
      exact gx_iret hE hR dX1_becomes_36 (by decide) (by decide) rfl ⟨_, rfl, hl4, hw⟩ hok
    · have hq9 : ∃ q8, q8 = q9 := ⟨_, rfl⟩
      obtain ⟨e17, rfl⟩ := hq9
      obtain ⟨rfl, rfl, hl21, ht22, hw⟩ := hΦ
      have hw := hw hl21 ht22
      exact gx_out hE hY (by decide) (by decide) ⟨rfl, hl21, ht22, hw⟩
  · skip
    refine jn0_walk (GX E X T I R L 0 0 13 [some (aR (some o)), some (aI x1), some (aI x2), some (aI x3)] []) hw (fun  hw => ?_) (fun J_13 hj_13 hw => ?_)
    · intro hok
      refine g_iconst hE1 dX1_becomes_13 ?_
      exact hj_14 _ hw hok
    · skip
      obtain ⟨h27, h28, hT29, hN30⟩ := hw
      refine g_if_eq hE1 (tgt := 13) dX1_becomes_1 (by decide) h27 (fun q => ?_) (fun q => ?_)
      · have hw := hT29 q
        exact hj_13  hw hok
      · have hw := hN30 q
        refine g_ildn3 hE1 dX1_becomes_4 ?_
        refine g_iconst hE1 dX1_becomes_5 ?_
        obtain ⟨h23, h24, hT25, hN26⟩ := hw
        refine g_icmp_eq hE1 (tgt := 13) dX1_becomes_6 (by decide) h23 h24 (fun q => ?_) (fun q => ?_)
        · have hw := hT25 q
          exact hj_13  hw hok
        · have hw := hN26 q
          refine g_iconst hE1 dX1_becomes_9 ?_
          refine g_goto hE1 (tgt := 14) dX1_becomes_10 (by decide) ?_
          exact hj_14 _ hw hok

/-- WhalingLogs.becomes(LWhalingLogs$Archive;IZ)I -/
def wx_X0_becomes (X : XT) (o : Nat) (x1 : Option Nat) (x2 : Int) (x3 : Int) (T : xT) (I : xI) (R : xR) (L : xL) (Q : Int → xT → xI → xR → xL → Prop) (Y : Nat → xT → xI → xR → xL → Prop) : Prop :=
  xtag T o = 1 ∧
  ∃ b2 : Nat, R o 6 = some b2 ∧ xtag T b2 = 7 ∧ wx_X3_lists X b2 x1 T I R L (fun (r5 : Option Nat) (T6 : xT) (I7 : xI) (R8 : xR) => tle T T6 → 
  ∃ b10 : Nat, r5 = some b10 ∧ xtag T6 b10 = 7 ∧ wx_X3_at X b10 x2 T6 I7 R8 L (fun (r13 : Int) => 
  ∃ b15 : Nat, x1 = some b15 ∧ xtag T6 b15 = 2 ∧ wx_X1_becomes X b15 x2 x3 r13 T6 I7 R8 L (fun (r18 : Int) (T19 : xT) (I20 : xI) (R21 : xR) (L22 : xL) => tle T6 T19 → 
    Q r18 T19 I20 R21 L22)
    (fun (e24 : Nat) (T25 : xT) (I26 : xI) (R27 : xR) (L28 : xL) => tle T6 T25 → xtag T25 e24 = 14 → 
    Y e24 T25 I26 R27 L28)))
theorem hx_X0_becomes : yX0_becomes.cls = RX0 ∧ yX0_becomes.cls ≠ "java/lang/invoke/MethodHandle" ∧ yX0_becomes.cls ≠ "java/lang/invoke/VarHandle" ∧ (parseMethodDescriptor yX0_becomes.desc).map (fun d => d.parameters.length) = some 3 := by decide +kernel
set_option maxHeartbeats 4000000 in
theorem tx_X0_becomes (X : XT) {o : Nat} {x1 : Option Nat} {x2 : Int} {x3 : Int} {T : xT} {I : xI} {R : xR} {L : xL} {Q : Int → xT → xI → xR → xL → Prop} {Y : Nat → xT → xI → xR → xL → Prop} (hw : wx_X0_becomes X o x1 x2 x3 T I R L Q Y) : CtY X yX0_becomes cX0_becomes 4 (some .int) (rmX 6 2 13 175) [aR (some o), aR x1, aI x2, aI x3] T I R L (PXiTIRL T I R L Q) (PYTIRL T I R L "WhalingLogs$Refused" 14 Y) := by
  refine CtY.intro (by decide) (Nat.le_of_ble_eq_true rfl) (fun E hE hR hY hN => ?_)
  have hRm := hR.rm
  have hE : OkX E X RX0 cX0_becomes 4 (some .int) := hE
  have hE1 := hE.1
  show GX E X T I R L 0 0 0 [some (aR (some o)), some (aR x1), some (aI x2), some (aI x3)] []
  unfold wx_X0_becomes at hw
  intro hok
  refine g_aldn1 hE1 dX0_becomes_0 ?_
  refine g_ildn2 hE1 dX0_becomes_1 ?_
  refine g_ildn3 hE1 dX0_becomes_2 ?_
  refine g_aldn0 hE1 dX0_becomes_3 ?_
  obtain ⟨ht1, hw⟩ := hw
  refine gx_getr hE in_X0 (t := 1) rfl (by decide) 6 6 rfl (by decide) rfl (by decide) rfl q359 (Or.inl rfl) ht1 dX0_becomes_4 ?_ hok
  intro hok
  refine g_aldn1 hE1 dX0_becomes_7 ?_
  obtain ⟨b2, hb3, hw⟩ := hw
  rw [hb3]
  obtain ⟨ht4, hw⟩ := hw
  refine gx_callV hE hRm (As := [aR x1]) ht4 (by decide) (by decide) rfl hx_X3_lists (tx_X3_lists X hw) (lw_V q1078 q1079 q1080 q103 q1081) ⟨by decide, by decide⟩ ⟨(by decide), (by decide)⟩ rfl (Nat.le_of_ble_eq_true rfl) dX0_becomes_8 rfl (fun r9 T6 I7 R8 Lz hΦ => ?_) hok
  obtain ⟨r5, rfl, rfl, hl9, hw⟩ := hΦ
  have hw := hw hl9
  show GX E X T6 I7 R8 L 1 5 11 [some (aR (some o)), some (aR x1), some (aI x2), some (aI x3)] [aR r5, aI x3, aI x2, aR x1]
  intro hok
  refine g_ildn2 hE1 dX0_becomes_11 ?_
  obtain ⟨b10, hb11, hw⟩ := hw
  rw [hb11]
  obtain ⟨ht12, hw⟩ := hw
  refine gx_callV hE hRm (As := [aI x2]) ht12 (by decide) (by decide) rfl hx_X3_at (tx_X3_at X hw) (lw_V q1094 q1095 q1096 q103 q1097) ⟨by decide, by decide⟩ ⟨(by decide), (by decide)⟩ rfl (Nat.le_of_ble_eq_true rfl) dX0_becomes_12 rfl (fun r9 Tz Iz Rz Lz hΦ => ?_) hok
  obtain ⟨r13, rfl, rfl, rfl, rfl, rfl, hw⟩ := hΦ
  show GX E X T6 I7 R8 L 1 5 15 [some (aR (some o)), some (aR x1), some (aI x2), some (aI x3)] [aI r13, aI x3, aI x2, aR x1]
  intro hok
  obtain ⟨b15, hb16, hw⟩ := hw
  rw [hb16]
  obtain ⟨ht17, hw⟩ := hw
  refine gy_callV hE hRm (As := [aI x2, aI x3, aI r13]) ht17 (by decide) (by decide) rfl hx_X1_becomes (tx_X1_becomes X hw) (lw_V q1098 q1099 q1100 q95 q1101) ⟨by decide, by decide⟩ ⟨(by decide), (by decide)⟩ rfl (Nat.le_of_ble_eq_true rfl) dX0_becomes_15 rfl (fun r9 T19 I20 R21 L22 hΦ => ?_) (fun Ec q9 T25 I26 R27 L28 hΦ => ?_) hok
  · obtain ⟨r18, rfl, hl23, hw⟩ := hΦ
    have hw := hw hl23
    show GX E X T19 I20 R21 L22 2 13 18 [some (aR (some o)), some (aR (some b15)), some (aI x2), some (aI x3)] [aI r18]
    intro hok
    exact gx_iret hE hR dX0_becomes_18 (by decide) (by decide) rfl ⟨_, rfl, (hl9.tr hl23), hw⟩ hok
  · have hq9 : ∃ q8, q8 = q9 := ⟨_, rfl⟩
    obtain ⟨e24, rfl⟩ := hq9
    obtain ⟨rfl, hl29, ht30, hw⟩ := hΦ
    have hw := hw hl29 ht30
    exact gx_out hE hY (by decide) (by decide) ⟨rfl, (hl9.tr hl29), ht30, hw⟩

/-- java/util/ArrayDeque.inc(II)I -/
def wx_J5_inc (X : XT) (x0 : Int) (x1 : Int) (T : xT) (I : xI) (R : xR) (L : xL) (Q : Int → Prop) : Prop :=
  jn1 (fun (x0_10 : Int) => 
      Q x0_10)
    (fun (J_10 : Int → Prop) =>
    cLt (x0 + 1) x1
      (
      J_10 (x0 + 1))
      (
      J_10 0))
theorem hx_J5_inc : yJ5_inc.cls ≠ "java/lang/invoke/MethodHandle" ∧ yJ5_inc.cls ≠ "java/lang/invoke/VarHandle" ∧ (parseMethodDescriptor yJ5_inc.desc).map (fun d => d.parameters.length) = some 2 := by decide +kernel
set_option maxHeartbeats 4000000 in
theorem tx_J5_inc (X : XT) {x0 : Int} {x1 : Int} {T : xT} {I : xI} {R : xR} {L : xL} {Q : Int → Prop} (hw : wx_J5_inc X x0 x1 T I R L Q) : CtX X yJ5_inc cJ5_inc 2 (some .int) (rmX 0 0 0 0) [aI x0, aI x1] T I R L (PXi T I R L Q) := by
  refine CtX.intro (by decide) (Nat.le_of_ble_eq_true rfl) (fun E hE hR hN => ?_)
  have hRm := hR.rm
  have hE : OkX E X RJ5 cJ5_inc 2 (some .int) := hE
  have hE1 := hE.1
  show GX E X T I R L 0 0 0 [some (aI x0), some (aI x1)] []
  unfold wx_J5_inc at hw
  intro hok
  refine g_iinc0 hE1 dJ5_inc_0 (by decide) rfl ?_
  refine g_ildn0 hE1 dJ5_inc_3 ?_
  refine g_ildn1 hE1 dJ5_inc_4 ?_
  refine jn1_walk (fun (x0_10 : Int) => GX E X T I R L 0 0 10 [some (aI x0_10), some (aI x1)] []) hw (fun x0_10 hw => ?_) (fun J_10 hj_10 hw => ?_)
  · intro hok
    refine g_ildn0 hE1 dJ5_inc_10 ?_
    exact gx_iret hE hR dJ5_inc_11 (by decide) (by decide) rfl ⟨_, rfl, rfl, rfl, rfl, rfl, hw⟩ hok
  · skip
    obtain ⟨h1, h2, hT3, hN4⟩ := hw
    refine g_icmp_lt hE1 (tgt := 10) dJ5_inc_5 (by decide) h1 h2 (fun q => ?_) (fun q => ?_)
    · have hw := hT3 q
      exact hj_10 _ hw hok
    · have hw := hN4 q
      refine g_iconst hE1 dJ5_inc_8 ?_
      refine g_istn0 hE1 dJ5_inc_9 (by decide) rfl ?_
      exact hj_10 _ hw hok

/-- java/util/ArrayDeque.addLast(Ljava/lang/Object;)V -/
def wx_J5_addLast (X : XT) (o : Nat) (x1 : Option Nat) (T : xT) (I : xI) (R : xR) (L : xL) (Q : xI → xR → Prop) : Prop :=
  (x1 = none →
    False) ∧
  (∀ b1 : Nat, x1 = some b1 →
    xtag T o = 5 ∧
    ∃ b4 : Nat, R o 0 = some b4 ∧ xtag T b4 = 103 ∧ ib (I o 2) (xlen T b4) ∧ xlen T b4 < 2147483648 ∧ xOb (xtag T b1) ∧ ∀ R10 : xR, R10 = uR R b4 (I o 2) (some b1) →
    wx_J5_inc X (I o 2) (xlen T b4 : Int) T I R10 L (fun (r11 : Int) => 
    ∀ I13 : xI, I13 = uI I o 2 r11 →
    cEq (I o 1) r11
      (
      False)
      (
      Q I13 R10)))
theorem hx_J5_addLast : yJ5_addLast.cls = RJ5 ∧ yJ5_addLast.cls ≠ "java/lang/invoke/MethodHandle" ∧ yJ5_addLast.cls ≠ "java/lang/invoke/VarHandle" ∧ (parseMethodDescriptor yJ5_addLast.desc).map (fun d => d.parameters.length) = some 1 := by decide +kernel
set_option maxHeartbeats 4000000 in
theorem tx_J5_addLast (X : XT) {o : Nat} {x1 : Option Nat} {T : xT} {I : xI} {R : xR} {L : xL} {Q : xI → xR → Prop} (hw : wx_J5_addLast X o x1 T I R L Q) : CtX X yJ5_addLast cJ5_addLast 3 none (rmX 1 0 0 21) [aR (some o), aR x1] T I R L (PXvIR T I R L Q) := by
  refine CtX.intro (by decide) (Nat.le_of_ble_eq_true rfl) (fun E hE hR hN => ?_)
  have hRm := hR.rm
  have hE : OkX E X RJ5 cJ5_addLast 3 none := hE
  have hE1 := hE.1
  show GX E X T I R L 0 0 0 [some (aR (some o)), some (aR x1), none] []
  unfold wx_J5_addLast at hw
  intro hok
  refine g_aldn1 hE1 dJ5_addLast_0 ?_
  refine g_ifnonnull hE1 (tgt := 12) dJ5_addLast_1 (by decide) (fun q => ?_) (fun b1 hb2 => ?_)
  · have hw := hw.1 q
    exact hw.elim
  · have hw := hw.2 b1 hb2
    rw [hb2]
    refine g_aldn0 hE1 dJ5_addLast_12 ?_
    obtain ⟨ht3, hw⟩ := hw
    refine gx_getr hE in_J5 (t := 5) rfl (by decide) 0 0 rfl (by decide) rfl (by decide) rfl q258 (Or.inl rfl) ht3 dJ5_addLast_13 ?_ hok
    intro hok
    refine g_astn2 hE1 dJ5_addLast_16 (by decide) rfl ?_
    refine g_aldn2 hE1 dJ5_addLast_17 ?_
    refine g_aldn0 hE1 dJ5_addLast_18 ?_
    refine gx_geti hE in_J5 (t := 5) rfl (by decide) 2 2 rfl (by decide) rfl (by decide) rfl q260 (Or.inl rfl) ht3 dJ5_addLast_19 ?_ hok
    intro hok
    refine g_aldn1 hE1 dJ5_addLast_22 ?_
    obtain ⟨b4, hb5, hw⟩ := hw
    rw [hb5]
    obtain ⟨ht6, hw⟩ := hw
    obtain ⟨h7, h8, hw⟩ := hw
    obtain ⟨h9, hw⟩ := hw
    refine gx_aastA hE ht6 h9 h7 h8 dJ5_addLast_23 ?_ hok
    intro hok
    have hw := hw _ rfl
    generalize uR R b4 (I o 2) (some b1) = R10 at hw hok ⊢
    refine g_aldn0 hE1 dJ5_addLast_24 ?_
    refine gx_geti hE in_J5 (t := 5) rfl (by decide) 1 1 rfl (by decide) rfl (by decide) rfl q259 (Or.inl rfl) ht3 dJ5_addLast_25 ?_ hok
    intro hok
    refine g_aldn0 hE1 dJ5_addLast_28 ?_
    refine g_aldn0 hE1 dJ5_addLast_29 ?_
    refine gx_geti hE in_J5 (t := 5) rfl (by decide) 2 2 rfl (by decide) rfl (by decide) rfl q260 (Or.inl rfl) ht3 dJ5_addLast_30 ?_ hok
    intro hok
    refine g_aldn2 hE1 dJ5_addLast_33 ?_
    refine gx_alen hE ht6 (by decide) dJ5_addLast_34 ?_ hok
    intro hok
    refine gx_callS hE hRm (As := [aI (I o 2), aI (xlen T b4 : Int)]) hx_J5_inc (tx_J5_inc X hw) (lw_S q1171 q1172 q101 q1173) ⟨by decide, by decide⟩ ⟨(by decide), (by decide)⟩ rfl (Nat.le_of_ble_eq_true rfl) dJ5_addLast_35 rfl (fun r9 Tz Iz Rz Lz hΦ => ?_) hok
    obtain ⟨r11, rfl, rfl, rfl, rfl, rfl, hw⟩ := hΦ
    show GX E X T I R10 L 0 0 38 [some (aR (some o)), some (aR (some b1)), some (aR (some b4))] [aI r11, aR (some o), aI (I o 1)]
    intro hok
    refine g_dup_x1 hE1 dJ5_addLast_38 rfl rfl ?_
    refine gx_puti hE in_J5 (t := 5) rfl (by decide) 2 2 rfl (by decide) rfl (by decide) (ty := tyJ5 2) tyJ5 tyJ5_ok nmJ5 rfl q260 (Or.inl rfl) rfl (tyJ5_ok 2 (by decide)) rfl rfl ht3 dJ5_addLast_39 ?_ hok
    intro hok
    have hw := hw _ rfl
    generalize uI I o 2 r11 = I13 at hw hok ⊢
    obtain ⟨h14, h15, hT16, hN17⟩ := hw
    refine g_icmp_ne hE1 (tgt := 50) dJ5_addLast_42 (by decide) h14 h15 (fun q => ?_) (fun q => ?_)
    · have hw := hT16 q
      refine g_aldn0 hE1 dJ5_addLast_45 ?_
      refine g_iconst hE1 dJ5_addLast_46 ?_
      exact hw.elim
    · have hw := hN17 q
      exact gx_vret hE hR dJ5_addLast_50 (by decide) (by decide) ⟨rfl, rfl, rfl, hw⟩ hok

/-- java/util/ArrayDeque.sub(III)I -/
def wx_J5_sub (X : XT) (x0 : Int) (x1 : Int) (x2 : Int) (T : xT) (I : xI) (R : xR) (L : xL) (Q : Int → Prop) : Prop :=
  jn1 (fun (x0_12 : Int) => 
      Q x0_12)
    (fun (J_12 : Int → Prop) =>
    cLt (x0 - x1) 0
      (
      J_12 ((x0 - x1) + x2))
      (
      J_12 (x0 - x1)))
theorem hx_J5_sub : yJ5_sub.cls ≠ "java/lang/invoke/MethodHandle" ∧ yJ5_sub.cls ≠ "java/lang/invoke/VarHandle" ∧ (parseMethodDescriptor yJ5_sub.desc).map (fun d => d.parameters.length) = some 3 := by decide +kernel
set_option maxHeartbeats 4000000 in
theorem tx_J5_sub (X : XT) {x0 : Int} {x1 : Int} {x2 : Int} {T : xT} {I : xI} {R : xR} {L : xL} {Q : Int → Prop} (hw : wx_J5_sub X x0 x1 x2 T I R L Q) : CtX X yJ5_sub cJ5_sub 3 (some .int) (rmX 0 0 0 0) [aI x0, aI x1, aI x2] T I R L (PXi T I R L Q) := by
  refine CtX.intro (by decide) (Nat.le_of_ble_eq_true rfl) (fun E hE hR hN => ?_)
  have hRm := hR.rm
  have hE : OkX E X RJ5 cJ5_sub 3 (some .int) := hE
  have hE1 := hE.1
  show GX E X T I R L 0 0 0 [some (aI x0), some (aI x1), some (aI x2)] []
  unfold wx_J5_sub at hw
  intro hok
  refine g_ildn0 hE1 dJ5_sub_0 ?_
  refine g_ildn1 hE1 dJ5_sub_1 ?_
  refine g_isub hE1 dJ5_sub_2 ?_
  refine g_dup hE1 dJ5_sub_3 rfl ?_
  refine g_istn0 hE1 dJ5_sub_4 (by decide) rfl ?_
  refine jn1_walk (fun (x0_12 : Int) => GX E X T I R L 0 0 12 [some (aI x0_12), some (aI x1), some (aI x2)] []) hw (fun x0_12 hw => ?_) (fun J_12 hj_12 hw => ?_)
  · intro hok
    refine g_ildn0 hE1 dJ5_sub_12 ?_
    exact gx_iret hE hR dJ5_sub_13 (by decide) (by decide) rfl ⟨_, rfl, rfl, rfl, rfl, rfl, hw⟩ hok
  · skip
    obtain ⟨h1, h2, hT3, hN4⟩ := hw
    refine g_if_ge hE1 (tgt := 12) dJ5_sub_5 (by decide) h1 (fun q => ?_) (fun q => ?_)
    · have hw := hT3 q
      refine g_ildn0 hE1 dJ5_sub_8 ?_
      refine g_ildn2 hE1 dJ5_sub_9 ?_
      refine g_iadd hE1 dJ5_sub_10 ?_
      refine g_istn0 hE1 dJ5_sub_11 (by decide) rfl ?_
      exact hj_12 _ hw hok
    · have hw := hN4 q
      exact hj_12 _ hw hok

/-- java/util/ArrayDeque.size()I -/
def wx_J5_size (X : XT) (o : Nat)  (T : xT) (I : xI) (R : xR) (L : xL) (Q : Int → Prop) : Prop :=
  xtag T o = 5 ∧
  ∃ b2 : Nat, R o 0 = some b2 ∧ xtag T b2 = 103 ∧
  wx_J5_sub X (I o 2) (I o 1) (xlen T b2 : Int) T I R L (fun (r5 : Int) => 
  Q r5)
theorem hx_J5_size : yJ5_size.cls = RJ5 ∧ yJ5_size.cls ≠ "java/lang/invoke/MethodHandle" ∧ yJ5_size.cls ≠ "java/lang/invoke/VarHandle" ∧ (parseMethodDescriptor yJ5_size.desc).map (fun d => d.parameters.length) = some 0 := by decide +kernel
set_option maxHeartbeats 4000000 in
theorem tx_J5_size (X : XT) {o : Nat}  {T : xT} {I : xI} {R : xR} {L : xL} {Q : Int → Prop} (hw : wx_J5_size X o T I R L Q) : CtX X yJ5_size cJ5_size 1 (some .int) (rmX 1 0 0 22) [aR (some o)] T I R L (PXi T I R L Q) := by
  refine CtX.intro (by decide) (Nat.le_of_ble_eq_true rfl) (fun E hE hR hN => ?_)
  have hRm := hR.rm
  have hE : OkX E X RJ5 cJ5_size 1 (some .int) := hE
  have hE1 := hE.1
  show GX E X T I R L 0 0 0 [some (aR (some o))] []
  unfold wx_J5_size at hw
  intro hok
  refine g_aldn0 hE1 dJ5_size_0 ?_
  obtain ⟨ht1, hw⟩ := hw
  refine gx_geti hE in_J5 (t := 5) rfl (by decide) 2 2 rfl (by decide) rfl (by decide) rfl q260 (Or.inl rfl) ht1 dJ5_size_1 ?_ hok
  intro hok
  refine g_aldn0 hE1 dJ5_size_4 ?_
  refine gx_geti hE in_J5 (t := 5) rfl (by decide) 1 1 rfl (by decide) rfl (by decide) rfl q259 (Or.inl rfl) ht1 dJ5_size_5 ?_ hok
  intro hok
  refine g_aldn0 hE1 dJ5_size_8 ?_
  refine gx_getr hE in_J5 (t := 5) rfl (by decide) 0 0 rfl (by decide) rfl (by decide) rfl q258 (Or.inl rfl) ht1 dJ5_size_9 ?_ hok
  intro hok
  obtain ⟨b2, hb3, hw⟩ := hw
  rw [hb3]
  obtain ⟨ht4, hw⟩ := hw
  refine gx_alen hE ht4 (by decide) dJ5_size_12 ?_ hok
  intro hok
  refine gx_callS hE hRm (As := [aI (I o 2), aI (I o 1), aI (xlen T b2 : Int)]) hx_J5_sub (tx_J5_sub X hw) (lw_S q1190 q1191 q101 q1192) ⟨by decide, by decide⟩ ⟨(by decide), (by decide)⟩ rfl (Nat.le_of_ble_eq_true rfl) dJ5_size_13 rfl (fun r9 Tz Iz Rz Lz hΦ => ?_) hok
  obtain ⟨r5, rfl, rfl, rfl, rfl, rfl, hw⟩ := hΦ
  show GX E X T I R L 0 0 16 [some (aR (some o))] [aI r5]
  intro hok
  exact gx_iret hE hR dJ5_size_16 (by decide) (by decide) rfl ⟨_, rfl, rfl, rfl, rfl, rfl, hw⟩ hok

/-- java/util/ArrayDeque.elementAt([Ljava/lang/Object;I)Ljava/lang/Object; -/
def wx_J5_elementAt (X : XT) (x0 : Option Nat) (x1 : Int) (T : xT) (I : xI) (R : xR) (L : xL) (Q : Option Nat → Prop) : Prop :=
  ∃ b1 : Nat, x0 = some b1 ∧ xtag T b1 = 103 ∧ ib x1 (xlen T b1) ∧ xlen T b1 < 2147483648 ∧
  Q (R b1 x1)
theorem hx_J5_elementAt : yJ5_elementAt.cls ≠ "java/lang/invoke/MethodHandle" ∧ yJ5_elementAt.cls ≠ "java/lang/invoke/VarHandle" ∧ (parseMethodDescriptor yJ5_elementAt.desc).map (fun d => d.parameters.length) = some 2 := by decide +kernel
set_option maxHeartbeats 4000000 in
theorem tx_J5_elementAt (X : XT) {x0 : Option Nat} {x1 : Int} {T : xT} {I : xI} {R : xR} {L : xL} {Q : Option Nat → Prop} (hw : wx_J5_elementAt X x0 x1 T I R L Q) : CtX X yJ5_elementAt cJ5_elementAt 2 (some (.object "java/lang/Object")) (rmX 0 0 0 0) [aR x0, aI x1] T I R L (PXq T I R L Q) := by
  refine CtX.intro (by decide) (Nat.le_of_ble_eq_true rfl) (fun E hE hR hN => ?_)
  have hRm := hR.rm
  have hE : OkX E X RJ5 cJ5_elementAt 2 (some (.object "java/lang/Object")) := hE
  have hE1 := hE.1
  show GX E X T I R L 0 0 0 [some (aR x0), some (aI x1)] []
  unfold wx_J5_elementAt at hw
  intro hok
  refine g_aldn0 hE1 dJ5_elementAt_0 ?_
  refine g_ildn1 hE1 dJ5_elementAt_1 ?_
  obtain ⟨b1, hb2, hw⟩ := hw
  rw [hb2]
  obtain ⟨ht3, hw⟩ := hw
  obtain ⟨h4, h5, hw⟩ := hw
  refine gx_aald hE ht3 (by decide) h4 h5 dJ5_elementAt_2 ?_ hok
  intro hok
  exact gx_aret hE hR dJ5_elementAt_3 (by decide) (by decide) (Or.inl ⟨_, rfl⟩) ⟨_, rfl, rfl, rfl, rfl, rfl, hw⟩ hok

/-- java/util/ArrayDeque.pollFirst()Ljava/lang/Object; -/
def wx_J5_pollFirst (X : XT) (o : Nat)  (T : xT) (I : xI) (R : xR) (L : xL) (Q : Option Nat → xI → xR → Prop) : Prop :=
  xtag T o = 5 ∧
  wx_J5_elementAt X (R o 0) (I o 1) T I R L (fun (r2 : Option Nat) => 
  jn2 (fun (I_34 : xI) (R_34 : xR) => 
      Q r2 I_34 R_34)
    (fun (J_34 : xI → xR → Prop) =>
    (r2 = none →
      J_34 I R) ∧
    (∀ b4 : Nat, r2 = some b4 →
      ∃ b6 : Nat, R o 0 = some b6 ∧ xtag T b6 = 103 ∧ ib (I o 1) (xlen T b6) ∧ xlen T b6 < 2147483648 ∧ ∀ R11 : xR, R11 = uR R b6 (I o 1) none →
      wx_J5_inc X (I o 1) (xlen T b6 : Int) T I R11 L (fun (r12 : Int) => 
      ∀ I14 : xI, I14 = uI I o 1 r12 →
      J_34 I14 R11))))
theorem hx_J5_pollFirst : yJ5_pollFirst.cls = RJ5 ∧ yJ5_pollFirst.cls ≠ "java/lang/invoke/MethodHandle" ∧ yJ5_pollFirst.cls ≠ "java/lang/invoke/VarHandle" ∧ (parseMethodDescriptor yJ5_pollFirst.desc).map (fun d => d.parameters.length) = some 0 := by decide +kernel
set_option maxHeartbeats 4000000 in
theorem tx_J5_pollFirst (X : XT) {o : Nat}  {T : xT} {I : xI} {R : xR} {L : xL} {Q : Option Nat → xI → xR → Prop} (hw : wx_J5_pollFirst X o T I R L Q) : CtX X yJ5_pollFirst cJ5_pollFirst 4 (some (.object "java/lang/Object")) (rmX 1 0 0 21) [aR (some o)] T I R L (PXqIR T I R L Q) := by
  refine CtX.intro (by decide) (Nat.le_of_ble_eq_true rfl) (fun E hE hR hN => ?_)
  have hRm := hR.rm
  have hE : OkX E X RJ5 cJ5_pollFirst 4 (some (.object "java/lang/Object")) := hE
  have hE1 := hE.1
  show GX E X T I R L 0 0 0 [some (aR (some o)), none, none, none] []
  unfold wx_J5_pollFirst at hw
  intro hok
  refine g_aldn0 hE1 dJ5_pollFirst_0 ?_
  obtain ⟨ht1, hw⟩ := hw
  refine gx_getr hE in_J5 (t := 5) rfl (by decide) 0 0 rfl (by decide) rfl (by decide) rfl q258 (Or.inl rfl) ht1 dJ5_pollFirst_1 ?_ hok
  intro hok
  refine g_dup hE1 dJ5_pollFirst_4 rfl ?_
  refine g_astn1 hE1 dJ5_pollFirst_5 (by decide) rfl ?_
  refine g_aldn0 hE1 dJ5_pollFirst_6 ?_
  refine gx_geti hE in_J5 (t := 5) rfl (by decide) 1 1 rfl (by decide) rfl (by decide) rfl q259 (Or.inl rfl) ht1 dJ5_pollFirst_7 ?_ hok
  intro hok
  refine g_dup hE1 dJ5_pollFirst_10 rfl ?_
  refine g_istn2 hE1 dJ5_pollFirst_11 (by decide) rfl ?_
  refine gx_callS hE hRm (As := [aR (R o 0), aI (I o 1)]) hx_J5_elementAt (tx_J5_elementAt X hw) (lw_S q1201 q1202 q101 q1203) ⟨by decide, by decide⟩ ⟨(by decide), (by decide)⟩ rfl (Nat.le_of_ble_eq_true rfl) dJ5_pollFirst_12 rfl (fun r9 Tz Iz Rz Lz hΦ => ?_) hok
  obtain ⟨r2, rfl, rfl, rfl, rfl, rfl, hw⟩ := hΦ
  show GX E X T I R L 0 0 15 [some (aR (some o)), some (aR (R o 0)), some (aI (I o 1)), none] [aR r2]
  intro hok
  refine g_astn3 hE1 dJ5_pollFirst_15 (by decide) rfl ?_
  refine g_aldn3 hE1 dJ5_pollFirst_16 ?_
  refine jn2_walk (fun (I_34 : xI) (R_34 : xR) => GX E X T I_34 R_34 L 0 0 34 [some (aR (some o)), some (aR (R o 0)), some (aI (I o 1)), some (aR r2)] []) hw (fun I_34 R_34 hw => ?_) (fun J_34 hj_34 hw => ?_)
  · intro hok
    refine g_aldn3 hE1 dJ5_pollFirst_34 ?_
    exact gx_aret hE hR dJ5_pollFirst_35 (by decide) (by decide) (Or.inl ⟨_, rfl⟩) ⟨_, rfl, rfl, rfl, hw⟩ hok
  · skip
    refine g_ifnull hE1 (tgt := 34) dJ5_pollFirst_17 (by decide) (fun q => ?_) (fun b4 hb5 => ?_)
    · have hw := hw.1 q
      exact hj_34 _ _ hw hok
    · have hw := hw.2 b4 hb5
      rw [hb5]
      refine g_aldn1 hE1 dJ5_pollFirst_20 ?_
      refine g_ildn2 hE1 dJ5_pollFirst_21 ?_
      refine g_null hE1 dJ5_pollFirst_22 ?_
      obtain ⟨b6, hb7, hw⟩ := hw
      rw [hb7]
      obtain ⟨ht8, hw⟩ := hw
      obtain ⟨h9, h10, hw⟩ := hw
      refine gx_aastN hE ht8 (by decide) h9 h10 dJ5_pollFirst_23 ?_ hok
      intro hok
      have hw := hw _ rfl
      generalize uR R b6 (I o 1) none = R11 at hw hok ⊢
      refine g_aldn0 hE1 dJ5_pollFirst_24 ?_
      refine g_ildn2 hE1 dJ5_pollFirst_25 ?_
      refine g_aldn1 hE1 dJ5_pollFirst_26 ?_
      refine gx_alen hE ht8 (by decide) dJ5_pollFirst_27 ?_ hok
      intro hok
      refine gx_callS hE hRm (As := [aI (I o 1), aI (xlen T b6 : Int)]) hx_J5_inc (tx_J5_inc X hw) (lw_S q1171 q1172 q101 q1173) ⟨by decide, by decide⟩ ⟨(by decide), (by decide)⟩ rfl (Nat.le_of_ble_eq_true rfl) dJ5_pollFirst_28 rfl (fun r9 Tz Iz Rz Lz hΦ => ?_) hok
      obtain ⟨r12, rfl, rfl, rfl, rfl, rfl, hw⟩ := hΦ
      show GX E X T I R11 L 0 0 31 [some (aR (some o)), some (aR (some b6)), some (aI (I o 1)), some (aR (some b4))] [aI r12, aR (some o)]
      intro hok
      refine gx_puti hE in_J5 (t := 5) rfl (by decide) 1 1 rfl (by decide) rfl (by decide) (ty := tyJ5 1) tyJ5 tyJ5_ok nmJ5 rfl q259 (Or.inl rfl) rfl (tyJ5_ok 1 (by decide)) rfl rfl ht1 dJ5_pollFirst_31 ?_ hok
      intro hok
      have hw := hw _ rfl
      generalize uI I o 1 r12 = I14 at hw hok ⊢
      simpa only [hb5, hb7] using hj_34 _ _ hw hok

/-- java/util/ArrayDeque.removeFirst()Ljava/lang/Object; -/
def wx_J5_removeFirst (X : XT) (o : Nat)  (T : xT) (I : xI) (R : xR) (L : xL) (Q : Option Nat → xI → xR → Prop) : Prop :=
  xtag T o = 5 ∧ wx_J5_pollFirst X o T I R L (fun (r2 : Option Nat) (I3 : xI) (R4 : xR) => 
  (r2 = none →
    False) ∧
  (∀ b6 : Nat, r2 = some b6 →
    Q (some b6) I3 R4))
theorem hx_J5_removeFirst : yJ5_removeFirst.cls = RJ5 ∧ yJ5_removeFirst.cls ≠ "java/lang/invoke/MethodHandle" ∧ yJ5_removeFirst.cls ≠ "java/lang/invoke/VarHandle" ∧ (parseMethodDescriptor yJ5_removeFirst.desc).map (fun d => d.parameters.length) = some 0 := by decide +kernel
set_option maxHeartbeats 4000000 in
theorem tx_J5_removeFirst (X : XT) {o : Nat}  {T : xT} {I : xI} {R : xR} {L : xL} {Q : Option Nat → xI → xR → Prop} (hw : wx_J5_removeFirst X o T I R L Q) : CtX X yJ5_removeFirst cJ5_removeFirst 2 (some (.object "java/lang/Object")) (rmX 2 0 0 44) [aR (some o)] T I R L (PXqIR T I R L Q) := by
  refine CtX.intro (by decide) (Nat.le_of_ble_eq_true rfl) (fun E hE hR hN => ?_)
  have hRm := hR.rm
  have hE : OkX E X RJ5 cJ5_removeFirst 2 (some (.object "java/lang/Object")) := hE
  have hE1 := hE.1
  show GX E X T I R L 0 0 0 [some (aR (some o)), none] []
  unfold wx_J5_removeFirst at hw
  intro hok
  refine g_aldn0 hE1 dJ5_removeFirst_0 ?_
  obtain ⟨ht1, hw⟩ := hw
  refine gx_callV hE hRm (As := []) ht1 (by decide) (by decide) rfl hx_J5_pollFirst (tx_J5_pollFirst X hw) (lw_V q1197 q1198 q1199 q101 q1200) ⟨by decide, by decide⟩ ⟨(by decide), (by decide)⟩ rfl (Nat.le_of_ble_eq_true rfl) dJ5_removeFirst_1 rfl (fun r9 Tz I3 R4 Lz hΦ => ?_) hok
  obtain ⟨r2, rfl, rfl, rfl, hw⟩ := hΦ
  show GX E X T I3 R4 L 0 0 4 [some (aR (some o)), none] [aR r2]
  intro hok
  refine g_astn1 hE1 dJ5_removeFirst_4 (by decide) rfl ?_
  refine g_aldn1 hE1 dJ5_removeFirst_5 ?_
  refine g_ifnonnull hE1 (tgt := 17) dJ5_removeFirst_6 (by decide) (fun q => ?_) (fun b6 hb7 => ?_)
  · have hw := hw.1 q
    exact hw.elim
  · have hw := hw.2 b6 hb7
    rw [hb7]
    refine g_aldn1 hE1 dJ5_removeFirst_17 ?_
    exact gx_aret hE hR dJ5_removeFirst_18 (by decide) (by decide) (Or.inl ⟨_, rfl⟩) ⟨_, rfl, rfl, rfl, hw⟩ hok

/-- WhalingLogs.changed(LWhalingLogs$Archive;I)I -/
def wx_X0_changed (X : XT) (o : Nat) (x1 : Option Nat) (x2 : Int) (T : xT) (I : xI) (R : xR) (L : xL) (Q : Int → xI → xR → Prop) : Prop :=
  xtag T o = 1 ∧
  ∃ b2 : Nat, R o 2 = some b2 ∧ xtag T b2 = 5 ∧ wx_J5_addLast X b2 x1 T I R L (fun (I5 : xI) (R6 : xR) => 
  ∃ b8 : Nat, R6 o 2 = some b8 ∧ xtag T b8 = 5 ∧ wx_J5_size X b8 T I5 R6 L (fun (r11 : Int) => 
  jn2 (fun (I_28 : xI) (R_28 : xR) => 
      Q x2 I_28 R_28)
    (fun (J_28 : xI → xR → Prop) =>
    cLt 8 r11
      (
      ∃ b13 : Nat, R6 o 2 = some b13 ∧ xtag T b13 = 5 ∧ wx_J5_removeFirst X b13 T I5 R6 L (fun (r16 : Option Nat) (I17 : xI) (R18 : xR) => 
      J_28 I17 R18))
      (
      J_28 I5 R6))))
theorem hx_X0_changed : yX0_changed.cls = RX0 ∧ yX0_changed.cls ≠ "java/lang/invoke/MethodHandle" ∧ yX0_changed.cls ≠ "java/lang/invoke/VarHandle" ∧ (parseMethodDescriptor yX0_changed.desc).map (fun d => d.parameters.length) = some 2 := by decide +kernel
set_option maxHeartbeats 4000000 in
theorem tx_X0_changed (X : XT) {o : Nat} {x1 : Option Nat} {x2 : Int} {T : xT} {I : xI} {R : xR} {L : xL} {Q : Int → xI → xR → Prop} (hw : wx_X0_changed X o x1 x2 T I R L Q) : CtX X yX0_changed cX0_changed 3 (some .int) (rmX 3 0 0 65) [aR (some o), aR x1, aI x2] T I R L (PXiIR T I R L Q) := by
  refine CtX.intro (by decide) (Nat.le_of_ble_eq_true rfl) (fun E hE hR hN => ?_)
  have hRm := hR.rm
  have hE : OkX E X RX0 cX0_changed 3 (some .int) := hE
  have hE1 := hE.1
  show GX E X T I R L 0 0 0 [some (aR (some o)), some (aR x1), some (aI x2)] []
  unfold wx_X0_changed at hw
  intro hok
  refine g_aldn0 hE1 dX0_changed_0 ?_
  obtain ⟨ht1, hw⟩ := hw
  refine gx_getr hE in_X0 (t := 1) rfl (by decide) 2 2 rfl (by decide) rfl (by decide) rfl q355 (Or.inl rfl) ht1 dX0_changed_1 ?_ hok
  intro hok
  refine g_aldn1 hE1 dX0_changed_4 ?_
  obtain ⟨b2, hb3, hw⟩ := hw
  rw [hb3]
  obtain ⟨ht4, hw⟩ := hw
  refine gx_callV hE hRm (As := [aR x1]) ht4 (by decide) (by decide) rfl hx_J5_addLast (tx_J5_addLast X hw) (lw_V q1167 q1168 q1169 q101 q1170) ⟨by decide, by decide⟩ ⟨(by decide), (by decide)⟩ rfl (Nat.le_of_ble_eq_true rfl) dX0_changed_5 rfl (fun r9 Tz I5 R6 Lz hΦ => ?_) hok
  obtain ⟨rfl, rfl, rfl, hw⟩ := hΦ
  show GX E X T I5 R6 L 0 0 8 [some (aR (some o)), some (aR x1), some (aI x2)] []
  intro hok
  refine g_aldn0 hE1 dX0_changed_8 ?_
  refine gx_getr hE in_X0 (t := 1) rfl (by decide) 2 2 rfl (by decide) rfl (by decide) rfl q355 (Or.inl rfl) ht1 dX0_changed_9 ?_ hok
  intro hok
  obtain ⟨b8, hb9, hw⟩ := hw
  rw [hb9]
  obtain ⟨ht10, hw⟩ := hw
  refine gx_callV hE hRm (As := []) ht10 (by decide) (by decide) rfl hx_J5_size (tx_J5_size X hw) (lw_V q1186 q1187 q1188 q101 q1189) ⟨by decide, by decide⟩ ⟨(by decide), (by decide)⟩ rfl (Nat.le_of_ble_eq_true rfl) dX0_changed_12 rfl (fun r9 Tz Iz Rz Lz hΦ => ?_) hok
  obtain ⟨r11, rfl, rfl, rfl, rfl, rfl, hw⟩ := hΦ
  show GX E X T I5 R6 L 0 0 15 [some (aR (some o)), some (aR x1), some (aI x2)] [aI r11]
  intro hok
  refine g_bipush hE1 dX0_changed_15 (by decide) ?_
  refine jn2_walk (fun (I_28 : xI) (R_28 : xR) => GX E X T I_28 R_28 L 0 0 28 [some (aR (some o)), some (aR x1), some (aI x2)] []) hw (fun I_28 R_28 hw => ?_) (fun J_28 hj_28 hw => ?_)
  · intro hok
    refine g_ildn2 hE1 dX0_changed_28 ?_
    exact gx_iret hE hR dX0_changed_29 (by decide) (by decide) rfl ⟨_, rfl, rfl, rfl, hw⟩ hok
  · skip
    obtain ⟨h20, h21, hT22, hN23⟩ := hw
    refine g_icmp_le hE1 (tgt := 28) dX0_changed_17 (by decide) h21 h20 (fun q => ?_) (fun q => ?_)
    · have hw := hT22 q
      refine g_aldn0 hE1 dX0_changed_20 ?_
      refine gx_getr hE in_X0 (t := 1) rfl (by decide) 2 2 rfl (by decide) rfl (by decide) rfl q355 (Or.inl rfl) ht1 dX0_changed_21 ?_ hok
      intro hok
      obtain ⟨b13, hb14, hw⟩ := hw
      rw [hb14]
      obtain ⟨ht15, hw⟩ := hw
      refine gx_callV hE hRm (As := []) ht15 (by decide) (by decide) rfl hx_J5_removeFirst (tx_J5_removeFirst X hw) (lw_V q1193 q1194 q1195 q101 q1196) ⟨by decide, by decide⟩ ⟨(by decide), (by decide)⟩ rfl (Nat.le_of_ble_eq_true rfl) dX0_changed_24 rfl (fun r9 Tz I17 R18 Lz hΦ => ?_) hok
      obtain ⟨r16, rfl, rfl, rfl, hw⟩ := hΦ
      show GX E X T I17 R18 L 0 0 27 [some (aR (some o)), some (aR x1), some (aI x2)] [aR r16]
      intro hok
      refine g_pop hE1 dX0_changed_27 rfl ?_
      exact hj_28 _ _ hw hok
    · have hw := hN23 q
      exact hj_28 _ _ hw hok

/-- WhalingLogs.refused(LWhalingLogs$Refused;)I -/
def wx_X0_refused (X : XT) (o : Nat) (x1 : Option Nat) (T : xT) (I : xI) (R : xR) (L : xL) (Q : Int → xI → Prop) : Prop :=
  ∃ b1 : Nat, x1 = some b1 ∧ xtag T b1 = 14 ∧
  xtag T o = 1 ∧ ∀ I5 : xI, I5 = uI I o 3 (I b1 6) →
  ∀ I6 : xI, I6 = uI I5 o 4 (I5 b1 7) →
  Q (-4) I6
theorem hx_X0_refused : yX0_refused.cls = RX0 ∧ yX0_refused.cls ≠ "java/lang/invoke/MethodHandle" ∧ yX0_refused.cls ≠ "java/lang/invoke/VarHandle" ∧ (parseMethodDescriptor yX0_refused.desc).map (fun d => d.parameters.length) = some 1 := by decide +kernel
set_option maxHeartbeats 4000000 in
theorem tx_X0_refused (X : XT) {o : Nat} {x1 : Option Nat} {T : xT} {I : xI} {R : xR} {L : xL} {Q : Int → xI → Prop} (hw : wx_X0_refused X o x1 T I R L Q) : CtX X yX0_refused cX0_refused 2 (some .int) (rmX 0 0 0 0) [aR (some o), aR x1] T I R L (PXiI T I R L Q) := by
  refine CtX.intro (by decide) (Nat.le_of_ble_eq_true rfl) (fun E hE hR hN => ?_)
  have hRm := hR.rm
  have hE : OkX E X RX0 cX0_refused 2 (some .int) := hE
  have hE1 := hE.1
  show GX E X T I R L 0 0 0 [some (aR (some o)), some (aR x1)] []
  unfold wx_X0_refused at hw
  intro hok
  refine g_aldn0 hE1 dX0_refused_0 ?_
  refine g_aldn1 hE1 dX0_refused_1 ?_
  obtain ⟨b1, hb2, hw⟩ := hw
  rw [hb2]
  obtain ⟨ht3, hw⟩ := hw
  refine gx_getiN hE in_X7 (t := 14) rfl (by decide) 6 6 rfl (by decide) rfl (by decide) rfl q1123 (Or.inl rfl) ht3 dX0_refused_2 ?_ hok
  intro hok
  obtain ⟨ht4, hw⟩ := hw
  refine gx_puti hE in_X0 (t := 1) rfl (by decide) 3 3 rfl (by decide) rfl (by decide) (ty := tyX0 3) tyX0 tyX0_ok nmX0 rfl q356 (Or.inl rfl) rfl (tyX0_ok 3 (by decide)) rfl rfl ht4 dX0_refused_5 ?_ hok
  intro hok
  have hw := hw _ rfl
  generalize uI I o 3 (I b1 6) = I5 at hw hok ⊢
  refine g_aldn0 hE1 dX0_refused_8 ?_
  refine g_aldn1 hE1 dX0_refused_9 ?_
  refine gx_getiN hE in_X7 (t := 14) rfl (by decide) 7 7 rfl (by decide) rfl (by decide) rfl q1125 (Or.inl rfl) ht3 dX0_refused_10 ?_ hok
  intro hok
  refine gx_puti hE in_X0 (t := 1) rfl (by decide) 4 4 rfl (by decide) rfl (by decide) (ty := tyX0 4) tyX0 tyX0_ok nmX0 rfl q357 (Or.inl rfl) rfl (tyX0_ok 4 (by decide)) rfl rfl ht4 dX0_refused_13 ?_ hok
  intro hok
  have hw := hw _ rfl
  generalize uI I5 o 4 (I5 b1 7) = I6 at hw hok ⊢
  refine g_bipush hE1 dX0_refused_16 (by decide) ?_
  exact gx_iret hE hR dX0_refused_18 (by decide) (by decide) rfl ⟨_, rfl, rfl, rfl, rfl, hw⟩ hok

/-- WhalingLogs.land(IZ)I -/
def wx_X0_land (X : XT) (o : Nat) (x1 : Int) (x2 : Int) (T : xT) (I : xI) (R : xR) (L : xL) (Q : Int → xT → xI → xR → xL → Prop) : Prop :=
  wx_X0_isCell X x1 T I R L (fun (r1 : Int) => 
  cEq r1 0
    (
    Q (-1) T I R L)
    (
    xtag T o = 1 ∧
    ∃ b4 : Nat, R o 0 = some b4 ∧ xtag T b4 = 2 ∧ wx_X1_copy X b4 T I R L (fun (r7 : Option Nat) (T8 : xT) (I9 : xI) (R10 : xR) (L11 : xL) => tle T T8 → 
    wx_X0_becomes X o (R10 o 0) x1 x2 T8 I9 R10 L11 (fun (r14 : Int) (T15 : xT) (I16 : xI) (R17 : xR) (L18 : xL) => tle T8 T15 → 
      wx_X0_changed X o r7 r14 T15 I16 R17 L18 (fun (r21 : Int) (I22 : xI) (R23 : xR) => 
      Q r21 T15 I22 R23 L18))
      (fun (e25 : Nat) (T26 : xT) (I27 : xI) (R28 : xR) (L29 : xL) => tle T8 T26 → xtag T26 e25 = 14 → 
      wx_X0_refused X o (some e25) T26 I27 R28 L29 (fun (r33 : Int) (I34 : xI) => 
      Q r33 T26 I34 R28 L29)))))
theorem hx_X0_land : yX0_land.cls = RX0 ∧ yX0_land.cls ≠ "java/lang/invoke/MethodHandle" ∧ yX0_land.cls ≠ "java/lang/invoke/VarHandle" ∧ (parseMethodDescriptor yX0_land.desc).map (fun d => d.parameters.length) = some 2 := by decide +kernel
set_option maxHeartbeats 4000000 in
theorem tx_X0_land (X : XT) {o : Nat} {x1 : Int} {x2 : Int} {T : xT} {I : xI} {R : xR} {L : xL} {Q : Int → xT → xI → xR → xL → Prop} (hw : wx_X0_land X o x1 x2 T I R L Q) : CtW X yX0_land cX0_land 5 (some .int) [(17, 32, 33, 55)] (rmX 7 162 1413 198) [aR (some o), aI x1, aI x2] T I R L (PXiTIRL T I R L Q) := by
  refine CtW.intro (by decide) (Nat.le_of_ble_eq_true rfl) (fun E hE hR hH hN => ?_)
  have hRm := hR.rm
  have hE : OkX E X RX0 cX0_land 5 (some .int) := hE
  have hE1 := hE.1
  show GX E X T I R L 0 0 0 [some (aR (some o)), some (aI x1), some (aI x2), none, none] []
  unfold wx_X0_land at hw
  intro hok
  refine g_ildn1 hE1 dX0_land_0 ?_
  refine gx_callS hE hRm (As := [aI x1]) hx_X0_isCell (tx_X0_isCell X hw) (lw_S q389 q390 q94 q391) ⟨by decide, by decide⟩ ⟨(by decide), (by decide)⟩ rfl (Nat.le_of_ble_eq_true rfl) dX0_land_1 rfl (fun r9 Tz Iz Rz Lz hΦ => ?_) hok
  obtain ⟨r1, rfl, rfl, rfl, rfl, rfl, hw⟩ := hΦ
  show GX E X T I R L 0 0 4 [some (aR (some o)), some (aI x1), some (aI x2), none, none] [aI r1]
  intro hok
  obtain ⟨h36, h37, hT38, hN39⟩ := hw
  refine g_if_ne hE1 (tgt := 9) dX0_land_4 (by decide) h36 (fun q => ?_) (fun q => ?_)
  · have hw := hT38 q
    refine g_iconst hE1 dX0_land_7 ?_
    exact gx_iret hE hR dX0_land_8 (by decide) (by decide) rfl ⟨_, rfl, tle.rf, hw⟩ hok
  · have hw := hN39 q
    refine g_aldn0 hE1 dX0_land_9 ?_
    obtain ⟨ht3, hw⟩ := hw
    refine gx_getr hE in_X0 (t := 1) rfl (by decide) 0 0 rfl (by decide) rfl (by decide) rfl q353 (Or.inl rfl) ht3 dX0_land_10 ?_ hok
    intro hok
    obtain ⟨b4, hb5, hw⟩ := hw
    rw [hb5]
    obtain ⟨ht6, hw⟩ := hw
    refine gx_callV hE hRm (As := []) ht6 (by decide) (by decide) rfl hx_X1_copy (tx_X1_copy X hw) (lw_V q395 q396 q397 q95 q398) ⟨by decide, by decide⟩ ⟨(by decide), (by decide)⟩ rfl (Nat.le_of_ble_eq_true rfl) dX0_land_13 rfl (fun r9 T8 I9 R10 L11 hΦ => ?_) hok
    obtain ⟨r7, rfl, hl12, hw⟩ := hΦ
    have hw := hw hl12
    show GX E X T8 I9 R10 L11 160 1400 16 [some (aR (some o)), some (aI x1), some (aI x2), none, none] [aR r7]
    intro hok
    refine g_astn3 hE1 dX0_land_16 (by decide) rfl ?_
    refine g_aldn0 hE1 dX0_land_17 ?_
    refine g_aldn3 hE1 dX0_land_18 ?_
    refine g_aldn0 hE1 dX0_land_19 ?_
    refine g_aldn0 hE1 dX0_land_20 ?_
    have ht13 := hl12.tag ht3 (by decide)
    refine gx_getr hE in_X0 (t := 1) rfl (by decide) 0 0 rfl (by decide) rfl (by decide) rfl q353 (Or.inl rfl) ht13 dX0_land_21 ?_ hok
    intro hok
    refine g_ildn1 hE1 dX0_land_24 ?_
    refine g_ildn2 hE1 dX0_land_25 ?_
    refine gy_callV hE hRm (As := [aR (R10 o 0), aI x1, aI x2]) ht13 (by decide) (by decide) rfl hx_X0_becomes (tx_X0_becomes X hw) (lw_V q1074 q1076 qs12 q94 q1077) ⟨by decide, by decide⟩ ⟨(by decide), (by decide)⟩ rfl (Nat.le_of_ble_eq_true rfl) dX0_land_26 rfl (fun r9 T15 I16 R17 L18 hΦ => ?_) (fun Ec q9 T26 I27 R28 L29 hΦ => ?_) hok
    · obtain ⟨r14, rfl, hl19, hw⟩ := hΦ
      have hw := hw hl19
      show GX E X T15 I16 R17 L18 162 1413 29 [some (aR (some o)), some (aI x1), some (aI x2), some (aR r7), none] [aI r14, aR r7, aR (some o)]
      intro hok
      have ht20 := (hl12.tr hl19).tag ht3 (by decide)
      refine gx_callV hE hRm (As := [aR r7, aI r14]) ht20 (by decide) (by decide) rfl hx_X0_changed (tx_X0_changed X hw) (lw_V q1163 q1165 qs16 q94 q1166) ⟨by decide, by decide⟩ ⟨(by decide), (by decide)⟩ rfl (Nat.le_of_ble_eq_true rfl) dX0_land_29 rfl (fun r9 Tz I22 R23 Lz hΦ => ?_) hok
      obtain ⟨r21, rfl, rfl, rfl, hw⟩ := hΦ
      show GX E X T15 I22 R23 L18 162 1413 32 [some (aR (some o)), some (aI x1), some (aI x2), some (aR r7), none] [aI r21]
      intro hok
      exact gx_iret hE hR dX0_land_32 (by decide) (by decide) rfl ⟨_, rfl, (hl12.tr hl19), hw⟩ hok
    · have hq9 : ∃ q8, q8 = q9 := ⟨_, rfl⟩
      obtain ⟨e25, rfl⟩ := hq9
      obtain ⟨rfl, hl30, ht31, hw⟩ := hΦ
      have hw := hw hl30 ht31
      refine gx_catch hE hH [] ⟨17, 32, 33, 55⟩ [] rfl (fun _ h9 => nomatch h9) (by decide) (by decide) q388 q1106 ?_
      show GX E X T26 I27 R28 L29 162 1413 33 [some (aR (some o)), some (aI x1), some (aI x2), some (aR r7), none] [aR (some e25)]
      intro hok
      refine g_ast4 hE1 dX0_land_33 (by decide) rfl ?_
      refine g_aldn0 hE1 dX0_land_35 ?_
      refine g_ald4 hE1 dX0_land_36 ?_
      have ht32 := (hl12.tr hl30).tag ht3 (by decide)
      refine gx_callV hE hRm (As := [aR (some e25)]) ht32 (by decide) (by decide) rfl hx_X0_refused (tx_X0_refused X hw) (lw_V q1204 q1206 qs19 q94 q1207) ⟨by decide, by decide⟩ ⟨(by decide), (by decide)⟩ rfl (Nat.le_of_ble_eq_true rfl) dX0_land_38 rfl (fun r9 Tz I34 Rz Lz hΦ => ?_) hok
      obtain ⟨r33, rfl, rfl, rfl, rfl, hw⟩ := hΦ
      show GX E X T26 I34 R28 L29 162 1413 41 [some (aR (some o)), some (aI x1), some (aI x2), some (aR r7), some (aR (some e25))] [aI r33]
      intro hok
      exact gx_iret hE hR dX0_land_41 (by decide) (by decide) rfl ⟨_, rfl, (hl12.tr hl30), hw⟩ hok

