set_option maxRecDepth 100000
/-- WhalingLogs$SpeedOrder.does(LWhalingLogs$Archive;)V -/
def wx_X11_does (X : XT) (o : Nat) (x1 : Option Nat) (T : xT) (I : xI) (R : xR) (L : xL) (Q : xT → xI → xR → Prop) (Y : Nat → xT → xI → xR → Prop) : Prop :=
  xtag T o = 19 ∧
  wx_X17_needs X (I o 0) 1 9 T I R L (fun (T2 : xT) (I3 : xI) (R4 : xR) => tle T T2 → 
    ∃ b7 : Nat, x1 = some b7 ∧ xtag T2 b7 = 2 ∧ ∀ I10 : xI, I10 = uI I3 b7 4 (I3 o 0) →
    Q T2 I10 R4)
    (fun (e11 : Nat) (T12 : xT) (I13 : xI) (R14 : xR) => tle T T12 → xtag T12 e11 = 14 → 
    Y e11 T12 I13 R14)
theorem hx_X11_does : yX11_does.cls = RX11 ∧ yX11_does.cls ≠ "java/lang/invoke/MethodHandle" ∧ yX11_does.cls ≠ "java/lang/invoke/VarHandle" ∧ (parseMethodDescriptor yX11_does.desc).map (fun d => d.parameters.length) = some 1 := by decide +kernel
set_option maxHeartbeats 4000000 in
theorem tx_X11_does (X : XT) {o : Nat} {x1 : Option Nat} {T : xT} {I : xI} {R : xR} {L : xL} {Q : xT → xI → xR → Prop} {Y : Nat → xT → xI → xR → Prop} (hw : wx_X11_does X o x1 T I R L Q Y) : CtY X yX11_does cX11_does 2 none (rmX 6 10 80 134) [aR (some o), aR x1] T I R L (PXvTIR T I R L Q) (PYTIR T I R L "WhalingLogs$Refused" 14 Y) := by
  refine CtY.intro (by decide) (Nat.le_of_ble_eq_true rfl) (fun E hE hR hY hN => ?_)
  have hRm := hR.rm
  have hE : OkX E X RX11 cX11_does 2 none := hE
  have hE1 := hE.1
  show GX E X T I R L 0 0 0 [some (aR (some o)), some (aR x1)] []
  unfold wx_X11_does at hw
  intro hok
  refine g_aldn0 hE1 dX11_does_0 ?_
  obtain ⟨ht1, hw⟩ := hw
  refine gx_geti hE in_X11 (t := 19) rfl (by decide) 0 0 rfl (by decide) rfl (by decide) rfl q1837 (Or.inl rfl) ht1 dX11_does_1 ?_ hok
  intro hok
  refine g_iconst hE1 dX11_does_4 ?_
  refine g_bipush hE1 dX11_does_5 (by decide) ?_
  refine gy_callS hE hRm (As := [aI (I o 0), aI 1, aI 9]) hx_X17_needs (tx_X17_needs X hw) (lw_S q1983 q1948 q142 q1949) ⟨by decide, by decide⟩ ⟨(by decide), (by decide)⟩ rfl (Nat.le_of_ble_eq_true rfl) dX11_does_7 rfl (fun r9 T2 I3 R4 Lz hΦ => ?_) (fun Ec q9 T12 I13 R14 Lz hΦ => ?_) hok
  · obtain ⟨rfl, rfl, hl5, hw⟩ := hΦ
    have hw := hw hl5
    show GX E X T2 I3 R4 L 1 8 10 [some (aR (some o)), some (aR x1)] []
    intro hok
    refine g_aldn1 hE1 dX11_does_10 ?_
    refine g_aldn0 hE1 dX11_does_11 ?_
    have ht6 := hl5.tag ht1 (by decide)
    refine gx_geti hE in_X11 (t := 19) rfl (by decide) 0 0 rfl (by decide) rfl (by decide) rfl q1837 (Or.inl rfl) ht6 dX11_does_12 ?_ hok
    intro hok
    obtain ⟨b7, hb8, hw⟩ := hw
    rw [hb8]
    obtain ⟨ht9, hw⟩ := hw
    refine gx_putiN hE in_X1 (t := 2) rfl (by decide) 4 4 rfl (by decide) rfl (by decide) (ty := tyX1 4) tyX1 tyX1_ok nmX1 rfl q231 (Or.inl rfl) rfl (tyX1_ok 4 (by decide)) rfl rfl ht9 dX11_does_15 ?_ hok
    intro hok
    have hw := hw _ rfl
    generalize uI I3 b7 4 (I3 o 0) = I10 at hw hok ⊢
    exact gx_vret hE hR dX11_does_18 (by decide) (by decide) ⟨rfl, rfl, hl5, hw⟩ hok
  · have hq9 : ∃ q8, q8 = q9 := ⟨_, rfl⟩
    obtain ⟨e11, rfl⟩ := hq9
    obtain ⟨rfl, rfl, hl15, ht16, hw⟩ := hΦ
    have hw := hw hl15 ht16
    exact gx_out hE hY (by decide) (by decide) ⟨rfl, rfl, hl15, ht16, hw⟩

/-- WhalingLogs$PageOrder.does(LWhalingLogs$Archive;)V -/
def wx_X12_does (X : XT) (o : Nat) (x1 : Option Nat) (T : xT) (I : xI) (R : xR) (L : xL) (Q : xT → xI → xR → Prop) (Y : Nat → xT → xI → xR → Prop) : Prop :=
  xtag T o = 20 ∧
  wx_X17_needs X (I o 0) 0 2 T I R L (fun (T2 : xT) (I3 : xI) (R4 : xR) => tle T T2 → 
    wx_X17_needs X (I3 o 1) 0 99 T2 I3 R4 L (fun (T7 : xT) (I8 : xI) (R9 : xR) => tle T2 T7 → 
      ∃ b12 : Nat, x1 = some b12 ∧ xtag T7 b12 = 2 ∧ wx_X1_addsPage X b12 (I8 o 0) (I8 o 1) T7 I8 R9 L (fun (r15 : Int) (T16 : xT) (I17 : xI) (R18 : xR) => tle T7 T16 → 
        Q T16 I17 R18)
        (fun (e20 : Nat) (T21 : xT) (I22 : xI) (R23 : xR) => tle T7 T21 → xtag T21 e20 = 14 → 
        Y e20 T21 I22 R23))
      (fun (e26 : Nat) (T27 : xT) (I28 : xI) (R29 : xR) => tle T2 T27 → xtag T27 e26 = 14 → 
      Y e26 T27 I28 R29))
    (fun (e32 : Nat) (T33 : xT) (I34 : xI) (R35 : xR) => tle T T33 → xtag T33 e32 = 14 → 
    Y e32 T33 I34 R35)
theorem hx_X12_does : yX12_does.cls = RX12 ∧ yX12_does.cls ≠ "java/lang/invoke/MethodHandle" ∧ yX12_does.cls ≠ "java/lang/invoke/VarHandle" ∧ (parseMethodDescriptor yX12_does.desc).map (fun d => d.parameters.length) = some 1 := by decide +kernel
set_option maxHeartbeats 4000000 in
theorem tx_X12_does (X : XT) {o : Nat} {x1 : Option Nat} {T : xT} {I : xI} {R : xR} {L : xL} {Q : xT → xI → xR → Prop} {Y : Nat → xT → xI → xR → Prop} (hw : wx_X12_does X o x1 T I R L Q Y) : CtY X yX12_does cX12_does 3 none (rmX 6 10 80 134) [aR (some o), aR x1] T I R L (PXvTIR T I R L Q) (PYTIR T I R L "WhalingLogs$Refused" 14 Y) := by
  refine CtY.intro (by decide) (Nat.le_of_ble_eq_true rfl) (fun E hE hR hY hN => ?_)
  have hRm := hR.rm
  have hE : OkX E X RX12 cX12_does 3 none := hE
  have hE1 := hE.1
  show GX E X T I R L 0 0 0 [some (aR (some o)), some (aR x1), none] []
  unfold wx_X12_does at hw
  intro hok
  refine g_aldn0 hE1 dX12_does_0 ?_
  obtain ⟨ht1, hw⟩ := hw
  refine gx_geti hE in_X12 (t := 20) rfl (by decide) 0 0 rfl (by decide) rfl (by decide) rfl q1851 (Or.inl rfl) ht1 dX12_does_1 ?_ hok
  intro hok
  refine g_iconst hE1 dX12_does_4 ?_
  refine g_iconst hE1 dX12_does_5 ?_
  refine gy_callS hE hRm (As := [aI (I o 0), aI 0, aI 2]) hx_X17_needs (tx_X17_needs X hw) (lw_S q1968 q1948 q142 q1949) ⟨by decide, by decide⟩ ⟨(by decide), (by decide)⟩ rfl (Nat.le_of_ble_eq_true rfl) dX12_does_6 rfl (fun r9 T2 I3 R4 Lz hΦ => ?_) (fun Ec q9 T33 I34 R35 Lz hΦ => ?_) hok
  · obtain ⟨rfl, rfl, hl5, hw⟩ := hΦ
    have hw := hw hl5
    show GX E X T2 I3 R4 L 1 8 9 [some (aR (some o)), some (aR x1), none] []
    intro hok
    refine g_aldn0 hE1 dX12_does_9 ?_
    have ht6 := hl5.tag ht1 (by decide)
    refine gx_geti hE in_X12 (t := 20) rfl (by decide) 1 1 rfl (by decide) rfl (by decide) rfl q1852 (Or.inl rfl) ht6 dX12_does_10 ?_ hok
    intro hok
    refine g_iconst hE1 dX12_does_13 ?_
    refine g_bipush hE1 dX12_does_14 (by decide) ?_
    refine gy_callS hE hRm (As := [aI (I3 o 1), aI 0, aI 99]) hx_X17_needs (tx_X17_needs X hw) (lw_S q1968 q1948 q142 q1949) ⟨by decide, by decide⟩ ⟨(by decide), (by decide)⟩ rfl (Nat.le_of_ble_eq_true rfl) dX12_does_16 rfl (fun r9 T7 I8 R9 Lz hΦ => ?_) (fun Ec q9 T27 I28 R29 Lz hΦ => ?_) hok
    · obtain ⟨rfl, rfl, hl10, hw⟩ := hΦ
      have hw := hw hl10
      show GX E X T7 I8 R9 L 2 16 19 [some (aR (some o)), some (aR x1), none] []
      intro hok
      refine g_aldn1 hE1 dX12_does_19 ?_
      refine g_aldn0 hE1 dX12_does_20 ?_
      have ht11 := (hl5.tr hl10).tag ht1 (by decide)
      refine gx_geti hE in_X12 (t := 20) rfl (by decide) 0 0 rfl (by decide) rfl (by decide) rfl q1851 (Or.inl rfl) ht11 dX12_does_21 ?_ hok
      intro hok
      refine g_aldn0 hE1 dX12_does_24 ?_
      refine gx_geti hE in_X12 (t := 20) rfl (by decide) 1 1 rfl (by decide) rfl (by decide) rfl q1852 (Or.inl rfl) ht11 dX12_does_25 ?_ hok
      intro hok
      obtain ⟨b12, hb13, hw⟩ := hw
      rw [hb13]
      obtain ⟨ht14, hw⟩ := hw
      refine gy_callV hE hRm (As := [aI (I8 o 0), aI (I8 o 1)]) ht14 (by decide) (by decide) rfl hx_X1_addsPage (tx_X1_addsPage X hw) (lw_V q1969 q1247 q1248 q95 q1249) ⟨by decide, by decide⟩ ⟨(by decide), (by decide)⟩ rfl (Nat.le_of_ble_eq_true rfl) dX12_does_28 rfl (fun r9 T16 I17 R18 Lz hΦ => ?_) (fun Ec q9 T21 I22 R23 Lz hΦ => ?_) hok
      · obtain ⟨r15, rfl, rfl, hl19, hw⟩ := hΦ
        have hw := hw hl19
        show GX E X T16 I17 R18 L 7 36 31 [some (aR (some o)), some (aR (some b12)), none] [aI r15]
        intro hok
        refine g_istn2 hE1 dX12_does_31 (by decide) rfl ?_
        exact gx_vret hE hR dX12_does_32 (by decide) (by decide) ⟨rfl, rfl, ((hl5.tr hl10).tr hl19), hw⟩ hok
      · have hq9 : ∃ q8, q8 = q9 := ⟨_, rfl⟩
        obtain ⟨e20, rfl⟩ := hq9
        obtain ⟨rfl, rfl, hl24, ht25, hw⟩ := hΦ
        have hw := hw hl24 ht25
        exact gx_out hE hY (by decide) (by decide) ⟨rfl, rfl, ((hl5.tr hl10).tr hl24), ht25, hw⟩
    · have hq9 : ∃ q8, q8 = q9 := ⟨_, rfl⟩
      obtain ⟨e26, rfl⟩ := hq9
      obtain ⟨rfl, rfl, hl30, ht31, hw⟩ := hΦ
      have hw := hw hl30 ht31
      exact gx_out hE hY (by decide) (by decide) ⟨rfl, rfl, (hl5.tr hl30), ht31, hw⟩
  · have hq9 : ∃ q8, q8 = q9 := ⟨_, rfl⟩
    obtain ⟨e32, rfl⟩ := hq9
    obtain ⟨rfl, rfl, hl36, ht37, hw⟩ := hΦ
    have hw := hw hl36 ht37
    exact gx_out hE hY (by decide) (by decide) ⟨rfl, rfl, hl36, ht37, hw⟩

/-- WhalingLogs$EntryOrder.does(LWhalingLogs$Archive;)V -/
def wx_X13_does (X : XT) (o : Nat) (x1 : Option Nat) (T : xT) (I : xI) (R : xR) (L : xL) (Q : xT → xI → xR → Prop) (Y : Nat → xT → xI → xR → Prop) : Prop :=
  xtag T o = 21 ∧
  ∃ b2 : Nat, x1 = some b2 ∧ xtag T b2 = 2 ∧ wx_X1_checkForEntry X b2 (I o 0) (I o 4) T I R L (fun (T5 : xT) (I6 : xI) (R7 : xR) => tle T T5 → 
    wx_X17_needs X (I6 o 1) 0 999 T5 I6 R7 L (fun (T10 : xT) (I11 : xI) (R12 : xR) => tle T5 T10 → 
      wx_X17_needs X (I11 o 3) 0 11 T10 I11 R12 L (fun (T15 : xT) (I16 : xI) (R17 : xR) => tle T10 T15 → 
        wx_X1_addsEntry X b2 (I16 o 0) (I16 o 1) ((16 * (I16 o 3)) + (I16 o 2)) (I16 o 4) T15 I16 R17 L (fun (r21 : Int) (T22 : xT) (I23 : xI) (R24 : xR) => tle T15 T22 → 
          Q T22 I23 R24)
          (fun (e26 : Nat) (T27 : xT) (I28 : xI) (R29 : xR) => tle T15 T27 → xtag T27 e26 = 14 → 
          Y e26 T27 I28 R29))
        (fun (e32 : Nat) (T33 : xT) (I34 : xI) (R35 : xR) => tle T10 T33 → xtag T33 e32 = 14 → 
        Y e32 T33 I34 R35))
      (fun (e38 : Nat) (T39 : xT) (I40 : xI) (R41 : xR) => tle T5 T39 → xtag T39 e38 = 14 → 
      Y e38 T39 I40 R41))
    (fun (e44 : Nat) (T45 : xT) (I46 : xI) (R47 : xR) => tle T T45 → xtag T45 e44 = 14 → 
    Y e44 T45 I46 R47)
theorem hx_X13_does : yX13_does.cls = RX13 ∧ yX13_does.cls ≠ "java/lang/invoke/MethodHandle" ∧ yX13_does.cls ≠ "java/lang/invoke/VarHandle" ∧ (parseMethodDescriptor yX13_does.desc).map (fun d => d.parameters.length) = some 1 := by decide +kernel
set_option maxHeartbeats 4000000 in
theorem tx_X13_does (X : XT) {o : Nat} {x1 : Option Nat} {T : xT} {I : xI} {R : xR} {L : xL} {Q : xT → xI → xR → Prop} {Y : Nat → xT → xI → xR → Prop} (hw : wx_X13_does X o x1 T I R L Q Y) : CtY X yX13_does cX13_does 3 none (rmX 7 10 80 155) [aR (some o), aR x1] T I R L (PXvTIR T I R L Q) (PYTIR T I R L "WhalingLogs$Refused" 14 Y) := by
  refine CtY.intro (by decide) (Nat.le_of_ble_eq_true rfl) (fun E hE hR hY hN => ?_)
  have hRm := hR.rm
  have hE : OkX E X RX13 cX13_does 3 none := hE
  have hE1 := hE.1
  show GX E X T I R L 0 0 0 [some (aR (some o)), some (aR x1), none] []
  unfold wx_X13_does at hw
  intro hok
  refine g_aldn1 hE1 dX13_does_0 ?_
  refine g_aldn0 hE1 dX13_does_1 ?_
  obtain ⟨ht1, hw⟩ := hw
  refine gx_geti hE in_X13 (t := 21) rfl (by decide) 0 0 rfl (by decide) rfl (by decide) rfl q1868 (Or.inl rfl) ht1 dX13_does_2 ?_ hok
  intro hok
  refine g_aldn0 hE1 dX13_does_5 ?_
  refine gx_geti hE in_X13 (t := 21) rfl (by decide) 4 4 rfl (by decide) rfl (by decide) rfl q1872 (Or.inl rfl) ht1 dX13_does_6 ?_ hok
  intro hok
  obtain ⟨b2, hb3, hw⟩ := hw
  rw [hb3]
  obtain ⟨ht4, hw⟩ := hw
  refine gy_callV hE hRm (As := [aI (I o 0), aI (I o 4)]) ht4 (by decide) (by decide) rfl hx_X1_checkForEntry (tx_X1_checkForEntry X hw) (lw_V q1959 q1257 q1258 q95 q1259) ⟨by decide, by decide⟩ ⟨(by decide), (by decide)⟩ rfl (Nat.le_of_ble_eq_true rfl) dX13_does_9 rfl (fun r9 T5 I6 R7 Lz hΦ => ?_) (fun Ec q9 T45 I46 R47 Lz hΦ => ?_) hok
  · obtain ⟨rfl, rfl, hl8, hw⟩ := hΦ
    have hw := hw hl8
    show GX E X T5 I6 R7 L 2 16 12 [some (aR (some o)), some (aR (some b2)), none] []
    intro hok
    refine g_aldn0 hE1 dX13_does_12 ?_
    have ht9 := hl8.tag ht1 (by decide)
    refine gx_geti hE in_X13 (t := 21) rfl (by decide) 1 1 rfl (by decide) rfl (by decide) rfl q1869 (Or.inl rfl) ht9 dX13_does_13 ?_ hok
    intro hok
    refine g_iconst hE1 dX13_does_16 ?_
    refine g_sipush hE1 dX13_does_17 (by decide) ?_
    refine gy_callS hE hRm (As := [aI (I6 o 1), aI 0, aI 999]) hx_X17_needs (tx_X17_needs X hw) (lw_S q1960 q1948 q142 q1949) ⟨by decide, by decide⟩ ⟨(by decide), (by decide)⟩ rfl (Nat.le_of_ble_eq_true rfl) dX13_does_20 rfl (fun r9 T10 I11 R12 Lz hΦ => ?_) (fun Ec q9 T39 I40 R41 Lz hΦ => ?_) hok
    · obtain ⟨rfl, rfl, hl13, hw⟩ := hΦ
      have hw := hw hl13
      show GX E X T10 I11 R12 L 3 24 23 [some (aR (some o)), some (aR (some b2)), none] []
      intro hok
      refine g_aldn0 hE1 dX13_does_23 ?_
      have ht14 := (hl8.tr hl13).tag ht1 (by decide)
      refine gx_geti hE in_X13 (t := 21) rfl (by decide) 3 3 rfl (by decide) rfl (by decide) rfl q1871 (Or.inl rfl) ht14 dX13_does_24 ?_ hok
      intro hok
      refine g_iconst hE1 dX13_does_27 ?_
      refine g_bipush hE1 dX13_does_28 (by decide) ?_
      refine gy_callS hE hRm (As := [aI (I11 o 3), aI 0, aI 11]) hx_X17_needs (tx_X17_needs X hw) (lw_S q1960 q1948 q142 q1949) ⟨by decide, by decide⟩ ⟨(by decide), (by decide)⟩ rfl (Nat.le_of_ble_eq_true rfl) dX13_does_30 rfl (fun r9 T15 I16 R17 Lz hΦ => ?_) (fun Ec q9 T33 I34 R35 Lz hΦ => ?_) hok
      · obtain ⟨rfl, rfl, hl18, hw⟩ := hΦ
        have hw := hw hl18
        show GX E X T15 I16 R17 L 4 32 33 [some (aR (some o)), some (aR (some b2)), none] []
        intro hok
        refine g_aldn1 hE1 dX13_does_33 ?_
        refine g_aldn0 hE1 dX13_does_34 ?_
        have ht19 := ((hl8.tr hl13).tr hl18).tag ht1 (by decide)
        refine gx_geti hE in_X13 (t := 21) rfl (by decide) 0 0 rfl (by decide) rfl (by decide) rfl q1868 (Or.inl rfl) ht19 dX13_does_35 ?_ hok
        intro hok
        refine g_aldn0 hE1 dX13_does_38 ?_
        refine gx_geti hE in_X13 (t := 21) rfl (by decide) 1 1 rfl (by decide) rfl (by decide) rfl q1869 (Or.inl rfl) ht19 dX13_does_39 ?_ hok
        intro hok
        refine g_bipush hE1 dX13_does_42 (by decide) ?_
        refine g_aldn0 hE1 dX13_does_44 ?_
        refine gx_geti hE in_X13 (t := 21) rfl (by decide) 3 3 rfl (by decide) rfl (by decide) rfl q1871 (Or.inl rfl) ht19 dX13_does_45 ?_ hok
        intro hok
        refine g_imul hE1 dX13_does_48 ?_
        refine g_aldn0 hE1 dX13_does_49 ?_
        refine gx_geti hE in_X13 (t := 21) rfl (by decide) 2 2 rfl (by decide) rfl (by decide) rfl q1870 (Or.inl rfl) ht19 dX13_does_50 ?_ hok
        intro hok
        refine g_iadd hE1 dX13_does_53 ?_
        refine g_aldn0 hE1 dX13_does_54 ?_
        refine gx_geti hE in_X13 (t := 21) rfl (by decide) 4 4 rfl (by decide) rfl (by decide) rfl q1872 (Or.inl rfl) ht19 dX13_does_55 ?_ hok
        intro hok
        have ht20 := ((hl8.tr hl13).tr hl18).tag ht4 (by decide)
        refine gy_callV hE hRm (As := [aI (I16 o 0), aI (I16 o 1), aI ((16 * (I16 o 3)) + (I16 o 2)), aI (I16 o 4)]) ht20 (by decide) (by decide) rfl hx_X1_addsEntry (tx_X1_addsEntry X hw) (lw_V q1961 q1270 q1271 q95 q1272) ⟨by decide, by decide⟩ ⟨(by decide), (by decide)⟩ rfl (Nat.le_of_ble_eq_true rfl) dX13_does_58 rfl (fun r9 T22 I23 R24 Lz hΦ => ?_) (fun Ec q9 T27 I28 R29 Lz hΦ => ?_) hok
        · obtain ⟨r21, rfl, rfl, hl25, hw⟩ := hΦ
          have hw := hw hl25
          show GX E X T22 I23 R24 L 6 44 61 [some (aR (some o)), some (aR (some b2)), none] [aI r21]
          intro hok
          refine g_istn2 hE1 dX13_does_61 (by decide) rfl ?_
          exact gx_vret hE hR dX13_does_62 (by decide) (by decide) ⟨rfl, rfl, (((hl8.tr hl13).tr hl18).tr hl25), hw⟩ hok
        · have hq9 : ∃ q8, q8 = q9 := ⟨_, rfl⟩
          obtain ⟨e26, rfl⟩ := hq9
          obtain ⟨rfl, rfl, hl30, ht31, hw⟩ := hΦ
          have hw := hw hl30 ht31
          exact gx_out hE hY (by decide) (by decide) ⟨rfl, rfl, (((hl8.tr hl13).tr hl18).tr hl30), ht31, hw⟩
      · have hq9 : ∃ q8, q8 = q9 := ⟨_, rfl⟩
        obtain ⟨e32, rfl⟩ := hq9
        obtain ⟨rfl, rfl, hl36, ht37, hw⟩ := hΦ
        have hw := hw hl36 ht37
        exact gx_out hE hY (by decide) (by decide) ⟨rfl, rfl, ((hl8.tr hl13).tr hl36), ht37, hw⟩
    · have hq9 : ∃ q8, q8 = q9 := ⟨_, rfl⟩
      obtain ⟨e38, rfl⟩ := hq9
      obtain ⟨rfl, rfl, hl42, ht43, hw⟩ := hΦ
      have hw := hw hl42 ht43
      exact gx_out hE hY (by decide) (by decide) ⟨rfl, rfl, (hl8.tr hl42), ht43, hw⟩
  · have hq9 : ∃ q8, q8 = q9 := ⟨_, rfl⟩
    obtain ⟨e44, rfl⟩ := hq9
    obtain ⟨rfl, rfl, hl48, ht49, hw⟩ := hΦ
    have hw := hw hl48 ht49
    exact gx_out hE hY (by decide) (by decide) ⟨rfl, rfl, hl48, ht49, hw⟩

/-- WhalingLogs$ReadOrder.does(LWhalingLogs$Archive;)V -/
def wx_X14_does (X : XT) (o : Nat) (x1 : Option Nat) (T : xT) (I : xI) (R : xR) (L : xL) (Q : xT → xI → xR → Prop) (Y : Nat → xT → xI → xR → Prop) : Prop :=
  xtag T o = 22 ∧
  ∃ b2 : Nat, x1 = some b2 ∧ xtag T b2 = 2 ∧ wx_X1_readsPage X b2 (I o 0) (I o 1) T I R L (fun (r5 : Int) (T6 : xT) (I7 : xI) (R8 : xR) => tle T T6 → 
    Q T6 I7 R8)
    (fun (e10 : Nat) (T11 : xT) (I12 : xI) (R13 : xR) => tle T T11 → xtag T11 e10 = 14 → 
    Y e10 T11 I12 R13)
theorem hx_X14_does : yX14_does.cls = RX14 ∧ yX14_does.cls ≠ "java/lang/invoke/MethodHandle" ∧ yX14_does.cls ≠ "java/lang/invoke/VarHandle" ∧ (parseMethodDescriptor yX14_does.desc).map (fun d => d.parameters.length) = some 1 := by decide +kernel
set_option maxHeartbeats 4000000 in
theorem tx_X14_does (X : XT) {o : Nat} {x1 : Option Nat} {T : xT} {I : xI} {R : xR} {L : xL} {Q : xT → xI → xR → Prop} {Y : Nat → xT → xI → xR → Prop} (hw : wx_X14_does X o x1 T I R L Q Y) : CtY X yX14_does cX14_does 3 none (rmX 7 10 80 156) [aR (some o), aR x1] T I R L (PXvTIR T I R L Q) (PYTIR T I R L "WhalingLogs$Refused" 14 Y) := by
  refine CtY.intro (by decide) (Nat.le_of_ble_eq_true rfl) (fun E hE hR hY hN => ?_)
  have hRm := hR.rm
  have hE : OkX E X RX14 cX14_does 3 none := hE
  have hE1 := hE.1
  show GX E X T I R L 0 0 0 [some (aR (some o)), some (aR x1), none] []
  unfold wx_X14_does at hw
  intro hok
  refine g_aldn1 hE1 dX14_does_0 ?_
  refine g_aldn0 hE1 dX14_does_1 ?_
  obtain ⟨ht1, hw⟩ := hw
  refine gx_geti hE in_X14 (t := 22) rfl (by decide) 0 0 rfl (by decide) rfl (by decide) rfl q1894 (Or.inl rfl) ht1 dX14_does_2 ?_ hok
  intro hok
  refine g_aldn0 hE1 dX14_does_5 ?_
  refine gx_geti hE in_X14 (t := 22) rfl (by decide) 1 1 rfl (by decide) rfl (by decide) rfl q1895 (Or.inl rfl) ht1 dX14_does_6 ?_ hok
  intro hok
  obtain ⟨b2, hb3, hw⟩ := hw
  rw [hb3]
  obtain ⟨ht4, hw⟩ := hw
  refine gy_callV hE hRm (As := [aI (I o 0), aI (I o 1)]) ht4 (by decide) (by decide) rfl hx_X1_readsPage (tx_X1_readsPage X hw) (lw_V q1976 q1318 q1319 q95 q1320) ⟨by decide, by decide⟩ ⟨(by decide), (by decide)⟩ rfl (Nat.le_of_ble_eq_true rfl) dX14_does_9 rfl (fun r9 T6 I7 R8 Lz hΦ => ?_) (fun Ec q9 T11 I12 R13 Lz hΦ => ?_) hok
  · obtain ⟨r5, rfl, rfl, hl9, hw⟩ := hΦ
    have hw := hw hl9
    show GX E X T6 I7 R8 L 4 32 12 [some (aR (some o)), some (aR (some b2)), none] [aI r5]
    intro hok
    refine g_istn2 hE1 dX14_does_12 (by decide) rfl ?_
    exact gx_vret hE hR dX14_does_13 (by decide) (by decide) ⟨rfl, rfl, hl9, hw⟩ hok
  · have hq9 : ∃ q8, q8 = q9 := ⟨_, rfl⟩
    obtain ⟨e10, rfl⟩ := hq9
    obtain ⟨rfl, rfl, hl14, ht15, hw⟩ := hΦ
    have hw := hw hl14 ht15
    exact gx_out hE hY (by decide) (by decide) ⟨rfl, rfl, hl14, ht15, hw⟩

/-- WhalingLogs$StrikeOrder.does(LWhalingLogs$Archive;)V -/
def wx_X15_does (X : XT) (o : Nat) (x1 : Option Nat) (T : xT) (I : xI) (R : xR) (L : xL) (Q : xT → xI → xR → Prop) (Y : Nat → xT → xI → xR → Prop) : Prop :=
  xtag T o = 23 ∧
  ∃ b2 : Nat, x1 = some b2 ∧ xtag T b2 = 2 ∧ wx_X1_strikes X b2 (I o 0) (I o 1) T I R L (fun (r5 : Int) (T6 : xT) (I7 : xI) (R8 : xR) => tle T T6 → 
    Q T6 I7 R8)
    (fun (e10 : Nat) (T11 : xT) (I12 : xI) (R13 : xR) => tle T T11 → xtag T11 e10 = 14 → 
    Y e10 T11 I12 R13)
theorem hx_X15_does : yX15_does.cls = RX15 ∧ yX15_does.cls ≠ "java/lang/invoke/MethodHandle" ∧ yX15_does.cls ≠ "java/lang/invoke/VarHandle" ∧ (parseMethodDescriptor yX15_does.desc).map (fun d => d.parameters.length) = some 1 := by decide +kernel
set_option maxHeartbeats 4000000 in
theorem tx_X15_does (X : XT) {o : Nat} {x1 : Option Nat} {T : xT} {I : xI} {R : xR} {L : xL} {Q : xT → xI → xR → Prop} {Y : Nat → xT → xI → xR → Prop} (hw : wx_X15_does X o x1 T I R L Q Y) : CtY X yX15_does cX15_does 3 none (rmX 7 10 80 156) [aR (some o), aR x1] T I R L (PXvTIR T I R L Q) (PYTIR T I R L "WhalingLogs$Refused" 14 Y) := by
  refine CtY.intro (by decide) (Nat.le_of_ble_eq_true rfl) (fun E hE hR hY hN => ?_)
  have hRm := hR.rm
  have hE : OkX E X RX15 cX15_does 3 none := hE
  have hE1 := hE.1
  show GX E X T I R L 0 0 0 [some (aR (some o)), some (aR x1), none] []
  unfold wx_X15_does at hw
  intro hok
  refine g_aldn1 hE1 dX15_does_0 ?_
  refine g_aldn0 hE1 dX15_does_1 ?_
  obtain ⟨ht1, hw⟩ := hw
  refine gx_geti hE in_X15 (t := 23) rfl (by decide) 0 0 rfl (by decide) rfl (by decide) rfl q1911 (Or.inl rfl) ht1 dX15_does_2 ?_ hok
  intro hok
  refine g_aldn0 hE1 dX15_does_5 ?_
  refine gx_geti hE in_X15 (t := 23) rfl (by decide) 1 1 rfl (by decide) rfl (by decide) rfl q1912 (Or.inl rfl) ht1 dX15_does_6 ?_ hok
  intro hok
  obtain ⟨b2, hb3, hw⟩ := hw
  rw [hb3]
  obtain ⟨ht4, hw⟩ := hw
  refine gy_callV hE hRm (As := [aI (I o 0), aI (I o 1)]) ht4 (by decide) (by decide) rfl hx_X1_strikes (tx_X1_strikes X hw) (lw_V q1990 q1347 q1348 q95 q1349) ⟨by decide, by decide⟩ ⟨(by decide), (by decide)⟩ rfl (Nat.le_of_ble_eq_true rfl) dX15_does_9 rfl (fun r9 T6 I7 R8 Lz hΦ => ?_) (fun Ec q9 T11 I12 R13 Lz hΦ => ?_) hok
  · obtain ⟨r5, rfl, rfl, hl9, hw⟩ := hΦ
    have hw := hw hl9
    show GX E X T6 I7 R8 L 4 29 12 [some (aR (some o)), some (aR (some b2)), none] [aI r5]
    intro hok
    refine g_istn2 hE1 dX15_does_12 (by decide) rfl ?_
    exact gx_vret hE hR dX15_does_13 (by decide) (by decide) ⟨rfl, rfl, hl9, hw⟩ hok
  · have hq9 : ∃ q8, q8 = q9 := ⟨_, rfl⟩
    obtain ⟨e10, rfl⟩ := hq9
    obtain ⟨rfl, rfl, hl14, ht15, hw⟩ := hΦ
    have hw := hw hl14 ht15
    exact gx_out hE hY (by decide) (by decide) ⟨rfl, rfl, hl14, ht15, hw⟩

/-- WhalingLogs$BlameOrder.does(LWhalingLogs$Archive;)V -/
def wx_X16_does (X : XT) (o : Nat) (x1 : Option Nat) (T : xT) (I : xI) (R : xR) (L : xL) (Q : xT → xI → xR → Prop) (Y : Nat → xT → xI → xR → Prop) : Prop :=
  xtag T o = 24 ∧
  ∃ b2 : Nat, x1 = some b2 ∧ xtag T b2 = 2 ∧ wx_X1_blames X b2 (I o 0) T I R L (fun (r5 : Int) (T6 : xT) (I7 : xI) (R8 : xR) => tle T T6 → 
    Q T6 I7 R8)
    (fun (e10 : Nat) (T11 : xT) (I12 : xI) (R13 : xR) => tle T T11 → xtag T11 e10 = 14 → 
    Y e10 T11 I12 R13)
theorem hx_X16_does : yX16_does.cls = RX16 ∧ yX16_does.cls ≠ "java/lang/invoke/MethodHandle" ∧ yX16_does.cls ≠ "java/lang/invoke/VarHandle" ∧ (parseMethodDescriptor yX16_does.desc).map (fun d => d.parameters.length) = some 1 := by decide +kernel
set_option maxHeartbeats 4000000 in
theorem tx_X16_does (X : XT) {o : Nat} {x1 : Option Nat} {T : xT} {I : xI} {R : xR} {L : xL} {Q : xT → xI → xR → Prop} {Y : Nat → xT → xI → xR → Prop} (hw : wx_X16_does X o x1 T I R L Q Y) : CtY X yX16_does cX16_does 3 none (rmX 6 10 80 133) [aR (some o), aR x1] T I R L (PXvTIR T I R L Q) (PYTIR T I R L "WhalingLogs$Refused" 14 Y) := by
  refine CtY.intro (by decide) (Nat.le_of_ble_eq_true rfl) (fun E hE hR hY hN => ?_)
  have hRm := hR.rm
  have hE : OkX E X RX16 cX16_does 3 none := hE
  have hE1 := hE.1
  show GX E X T I R L 0 0 0 [some (aR (some o)), some (aR x1), none] []
  unfold wx_X16_does at hw
  intro hok
  refine g_aldn1 hE1 dX16_does_0 ?_
  refine g_aldn0 hE1 dX16_does_1 ?_
  obtain ⟨ht1, hw⟩ := hw
  refine gx_geti hE in_X16 (t := 24) rfl (by decide) 0 0 rfl (by decide) rfl (by decide) rfl q1924 (Or.inl rfl) ht1 dX16_does_2 ?_ hok
  intro hok
  obtain ⟨b2, hb3, hw⟩ := hw
  rw [hb3]
  obtain ⟨ht4, hw⟩ := hw
  refine gy_callV hE hRm (As := [aI (I o 0)]) ht4 (by decide) (by decide) rfl hx_X1_blames (tx_X1_blames X hw) (lw_V q1940 q1364 q1365 q95 q1366) ⟨by decide, by decide⟩ ⟨(by decide), (by decide)⟩ rfl (Nat.le_of_ble_eq_true rfl) dX16_does_5 rfl (fun r9 T6 I7 R8 Lz hΦ => ?_) (fun Ec q9 T11 I12 R13 Lz hΦ => ?_) hok
  · obtain ⟨r5, rfl, rfl, hl9, hw⟩ := hΦ
    have hw := hw hl9
    show GX E X T6 I7 R8 L 2 16 8 [some (aR (some o)), some (aR (some b2)), none] [aI r5]
    intro hok
    refine g_istn2 hE1 dX16_does_8 (by decide) rfl ?_
    exact gx_vret hE hR dX16_does_9 (by decide) (by decide) ⟨rfl, rfl, hl9, hw⟩ hok
  · have hq9 : ∃ q8, q8 = q9 := ⟨_, rfl⟩
    obtain ⟨e10, rfl⟩ := hq9
    obtain ⟨rfl, rfl, hl14, ht15, hw⟩ := hΦ
    have hw := hw hl14 ht15
    exact gx_out hE hY (by decide) (by decide) ⟨rfl, rfl, hl14, ht15, hw⟩

/-- WhalingLogs.run()I -/
def wx_X0_run (X : XT) (o : Nat)  (T : xT) (I : xI) (R : xR) (L : xL) (Q : Int → xT → xI → xR → xL → Prop) : Prop :=
  ∀ q1 : Nat, xtag T q1 = 0 → bsX X ≤ q1 → ∀ T4 : xT, T4 = xnew T q1 16 0 →
  xtag T4 o = 1 ∧
  wx_X8_init X q1 (some o) (R o 8) T4 I R L (fun (R8 : xR) => 
  wx_X8_orders X q1 T4 I R8 L (fun (r10 : Option Nat) (T11 : xT) (I12 : xI) (R13 : xR) => tle T4 T11 → 
    ∃ b16 : Nat, R13 o 0 = some b16 ∧ xtag T11 b16 = 2 ∧ wx_X1_copy X b16 T11 I12 R13 L (fun (r19 : Option Nat) (T20 : xT) (I21 : xI) (R22 : xR) (L23 : xL) => tle T11 T20 → 
    ∃ b25 : Nat, r10 = some b25 ∧ xtag T20 b25 = 4 ∧ wx_J3_iterator_J4 X b25 T20 I21 R22 L23 (fun (r28 : Option Nat) (T29 : xT) (I30 : xI) (R31 : xR) => tle T20 T29 → 
    lq6 (fun (T_29 : xT) (I_29 : xI) (R_29 : xR) (L_29 : xL) (k_29 : Nat) (n_29 : Nat) (K_29 : xT → xI → xR → xL → Nat → Nat → Prop) =>
      ∃ b33 : Nat, r28 = some b33 ∧ xtag T_29 b33 = 9 ∧ wx_J15_hasNext X b33 T_29 I_29 R_29 L_29 (fun (r36 : Int) => 
      cEq r36 0
        (
        ∀ R39 : xR, R39 = uR R_29 o 0 r19 →
        wx_J4_size X b25 T_29 I_29 R39 L_29 (fun (r41 : Int) => 
        wx_X0_changed X o (R_29 o 0) r41 T_29 I_29 R39 L_29 (fun (r43 : Int) (I44 : xI) (R45 : xR) => 
        ∃ b47 : Nat, R45 o 8 = some b47 ∧ xtag T_29 b47 = 8 ∧ k_29 + 1 ≤ 2700 ∧ n_29 + 150 ≤ 150000 ∧ wx_J7_setLength X b47 0 T_29 I44 R45 L_29 (fun (T52 : xT) (I53 : xI) (R54 : xR) => tle T_29 T52 → 
        Q r43 T52 I53 R54 L_29))))
        (
        wx_J15_next X b33 T_29 I_29 R_29 L_29 (fun (r56 : Option Nat) (I57 : xI) (R58 : xR) => 
        ∃ b60 : Nat, r56 = some b60 ∧ xOrd (xtag T_29 b60) ∧
        jn7 (fun (e_108 : Nat) (T_108 : xT) (I_108 : xI) (R_108 : xR) (L_108 : xL) (k_108 : Nat) (n_108 : Nat) => 
            wx_X0_refused X o (some e_108) T_108 I_108 R_108 L_108 (fun (r64 : Int) (I65 : xI) => 
            ∃ b67 : Nat, R_108 o 8 = some b67 ∧ xtag T_108 b67 = 8 ∧ k_108 + 1 ≤ 2700 ∧ n_108 + 150 ≤ 150000 ∧ wx_J7_setLength X b67 0 T_108 I65 R_108 L_108 (fun (T72 : xT) (I73 : xI) (R74 : xR) => tle T_108 T72 → 
            Q r64 T72 I73 R74 L_108)))
          (fun (J_108 : Nat → xT → xI → xR → xL → Nat → Nat → Prop) =>
          k_29 + 10 ≤ 2700 ∧ n_29 + 80 ≤ 150000 ∧ 
          jn4 (fun (T78 : xT) (I79 : xI) (R80 : xR) (L81 : xL) => tle T_29 T78 →
              K_29 T78 I79 R80 L81 (k_29 + 10) (n_29 + 80))
            (fun (J_48 : xT → xI → xR → xL → Prop) =>
          jn5 (fun (e83 : Nat) (T84 : xT) (I85 : xI) (R86 : xR) (L87 : xL) => tle T_29 T84 → xtag T84 e83 = 14 →
              J_108 e83 T84 I85 R86 L87 (k_29 + 10) (n_29 + 80))
            (fun (Jx_48 : Nat → xT → xI → xR → xL → Prop) =>
          (xtag T_29 b60 = 18 →
            wx_X10_does X b60 r19 T_29 I57 R58 L_29
              (fun (T90 : xT) (I91 : xI) (R92 : xR) (L93 : xL) => tle T_29 T90 → J_48 T90 I91 R92 L93)
              (fun (e94 : Nat) (T95 : xT) (I96 : xI) (R97 : xR) (L98 : xL) => tle T_29 T95 → xtag T95 e94 = 14 → Jx_48 e94 T95 I96 R97 L98)) ∧
          (xtag T_29 b60 = 19 →
            wx_X11_does X b60 r19 T_29 I57 R58 L_29
              (fun (T99 : xT) (I100 : xI) (R101 : xR) => tle T_29 T99 → J_48 T99 I100 R101 L_29)
              (fun (e102 : Nat) (T103 : xT) (I104 : xI) (R105 : xR) => tle T_29 T103 → xtag T103 e102 = 14 → Jx_48 e102 T103 I104 R105 L_29)) ∧
          (xtag T_29 b60 = 20 →
            wx_X12_does X b60 r19 T_29 I57 R58 L_29
              (fun (T106 : xT) (I107 : xI) (R108 : xR) => tle T_29 T106 → J_48 T106 I107 R108 L_29)
              (fun (e109 : Nat) (T110 : xT) (I111 : xI) (R112 : xR) => tle T_29 T110 → xtag T110 e109 = 14 → Jx_48 e109 T110 I111 R112 L_29)) ∧
          (xtag T_29 b60 = 21 →
            wx_X13_does X b60 r19 T_29 I57 R58 L_29
              (fun (T113 : xT) (I114 : xI) (R115 : xR) => tle T_29 T113 → J_48 T113 I114 R115 L_29)
              (fun (e116 : Nat) (T117 : xT) (I118 : xI) (R119 : xR) => tle T_29 T117 → xtag T117 e116 = 14 → Jx_48 e116 T117 I118 R119 L_29)) ∧
          (xtag T_29 b60 = 22 →
            wx_X14_does X b60 r19 T_29 I57 R58 L_29
              (fun (T120 : xT) (I121 : xI) (R122 : xR) => tle T_29 T120 → J_48 T120 I121 R122 L_29)
              (fun (e123 : Nat) (T124 : xT) (I125 : xI) (R126 : xR) => tle T_29 T124 → xtag T124 e123 = 14 → Jx_48 e123 T124 I125 R126 L_29)) ∧
          (xtag T_29 b60 = 23 →
            wx_X15_does X b60 r19 T_29 I57 R58 L_29
              (fun (T127 : xT) (I128 : xI) (R129 : xR) => tle T_29 T127 → J_48 T127 I128 R129 L_29)
              (fun (e130 : Nat) (T131 : xT) (I132 : xI) (R133 : xR) => tle T_29 T131 → xtag T131 e130 = 14 → Jx_48 e130 T131 I132 R133 L_29)) ∧
          (xtag T_29 b60 = 24 →
            wx_X16_does X b60 r19 T_29 I57 R58 L_29
              (fun (T134 : xT) (I135 : xI) (R136 : xR) => tle T_29 T134 → J_48 T134 I135 R136 L_29)
              (fun (e137 : Nat) (T138 : xT) (I139 : xI) (R140 : xR) => tle T_29 T138 → xtag T138 e137 = 14 → Jx_48 e137 T138 I139 R140 L_29))))))))) T29 I30 R31 L23 2162 131408)))
    (fun (e145 : Nat) (T146 : xT) (I147 : xI) (R148 : xR) => tle T4 T146 → xtag T146 e145 = 17 → 
    ∃ b152 : Nat, R148 o 8 = some b152 ∧ xtag T146 b152 = 8 ∧ wx_J7_setLength X b152 0 T146 I147 R148 L (fun (T155 : xT) (I156 : xI) (R157 : xR) => tle T146 T155 → 
    Q ((-1000) - (I147 e145 6)) T155 I156 R157 L)))
theorem hx_X0_run : yX0_run.cls = RX0 ∧ yX0_run.cls ≠ "java/lang/invoke/MethodHandle" ∧ yX0_run.cls ≠ "java/lang/invoke/VarHandle" ∧ (parseMethodDescriptor yX0_run.desc).map (fun d => d.parameters.length) = some 0 := by decide +kernel
set_option maxHeartbeats 4000000 in
theorem tx_X0_run (X : XT) {o : Nat}  {T : xT} {I : xI} {R : xR} {L : xL} {Q : Int → xT → xI → xR → xL → Prop} (hw : wx_X0_run X o T I R L Q) : CtW X yX0_run cX0_run 6 (some .int) [(0, 77, 88, 351), (0, 77, 108, 55), (0, 77, 125, 0), (88, 98, 125, 0), (108, 115, 125, 0), (125, 127, 125, 0)] (rmX 11 2700 150000 261) [aR (some o)] T I R L (PXiTIRL T I R L Q) := by
  refine CtW.intro (by decide) (Nat.le_of_ble_eq_true rfl) (fun E hE hR hH hN => ?_)
  have hRm := hR.rm
  have hE : OkX E X RX0 cX0_run 6 (some .int) := hE
  have hE1 := hE.1
  show GX E X T I R L 0 0 0 [some (aR (some o)), none, none, none, none, none] []
  unfold wx_X0_run at hw
  intro hok
  refine gx_new hE hRm in_X8 tyX8 tyX8_ok (t := 16) rfl (by decide) (by decide) rfl (by decide) q1618 q1619 q133 (by decide) (by decide) dX0_run_0 (fun q1 hq2 hbs3 => ?_) hok
  intro hok
  have hw := hw q1 hq2 hbs3 _ rfl
  have hl5 := tle.new (T := T) (q := q1) (t := 16) (n := 0) hq2
  have hT6 : xtag (xnew T q1 16 0) q1 = 16 := if_pos rfl
  generalize xnew T q1 16 0 = T4 at hw hl5 hok hT6 ⊢
  refine g_dup hE1 dX0_run_3 rfl ?_
  refine g_aldn0 hE1 dX0_run_4 ?_
  refine g_aldn0 hE1 dX0_run_5 ?_
  obtain ⟨ht7, hw⟩ := hw
  refine gx_getr hE in_X0 (t := 1) rfl (by decide) 8 8 rfl (by decide) rfl (by decide) rfl q361 (Or.inl rfl) ht7 dX0_run_6 ?_ hok
  intro hok
  refine gx_callI hE hRm (As := [aR (some o), aR (R o 8)]) (b := q1) hx_X8_init (lw_meth q1622) q1620 q133 q1621 rfl (tx_X8_init X hw) ⟨by decide, by decide⟩ ⟨(by decide), (by decide)⟩ rfl (Nat.le_of_ble_eq_true rfl) dX0_run_9 rfl (fun r9 Tz Iz R8 Lz hΦ => ?_) hok
  obtain ⟨rfl, rfl, rfl, rfl, hw⟩ := hΦ
  show GX E X T4 I R8 L 1 3 12 [some (aR (some o)), none, none, none, none, none] [aR (some q1)]
  intro hok
  refine gy_callV hE hRm (As := []) hT6 (by decide) (by decide) rfl hx_X8_orders (tx_X8_orders X hw) (lw_V q1634 q1635 q1636 q133 q1637) ⟨by decide, by decide⟩ ⟨(by decide), (by decide)⟩ rfl (Nat.le_of_ble_eq_true rfl) dX0_run_12 rfl (fun r9 T11 I12 R13 Lz hΦ => ?_) (fun Ec q9 T146 I147 R148 Lz hΦ => ?_) hok
  · obtain ⟨r10, rfl, rfl, hl14, hw⟩ := hΦ
    have hw := hw hl14
    show GX E X T11 I12 R13 L 2001 130003 15 [some (aR (some o)), none, none, none, none, none] [aR r10]
    intro hok
    refine g_astn1 hE1 dX0_run_15 (by decide) rfl ?_
    refine g_aldn0 hE1 dX0_run_16 ?_
    have ht15 := hl14.tag ht7 (by decide)
    refine gx_getr hE in_X0 (t := 1) rfl (by decide) 0 0 rfl (by decide) rfl (by decide) rfl q353 (Or.inl rfl) ht15 dX0_run_17 ?_ hok
    intro hok
    obtain ⟨b16, hb17, hw⟩ := hw
    rw [hb17]
    obtain ⟨ht18, hw⟩ := hw
    refine gx_callV hE hRm (As := []) ht18 (by decide) (by decide) rfl hx_X1_copy (tx_X1_copy X hw) (lw_V q395 q396 q397 q95 q398) ⟨by decide, by decide⟩ ⟨(by decide), (by decide)⟩ rfl (Nat.le_of_ble_eq_true rfl) dX0_run_20 rfl (fun r9 T20 I21 R22 L23 hΦ => ?_) hok
    obtain ⟨r19, rfl, hl24, hw⟩ := hΦ
    have hw := hw hl24
    show GX E X T20 I21 R22 L23 2161 131403 23 [some (aR (some o)), some (aR r10), none, none, none, none] [aR r19]
    intro hok
    refine g_astn2 hE1 dX0_run_23 (by decide) rfl ?_
    refine g_aldn1 hE1 dX0_run_24 ?_
    obtain ⟨b25, hb26, hw⟩ := hw
    rw [hb26]
    obtain ⟨ht27, hw⟩ := hw
    refine gx_callU hE hRm (na := 0) (As := []) ht27 (by decide) (by decide) rfl (owner := "java/util/AbstractSequentialList") (x := ⟨"java/util/LinkedList", "iterator", "()Ljava/util/Iterator;"⟩) (by decide +kernel) (tx_J3_iterator_J4 X hw) (lw_U q1497 q437 q439 q440 q99 q441) rfl ⟨by decide, by decide⟩ ⟨(by decide), (by decide)⟩ rfl (Nat.le_of_ble_eq_true rfl) dX0_run_25 rfl (fun r9 T29 I30 R31 Lz hΦ => ?_) hok
    obtain ⟨r28, rfl, rfl, hl32, hw⟩ := hΦ
    have hw := hw hl32
    show GX E X T29 I30 R31 L23 2162 131408 28 [some (aR (some o)), some (aR (some b25)), some (aR r19), none, none, none] [aR r28]
    intro hok
    refine g_astn3 hE1 dX0_run_28 (by decide) rfl ?_
    refine lq6_walk (fun (T_29 : xT) (I_29 : xI) (R_29 : xR) (L_29 : xL) (k_29 : Nat) (n_29 : Nat) => tle T29 T_29 → k_29 ≤ 2700 → n_29 ≤ 150000 → GX E X T_29 I_29 R_29 L_29 k_29 n_29 29 [some (aR (some o)), some (aR (some b25)), some (aR r19), some (aR r28), none, none] []) (fun K_29 hk_29 T_29 I_29 R_29 L_29 k_29 n_29 hw => ?_) _ _ _ _ _ _ hw tle.rf (by omega) (by omega) hok
    intro hl_29 hkc_29 hnc_29
    intro hok
    refine g_aldn3 hE1 dX0_run_29 ?_
    obtain ⟨b33, hb34, hw⟩ := hw
    rw [hb34]
    obtain ⟨ht35, hw⟩ := hw
    refine gx_callF hE hRm (na := 0) (As := []) ht35 (by decide) (by decide) rfl (x := ⟨"java/util/Iterator", "hasNext", "()Z"⟩) (by unfold fwL; simp; decide) (by decide +kernel) (tx_J15_hasNext X hw) (lw_F q1499 q560 q562 q116 q564) ⟨by decide, by decide⟩ ⟨(show k_29 + 0 ≤ 2700 by omega), (show n_29 + 0 ≤ 150000 by omega)⟩ rfl (Nat.le_of_ble_eq_true rfl) dX0_run_30 rfl (fun r9 Tz Iz Rz Lz hΦ => ?_) hok
    obtain ⟨r36, rfl, rfl, rfl, rfl, rfl, hw⟩ := hΦ
    show GX E X T_29 I_29 R_29 L_29 k_29 n_29 35 [some (aR (some o)), some (aR (some b25)), some (aR r19), some (aR (some b33)), none, none] [aI r36]
    intro hok
    obtain ⟨h141, h142, hT143, hN144⟩ := hw
    refine g_if_eq hE1 (tgt := 56) dX0_run_35 (by decide) h141 (fun q => ?_) (fun q => ?_)
    · have hw := hT143 q
      refine g_aldn0 hE1 dX0_run_56 ?_
      have ht38 := (((hl14.tr hl24).tr hl32).tr hl_29).tag ht7 (by decide)
      refine gx_getr hE in_X0 (t := 1) rfl (by decide) 0 0 rfl (by decide) rfl (by decide) rfl q353 (Or.inl rfl) ht38 dX0_run_57 ?_ hok
      intro hok
      refine g_astn3 hE1 dX0_run_60 (by decide) rfl ?_
      refine g_aldn0 hE1 dX0_run_61 ?_
      refine g_aldn2 hE1 dX0_run_62 ?_
      refine gx_putr hE in_X0 (t := 1) rfl (by decide) 0 0 rfl (by decide) rfl (by decide) (ty := tyX0 0) tyX0 tyX0_ok nmX0 rfl q353 (Or.inl rfl) rfl (tyX0_ok 0 (by decide)) nar_o fit_o ht38 dX0_run_63 ?_ hok
      intro hok
      have hw := hw _ rfl
      generalize uR R_29 o 0 r19 = R39 at hw hok ⊢
      refine g_aldn0 hE1 dX0_run_66 ?_
      refine g_aldn3 hE1 dX0_run_67 ?_
      refine g_aldn1 hE1 dX0_run_68 ?_
      have ht40 := (hl32.tr hl_29).tag ht27 (by decide)
      refine gx_callV hE hRm (As := []) ht40 (by decide) (by decide) rfl hx_J4_size (tx_J4_size X hw) (lw_V q1312 q541 q2594 q100 q542) ⟨by decide, by decide⟩ ⟨(show k_29 + 0 ≤ 2700 by omega), (show n_29 + 0 ≤ 150000 by omega)⟩ rfl (Nat.le_of_ble_eq_true rfl) dX0_run_69 rfl (fun r9 Tz Iz Rz Lz hΦ => ?_) hok
      obtain ⟨r41, rfl, rfl, rfl, rfl, rfl, hw⟩ := hΦ
      show GX E X T_29 I_29 R39 L_29 k_29 n_29 72 [some (aR (some o)), some (aR (some b25)), some (aR r19), some (aR (R_29 o 0)), none, none] [aI r41, aR (R_29 o 0), aR (some o)]
      intro hok
      refine gx_callV hE hRm (As := [aR (R_29 o 0), aI r41]) ht38 (by decide) (by decide) rfl hx_X0_changed (tx_X0_changed X hw) (lw_V q1163 q1165 qs16 q94 q1166) ⟨by decide, by decide⟩ ⟨(show k_29 + 0 ≤ 2700 by omega), (show n_29 + 0 ≤ 150000 by omega)⟩ rfl (Nat.le_of_ble_eq_true rfl) dX0_run_72 rfl (fun r9 Tz I44 R45 Lz hΦ => ?_) hok
      obtain ⟨r43, rfl, rfl, rfl, hw⟩ := hΦ
      show GX E X T_29 I44 R45 L_29 k_29 n_29 75 [some (aR (some o)), some (aR (some b25)), some (aR r19), some (aR (R_29 o 0)), none, none] [aI r43]
      intro hok
      refine g_ist4 hE1 dX0_run_75 (by decide) rfl ?_
      refine g_aldn0 hE1 dX0_run_77 ?_
      refine gx_getr hE in_X0 (t := 1) rfl (by decide) 8 8 rfl (by decide) rfl (by decide) rfl q361 (Or.inl rfl) ht38 dX0_run_78 ?_ hok
      intro hok
      refine g_iconst hE1 dX0_run_81 ?_
      obtain ⟨b47, hb48, hw⟩ := hw
      rw [hb48]
      obtain ⟨ht49, hw⟩ := hw
      obtain ⟨hc50, hw⟩ := hw
      obtain ⟨hc51, hw⟩ := hw
      refine gx_callV hE hRm (As := [aI 0]) ht49 (by decide) (by decide) rfl hx_J7_setLength (tx_J7_setLength X hw) (lw_V q1991 q1992 q1993 q105 q1994) ⟨by decide, by decide⟩ ⟨hc50, hc51⟩ rfl (Nat.le_of_ble_eq_true rfl) dX0_run_82 rfl (fun r9 T52 I53 R54 Lz hΦ => ?_) hok
      obtain ⟨rfl, rfl, hl55, hw⟩ := hΦ
      have hw := hw hl55
      show GX E X T52 I53 R54 L_29 (k_29 + 1) (n_29 + 150) 85 [some (aR (some o)), some (aR (some b25)), some (aR r19), some (aR (R_29 o 0)), some (aI r43), none] []
      intro hok
      refine g_ild4 hE1 dX0_run_85 ?_
      exact gx_iret hE hR dX0_run_87 (show k_29 + 1 ≤ 2700 by omega) (show n_29 + 150 ≤ 150000 by omega) rfl ⟨_, rfl, (((((hl5.tr hl14).tr hl24).tr hl32).tr hl_29).tr hl55), hw⟩ hok
    · have hw := hN144 q
      refine g_aldn3 hE1 dX0_run_38 ?_
      refine gx_callF hE hRm (na := 0) (As := []) ht35 (by decide) (by decide) rfl (x := ⟨"java/util/Iterator", "next", "()Ljava/lang/Object;"⟩) (by unfold fwL; simp; decide) (by decide +kernel) (tx_J15_next X hw) (lw_F q1501 q927 q929 q116 q931) ⟨by decide, by decide⟩ ⟨(show k_29 + 0 ≤ 2700 by omega), (show n_29 + 0 ≤ 150000 by omega)⟩ rfl (Nat.le_of_ble_eq_true rfl) dX0_run_39 rfl (fun r9 Tz I57 R58 Lz hΦ => ?_) hok
      obtain ⟨r56, rfl, rfl, rfl, hw⟩ := hΦ
      show GX E X T_29 I57 R58 L_29 k_29 n_29 44 [some (aR (some o)), some (aR (some b25)), some (aR r19), some (aR (some b33)), none, none] [aR r56]
      intro hok
      obtain ⟨b60, hb61, hw⟩ := hw
      rw [hb61]
      obtain ⟨h62, hw⟩ := hw
      refine gx_castOrd hE h62 q1929 dX0_run_44 ?_ hok
      intro hok
      refine g_aldn2 hE1 dX0_run_47 ?_
      refine jn7_walk (fun (e_108 : Nat) (T_108 : xT) (I_108 : xI) (R_108 : xR) (L_108 : xL) (k_108 : Nat) (n_108 : Nat) => tle T_29 T_108 → k_108 ≤ 2700 → n_108 ≤ 150000 → GX E X T_108 I_108 R_108 L_108 k_108 n_108 108 [some (aR (some o)), some (aR (some b25)), some (aR r19), some (aR (some b33)), none, none] [aR (some e_108)]) hw (fun e_108 T_108 I_108 R_108 L_108 k_108 n_108 hw => ?_) (fun J_108 hj_108 hw => ?_)
      · intro hl_108 hkc_108 hnc_108; intro hok
        refine g_astn1 hE1 dX0_run_108 (by decide) rfl ?_
        refine g_aldn0 hE1 dX0_run_109 ?_
        refine g_aldn1 hE1 dX0_run_110 ?_
        have ht63 := ((((hl14.tr hl24).tr hl32).tr hl_29).tr hl_108).tag ht7 (by decide)
        refine gx_callV hE hRm (As := [aR (some e_108)]) ht63 (by decide) (by decide) rfl hx_X0_refused (tx_X0_refused X hw) (lw_V q1204 q1206 qs19 q94 q1207) ⟨by decide, by decide⟩ ⟨(show k_108 + 0 ≤ 2700 by omega), (show n_108 + 0 ≤ 150000 by omega)⟩ rfl (Nat.le_of_ble_eq_true rfl) dX0_run_111 rfl (fun r9 Tz I65 Rz Lz hΦ => ?_) hok
        obtain ⟨r64, rfl, rfl, rfl, rfl, hw⟩ := hΦ
        show GX E X T_108 I65 R_108 L_108 k_108 n_108 114 [some (aR (some o)), some (aR (some e_108)), some (aR r19), some (aR (some b33)), none, none] [aI r64]
        intro hok
        refine g_istn2 hE1 dX0_run_114 (by decide) rfl ?_
        refine g_aldn0 hE1 dX0_run_115 ?_
        refine gx_getr hE in_X0 (t := 1) rfl (by decide) 8 8 rfl (by decide) rfl (by decide) rfl q361 (Or.inl rfl) ht63 dX0_run_116 ?_ hok
        intro hok
        refine g_iconst hE1 dX0_run_119 ?_
        obtain ⟨b67, hb68, hw⟩ := hw
        rw [hb68]
        obtain ⟨ht69, hw⟩ := hw
        obtain ⟨hc70, hw⟩ := hw
        obtain ⟨hc71, hw⟩ := hw
        refine gx_callV hE hRm (As := [aI 0]) ht69 (by decide) (by decide) rfl hx_J7_setLength (tx_J7_setLength X hw) (lw_V q1991 q1992 q1993 q105 q1994) ⟨by decide, by decide⟩ ⟨hc70, hc71⟩ rfl (Nat.le_of_ble_eq_true rfl) dX0_run_120 rfl (fun r9 T72 I73 R74 Lz hΦ => ?_) hok
        obtain ⟨rfl, rfl, hl75, hw⟩ := hΦ
        have hw := hw hl75
        show GX E X T72 I73 R74 L_108 (k_108 + 1) (n_108 + 150) 123 [some (aR (some o)), some (aR (some e_108)), some (aI r64), some (aR (some b33)), none, none] []
        intro hok
        refine g_ildn2 hE1 dX0_run_123 ?_
        exact gx_iret hE hR dX0_run_124 (show k_108 + 1 ≤ 2700 by omega) (show n_108 + 150 ≤ 150000 by omega) rfl ⟨_, rfl, ((((((hl5.tr hl14).tr hl24).tr hl32).tr hl_29).tr hl_108).tr hl75), hw⟩ hok
      · skip
        obtain ⟨hc76, hw⟩ := hw
        obtain ⟨hc77, hw⟩ := hw
        refine jn4_walk (fun (T78 : xT) (I79 : xI) (R80 : xR) (L81 : xL) => tle T_29 T78 → GX E X T78 I79 R80 L81 (k_29 + 10) (n_29 + 80) 53 [some (aR (some o)), some (aR (some b25)), some (aR r19), some (aR (some b33)), none, none] []) hw (fun T78 I79 R80 L81 hw => ?_) (fun J_48 hj_48 hw => ?_)
        · intro hl82 hok
          have hw := hw hl82
          refine g_goto hE1 (tgt := 29) dX0_run_53 (by decide) ?_
          simpa only [hb17, hb26, hb34, hb61] using hk_29 _ _ _ _ _ _ hw (hl_29.tr hl82) (by omega) (by omega) hok
        refine jn5_walk (fun (e83 : Nat) (T84 : xT) (I85 : xI) (R86 : xR) (L87 : xL) => tle T_29 T84 → xtag T84 e83 = 14 → GTX E X T84 I85 R86 L87 (k_29 + 10) (n_29 + 80) 48 [some (aR (some o)), some (aR (some b25)), some (aR r19), some (aR (some b33)), none, none] "WhalingLogs$Refused" e83) hw (fun e83 T84 I85 R86 L87 hw => ?_) (fun Jx_48 hjx_48 hw => ?_)
        · intro hl88 ht89
          have hw := hw hl88 ht89
          refine gx_catch hE hH [⟨0, 77, 88, 351⟩] ⟨0, 77, 108, 55⟩ [⟨0, 77, 125, 0⟩, ⟨88, 98, 125, 0⟩, ⟨108, 115, 125, 0⟩, ⟨125, 127, 125, 0⟩] rfl (List.forall_mem_cons.mpr ⟨Or.inr ⟨by decide, q1617, rfl⟩, (fun _ h9 => nomatch h9)⟩) (by decide) (by decide) q388 q1106 ?_
          show GX E X T84 I85 R86 L87 (k_29 + 10) (n_29 + 80) 108 [some (aR (some o)), some (aR (some b25)), some (aR r19), some (aR (some b33)), none, none] [aR (some e83)]
          intro hok
          exact hj_108 _ _ _ _ _ _ _ hw hl88 (by omega) (by omega) hok
        have e8 : xtag T_29 b60 = 18 ∨ xtag T_29 b60 = 19 ∨ xtag T_29 b60 = 20 ∨ xtag T_29 b60 = 21 ∨ xtag T_29 b60 = 22 ∨ xtag T_29 b60 = 23 ∨ xtag T_29 b60 = 24 := by unfold xOrd at h62; omega
        rcases e8 with e9 | e9 | e9 | e9 | e9 | e9 | e9
        · have hw := hw.1 e9
          refine gy_callF hE hRm (na := 1) (As := [aR r19]) e9 (by decide) (by decide) rfl (x := ⟨"WhalingLogs$Order", "does", "(LWhalingLogs$Archive;)V"⟩) (by unfold fwL; simp; decide) (by decide +kernel) (tx_X10_does X hw) (lw_F q1931 q1942 q1944 q135 q1946) ⟨by decide, by decide⟩ ⟨hc76, hc77⟩ rfl (Nat.le_of_ble_eq_true rfl) dX0_run_48 rfl (fun r9 T90 I91 R92 L93 hΦ => ?_) (fun Ec q9 T95 I96 R97 L98 hΦ => ?_) hok
          · obtain ⟨rfl, hl9, hw⟩ := hΦ
            exact hj_48 _ _ _ _ (hw hl9) hl9
          · obtain ⟨rfl, hl9, ht9, hw⟩ := hΦ
            exact hjx_48 _ _ _ _ _ (hw hl9 ht9) hl9 ht9
        · have hw := hw.2.1 e9
          refine gy_callF hE hRm (na := 1) (As := [aR r19]) e9 (by decide) (by decide) rfl (x := ⟨"WhalingLogs$Order", "does", "(LWhalingLogs$Archive;)V"⟩) (by unfold fwL; simp; decide) (by decide +kernel) (tx_X11_does X hw) (lw_F q1931 q1978 q1980 q136 q1982) ⟨by decide, by decide⟩ ⟨hc76, hc77⟩ rfl (Nat.le_of_ble_eq_true rfl) dX0_run_48 rfl (fun r9 T99 I100 R101 Lz hΦ => ?_) (fun Ec q9 T103 I104 R105 Lz hΦ => ?_) hok
          · obtain ⟨rfl, rfl, hl9, hw⟩ := hΦ
            exact hj_48 _ _ _ _ (hw hl9) hl9
          · obtain ⟨rfl, rfl, hl9, ht9, hw⟩ := hΦ
            exact hjx_48 _ _ _ _ _ (hw hl9 ht9) hl9 ht9
        · have hw := hw.2.2.1 e9
          refine gy_callF hE hRm (na := 1) (As := [aR r19]) e9 (by decide) (by decide) rfl (x := ⟨"WhalingLogs$Order", "does", "(LWhalingLogs$Archive;)V"⟩) (by unfold fwL; simp; decide) (by decide +kernel) (tx_X12_does X hw) (lw_F q1931 q1963 q1965 q137 q1967) ⟨by decide, by decide⟩ ⟨hc76, hc77⟩ rfl (Nat.le_of_ble_eq_true rfl) dX0_run_48 rfl (fun r9 T106 I107 R108 Lz hΦ => ?_) (fun Ec q9 T110 I111 R112 Lz hΦ => ?_) hok
          · obtain ⟨rfl, rfl, hl9, hw⟩ := hΦ
            exact hj_48 _ _ _ _ (hw hl9) hl9
          · obtain ⟨rfl, rfl, hl9, ht9, hw⟩ := hΦ
            exact hjx_48 _ _ _ _ _ (hw hl9 ht9) hl9 ht9
        · have hw := hw.2.2.2.1 e9
          refine gy_callF hE hRm (na := 1) (As := [aR r19]) e9 (by decide) (by decide) rfl (x := ⟨"WhalingLogs$Order", "does", "(LWhalingLogs$Archive;)V"⟩) (by unfold fwL; simp; decide) (by decide +kernel) (tx_X13_does X hw) (lw_F q1931 q1954 q1956 q138 q1958) ⟨by decide, by decide⟩ ⟨hc76, hc77⟩ rfl (Nat.le_of_ble_eq_true rfl) dX0_run_48 rfl (fun r9 T113 I114 R115 Lz hΦ => ?_) (fun Ec q9 T117 I118 R119 Lz hΦ => ?_) hok
          · obtain ⟨rfl, rfl, hl9, hw⟩ := hΦ
            exact hj_48 _ _ _ _ (hw hl9) hl9
          · obtain ⟨rfl, rfl, hl9, ht9, hw⟩ := hΦ
            exact hjx_48 _ _ _ _ _ (hw hl9 ht9) hl9 ht9
        · have hw := hw.2.2.2.2.1 e9
          refine gy_callF hE hRm (na := 1) (As := [aR r19]) e9 (by decide) (by decide) rfl (x := ⟨"WhalingLogs$Order", "does", "(LWhalingLogs$Archive;)V"⟩) (by unfold fwL; simp; decide) (by decide +kernel) (tx_X14_does X hw) (lw_F q1931 q1971 q1973 q139 q1975) ⟨by decide, by decide⟩ ⟨hc76, hc77⟩ rfl (Nat.le_of_ble_eq_true rfl) dX0_run_48 rfl (fun r9 T120 I121 R122 Lz hΦ => ?_) (fun Ec q9 T124 I125 R126 Lz hΦ => ?_) hok
          · obtain ⟨rfl, rfl, hl9, hw⟩ := hΦ
            exact hj_48 _ _ _ _ (hw hl9) hl9
          · obtain ⟨rfl, rfl, hl9, ht9, hw⟩ := hΦ
            exact hjx_48 _ _ _ _ _ (hw hl9 ht9) hl9 ht9
        · have hw := hw.2.2.2.2.2.1 e9
          refine gy_callF hE hRm (na := 1) (As := [aR r19]) e9 (by decide) (by decide) rfl (x := ⟨"WhalingLogs$Order", "does", "(LWhalingLogs$Archive;)V"⟩) (by unfold fwL; simp; decide) (by decide +kernel) (tx_X15_does X hw) (lw_F q1931 q1985 q1987 q140 q1989) ⟨by decide, by decide⟩ ⟨hc76, hc77⟩ rfl (Nat.le_of_ble_eq_true rfl) dX0_run_48 rfl (fun r9 T127 I128 R129 Lz hΦ => ?_) (fun Ec q9 T131 I132 R133 Lz hΦ => ?_) hok
          · obtain ⟨rfl, rfl, hl9, hw⟩ := hΦ
            exact hj_48 _ _ _ _ (hw hl9) hl9
          · obtain ⟨rfl, rfl, hl9, ht9, hw⟩ := hΦ
            exact hjx_48 _ _ _ _ _ (hw hl9 ht9) hl9 ht9
        · have hw := hw.2.2.2.2.2.2 e9
          refine gy_callF hE hRm (na := 1) (As := [aR r19]) e9 (by decide) (by decide) rfl (x := ⟨"WhalingLogs$Order", "does", "(LWhalingLogs$Archive;)V"⟩) (by unfold fwL; simp; decide) (by decide +kernel) (tx_X16_does X hw) (lw_F q1931 q1935 q1937 q141 q1939) ⟨by decide, by decide⟩ ⟨hc76, hc77⟩ rfl (Nat.le_of_ble_eq_true rfl) dX0_run_48 rfl (fun r9 T134 I135 R136 Lz hΦ => ?_) (fun Ec q9 T138 I139 R140 Lz hΦ => ?_) hok
          · obtain ⟨rfl, rfl, hl9, hw⟩ := hΦ
            exact hj_48 _ _ _ _ (hw hl9) hl9
          · obtain ⟨rfl, rfl, hl9, ht9, hw⟩ := hΦ
            exact hjx_48 _ _ _ _ _ (hw hl9 ht9) hl9 ht9
  · have hq9 : ∃ q8, q8 = q9 := ⟨_, rfl⟩
    obtain ⟨e145, rfl⟩ := hq9
    obtain ⟨rfl, rfl, hl149, ht150, hw⟩ := hΦ
    have hw := hw hl149 ht150
    refine gx_catch hE hH [] ⟨0, 77, 88, 351⟩ [⟨0, 77, 108, 55⟩, ⟨0, 77, 125, 0⟩, ⟨88, 98, 125, 0⟩, ⟨108, 115, 125, 0⟩, ⟨125, 127, 125, 0⟩] rfl (fun _ h9 => nomatch h9) (by decide) (by decide) q1617 q1783 ?_
    show GX E X T146 I147 R148 L 2001 130003 88 [some (aR (some o)), none, none, none, none, none] [aR (some e145)]
    intro hok
    refine g_astn1 hE1 dX0_run_88 (by decide) rfl ?_
    refine g_sipush hE1 dX0_run_89 (by decide) ?_
    refine g_aldn1 hE1 dX0_run_92 ?_
    refine gx_getiN hE in_X9 (t := 17) rfl (by decide) 6 6 rfl (by decide) rfl (by decide) rfl q1795 (Or.inl rfl) ht150 dX0_run_93 ?_ hok
    intro hok
    refine g_isub hE1 dX0_run_96 ?_
    refine g_istn2 hE1 dX0_run_97 (by decide) rfl ?_
    refine g_aldn0 hE1 dX0_run_98 ?_
    have ht151 := hl149.tag ht7 (by decide)
    refine gx_getr hE in_X0 (t := 1) rfl (by decide) 8 8 rfl (by decide) rfl (by decide) rfl q361 (Or.inl rfl) ht151 dX0_run_99 ?_ hok
    intro hok
    refine g_iconst hE1 dX0_run_102 ?_
    obtain ⟨b152, hb153, hw⟩ := hw
    rw [hb153]
    obtain ⟨ht154, hw⟩ := hw
    refine gx_callV hE hRm (As := [aI 0]) ht154 (by decide) (by decide) rfl hx_J7_setLength (tx_J7_setLength X hw) (lw_V q1991 q1992 q1993 q105 q1994) ⟨by decide, by decide⟩ ⟨(by decide), (by decide)⟩ rfl (Nat.le_of_ble_eq_true rfl) dX0_run_103 rfl (fun r9 T155 I156 R157 Lz hΦ => ?_) hok
    obtain ⟨rfl, rfl, hl158, hw⟩ := hΦ
    have hw := hw hl158
    show GX E X T155 I156 R157 L 2002 130153 106 [some (aR (some o)), some (aR (some e145)), some (aI ((-1000) - (I147 e145 6))), none, none, none] []
    intro hok
    refine g_ildn2 hE1 dX0_run_106 ?_
    exact gx_iret hE hR dX0_run_107 (by decide) (by decide) rfl ⟨_, rfl, ((hl5.tr hl149).tr hl158), hw⟩ hok

/-- java/lang/Integer.stringSize(I)I -/
def wx_J28_stringSize (X : XT) (x0 : Int) (T : xT) (I : xI) (R : xR) (L : xL) (Q : Int → Prop) : Prop :=
  jn2 (fun (x0_11 : Int) (x1_11 : Int) => 
      lq2 (fun (x2_16 : Int) (x3_16 : Int) (K_16 : Int → Int → Prop) =>
        cLt x3_16 10
          (
          cLt x2_16 x0_11
            (
            Q (x3_16 + x1_11))
            (
            K_16 (10 * x2_16) (x3_16 + 1)))
          (
          Q (10 + x1_11))) (-10) 1)
    (fun (J_11 : Int → Int → Prop) =>
    cLt x0 0
      (
      J_11 x0 1)
      (
      J_11 (-x0) 0))
theorem hx_J28_stringSize : yJ28_stringSize.cls ≠ "java/lang/invoke/MethodHandle" ∧ yJ28_stringSize.cls ≠ "java/lang/invoke/VarHandle" ∧ (parseMethodDescriptor yJ28_stringSize.desc).map (fun d => d.parameters.length) = some 1 := by decide +kernel
set_option maxHeartbeats 4000000 in
theorem tx_J28_stringSize (X : XT) {x0 : Int} {T : xT} {I : xI} {R : xR} {L : xL} {Q : Int → Prop} (hw : wx_J28_stringSize X x0 T I R L Q) : CtX X yJ28_stringSize cJ28_stringSize 4 (some .int) (rmX 0 0 0 0) [aI x0] T I R L (PXi T I R L Q) := by
  refine CtX.intro (by decide) (Nat.le_of_ble_eq_true rfl) (fun E hE hR hN => ?_)
  have hRm := hR.rm
  have hE : OkX E X RJ28 cJ28_stringSize 4 (some .int) := hE
  have hE1 := hE.1
  show GX E X T I R L 0 0 0 [some (aI x0), none, none, none] []
  unfold wx_J28_stringSize at hw
  intro hok
  refine g_iconst hE1 dJ28_stringSize_0 ?_
  refine g_istn1 hE1 dJ28_stringSize_1 (by decide) rfl ?_
  refine g_ildn0 hE1 dJ28_stringSize_2 ?_
  refine jn2_walk (fun (x0_11 : Int) (x1_11 : Int) => GX E X T I R L 0 0 11 [some (aI x0_11), some (aI x1_11), none, none] []) hw (fun x0_11 x1_11 hw => ?_) (fun J_11 hj_11 hw => ?_)
  · intro hok
    refine g_bipush hE1 dJ28_stringSize_11 (by decide) ?_
    refine g_istn2 hE1 dJ28_stringSize_13 (by decide) rfl ?_
    refine g_iconst hE1 dJ28_stringSize_14 ?_
    refine g_istn3 hE1 dJ28_stringSize_15 (by decide) rfl ?_
    refine lq2_walk (fun (x2_16 : Int) (x3_16 : Int) => GX E X T I R L 0 0 16 [some (aI x0_11), some (aI x1_11), some (aI x2_16), some (aI x3_16)] []) (fun K_16 hk_16 x2_16 x3_16 hw => ?_) _ _ hw hok
    intro hok
    refine g_ildn3 hE1 dJ28_stringSize_16 ?_
    refine g_bipush hE1 dJ28_stringSize_17 (by decide) ?_
    obtain ⟨h5, h6, hT7, hN8⟩ := hw
    refine g_icmp_ge hE1 (tgt := 42) dJ28_stringSize_19 (by decide) h5 h6 (fun q => ?_) (fun q => ?_)
    · have hw := hT7 q
      refine g_ildn0 hE1 dJ28_stringSize_22 ?_
      refine g_ildn2 hE1 dJ28_stringSize_23 ?_
      obtain ⟨h1, h2, hT3, hN4⟩ := hw
      refine g_icmp_le hE1 (tgt := 31) dJ28_stringSize_24 (by decide) h2 h1 (fun q => ?_) (fun q => ?_)
      · have hw := hT3 q
        refine g_ildn3 hE1 dJ28_stringSize_27 ?_
        refine g_ildn1 hE1 dJ28_stringSize_28 ?_
        refine g_iadd hE1 dJ28_stringSize_29 ?_
        exact gx_iret hE hR dJ28_stringSize_30 (by decide) (by decide) rfl ⟨_, rfl, rfl, rfl, rfl, rfl, hw⟩ hok
      · have hw := hN4 q
        refine g_bipush hE1 dJ28_stringSize_31 (by decide) ?_
        refine g_ildn2 hE1 dJ28_stringSize_33 ?_
        refine g_imul hE1 dJ28_stringSize_34 ?_
        refine g_istn2 hE1 dJ28_stringSize_35 (by decide) rfl ?_
        refine g_iinc3 hE1 dJ28_stringSize_36 (by decide) rfl ?_
        refine g_goto hE1 (tgt := 16) dJ28_stringSize_39 (by decide) ?_
        exact hk_16 _ _ hw hok
    · have hw := hN8 q
      refine g_bipush hE1 dJ28_stringSize_42 (by decide) ?_
      refine g_ildn1 hE1 dJ28_stringSize_44 ?_
      refine g_iadd hE1 dJ28_stringSize_45 ?_
      exact gx_iret hE hR dJ28_stringSize_46 (by decide) (by decide) rfl ⟨_, rfl, rfl, rfl, rfl, rfl, hw⟩ hok
  · skip
    obtain ⟨h9, h10, hT11, hN12⟩ := hw
    refine g_if_lt hE1 (tgt := 11) dJ28_stringSize_3 (by decide) h9 (fun q => ?_) (fun q => ?_)
    · have hw := hT11 q
      exact hj_11 _ _ hw hok
    · have hw := hN12 q
      refine g_iconst hE1 dJ28_stringSize_6 ?_
      refine g_istn1 hE1 dJ28_stringSize_7 (by decide) rfl ?_
      refine g_ildn0 hE1 dJ28_stringSize_8 ?_
      refine g_ineg hE1 dJ28_stringSize_9 ?_
      refine g_istn0 hE1 dJ28_stringSize_10 (by decide) rfl ?_
      exact hj_11 _ _ hw hok

/-- java/lang/Integer.getChars(II[B)I -/
def wx_J28_getChars (X : XT) (x0 : Int) (x1 : Int) (x2 : Option Nat) (T : xT) (I : xI) (R : xR) (L : xL) (Q : Int → xI → Prop) : Prop :=
  jn1 (fun (y0_12 : Int) => 
      jn1 (fun (x0_22 : Int) => 
          lq3 (fun (x0_22 : Int) (x5_22 : Int) (I_22 : xI) (K_22 : Int → Int → xI → Prop) =>
            cLt (-100) x0_22
              (
              ∃ b1 : Nat, srX X 3 = some b1 ∧ xtag T b1 = 101 ∧ ib (-x0_22) (xlen T b1) ∧ xlen T b1 < 2147483648 ∧
              ∃ b6 : Nat, x2 = some b6 ∧ xtag T b6 = 101 ∧ ib (x5_22 + (-1)) (xlen T b6) ∧ xlen T b6 < 2147483648 ∧ bsX X ≤ b6 ∧ vp_nar .byte (iI (I_22 b1 (-x0_22))) = iI (I_22 b1 (-x0_22)) ∧ ∀ I13 : xI, I13 = uI I_22 b6 (x5_22 + (-1)) (I_22 b1 (-x0_22)) →
              jn2 (fun (x5_104 : Int) (I_104 : xI) => 
                  jn2 (fun (x5_118 : Int) (I_118 : xI) => 
                      Q x5_118 I_118)
                    (fun (J_118 : Int → xI → Prop) =>
                    cEq y0_12 0
                      (
                      J_118 x5_104 I_104)
                      (
                      ib (x5_104 + (-1)) (xlen T b6) ∧ xlen T b6 < 2147483648 ∧ bsX X ≤ b6 ∧ vp_nar .byte (iI 45) = iI 45 ∧ ∀ I18 : xI, I18 = uI I_104 b6 (x5_104 + (-1)) 45 →
                      J_118 (x5_104 + (-1)) I18)))
                (fun (J_104 : Int → xI → Prop) =>
                cLt x0_22 (-9)
                  (
                  ∃ b23 : Nat, srX X 2 = some b23 ∧ xtag T b23 = 101 ∧ ib (-x0_22) (xlen T b23) ∧ xlen T b23 < 2147483648 ∧
                  ib ((x5_22 + (-1)) + (-1)) (xlen T b6) ∧ xlen T b6 < 2147483648 ∧ bsX X ≤ b6 ∧ vp_nar .byte (iI (I13 b23 (-x0_22))) = iI (I13 b23 (-x0_22)) ∧ ∀ I32 : xI, I32 = uI I13 b6 ((x5_22 + (-1)) + (-1)) (I13 b23 (-x0_22)) →
                  J_104 ((x5_22 + (-1)) + (-1)) I32)
                  (
                  J_104 (x5_22 + (-1)) I13)))
              (
              ((0 : Int) ≤ x0_22 ∧ (x0_22 : Int) < 2147483648) ∧
              ∃ b38 : Nat, srX X 3 = some b38 ∧ xtag T b38 = 101 ∧ ib (((x0_22 / 100) * 100) - x0_22) (xlen T b38) ∧ xlen T b38 < 2147483648 ∧
              ∃ b43 : Nat, x2 = some b43 ∧ xtag T b43 = 101 ∧ ib (x5_22 + (-1)) (xlen T b43) ∧ xlen T b43 < 2147483648 ∧ bsX X ≤ b43 ∧ vp_nar .byte (iI (I_22 b38 (((x0_22 / 100) * 100) - x0_22))) = iI (I_22 b38 (((x0_22 / 100) * 100) - x0_22)) ∧ ∀ I50 : xI, I50 = uI I_22 b43 (x5_22 + (-1)) (I_22 b38 (((x0_22 / 100) * 100) - x0_22)) →
              ∃ b51 : Nat, srX X 2 = some b51 ∧ xtag T b51 = 101 ∧ ib (((x0_22 / 100) * 100) - x0_22) (xlen T b51) ∧ xlen T b51 < 2147483648 ∧
              ib ((x5_22 + (-1)) + (-1)) (xlen T b43) ∧ xlen T b43 < 2147483648 ∧ bsX X ≤ b43 ∧ vp_nar .byte (iI (I50 b51 (((x0_22 / 100) * 100) - x0_22))) = iI (I50 b51 (((x0_22 / 100) * 100) - x0_22)) ∧ ∀ I60 : xI, I60 = uI I50 b43 ((x5_22 + (-1)) + (-1)) (I50 b51 (((x0_22 / 100) * 100) - x0_22)) →
              K_22 (x0_22 / 100) ((x5_22 + (-1)) + (-1)) I60)) x0_22 x1 I)
        (fun (J_22 : Int → Prop) =>
        cEq y0_12 0
          (
          J_22 (-x0))
          (
          J_22 x0)))
    (fun (J_12 : Int → Prop) =>
    cLt x0 0
      (
      J_12 1)
      (
      J_12 0))
theorem hx_J28_getChars : yJ28_getChars.cls ≠ "java/lang/invoke/MethodHandle" ∧ yJ28_getChars.cls ≠ "java/lang/invoke/VarHandle" ∧ (parseMethodDescriptor yJ28_getChars.desc).map (fun d => d.parameters.length) = some 3 := by decide +kernel
set_option maxHeartbeats 4000000 in
theorem tx_J28_getChars (X : XT) {x0 : Int} {x1 : Int} {x2 : Option Nat} {T : xT} {I : xI} {R : xR} {L : xL} {Q : Int → xI → Prop} (hw : wx_J28_getChars X x0 x1 x2 T I R L Q) : CtX X yJ28_getChars cJ28_getChars 7 (some .int) (rmX 0 0 0 0) [aI x0, aI x1, aR x2] T I R L (PXiI T I R L Q) := by
  refine CtX.intro (by decide) (Nat.le_of_ble_eq_true rfl) (fun E hE hR hN => ?_)
  have hRm := hR.rm
  have hE : OkX E X RJ28 cJ28_getChars 7 (some .int) := hE
  have hE1 := hE.1
  show GX E X T I R L 0 0 0 [some (aI x0), some (aI x1), some (aR x2), none, none, none, none] []
  unfold wx_J28_getChars at hw
  intro hok
  refine g_ildn1 hE1 dJ28_getChars_0 ?_
  refine g_ist5 hE1 dJ28_getChars_1 (by decide) rfl ?_
  refine g_ildn0 hE1 dJ28_getChars_3 ?_
  refine jn1_walk (fun (y0_12 : Int) => GX E X T I R L 0 0 12 [some (aI x0), some (aI x1), some (aR x2), none, none, some (aI x1), none] [aI y0_12]) hw (fun y0_12 hw => ?_) (fun J_12 hj_12 hw => ?_)
  · intro hok
    refine g_ist6 hE1 dJ28_getChars_12 (by decide) rfl ?_
    refine g_ild6 hE1 dJ28_getChars_14 ?_
    refine jn1_walk (fun (x0_22 : Int) => GX E X T I R L 0 0 22 [some (aI x0_22), some (aI x1), some (aR x2), none, none, some (aI x1), some (aI y0_12)] []) hw (fun x0_22 hw => ?_) (fun J_22 hj_22 hw => ?_)
    · intro hok
      refine lq3_walk (fun (x0_22 : Int) (x5_22 : Int) (I_22 : xI) => GX E X T I_22 R L 0 0 22 [some (aI x0_22), some (aI x1), some (aR x2), none, none, some (aI x5_22), some (aI y0_12)] []) (fun K_22 hk_22 x0_22 x5_22 I_22 hw => ?_) _ _ _ hw hok
      intro hok
      refine g_ildn0 hE1 dJ28_getChars_22 ?_
      refine g_bipush hE1 dJ28_getChars_23 (by decide) ?_
      obtain ⟨h61, h62, hT63, hN64⟩ := hw
      refine g_icmp_gt hE1 (tgt := 72) dJ28_getChars_25 (by decide) h62 h61 (fun q => ?_) (fun q => ?_)
      · have hw := hT63 q
        refine g_aldn2 hE1 dJ28_getChars_72 ?_
        refine g_iinc5 hE1 dJ28_getChars_73 (by decide) rfl ?_
        refine g_ild5 hE1 dJ28_getChars_76 ?_
        refine gx_gets_r hE (List.mem_of_getElem? (i := 5) rfl : ("java/lang/Integer", "DigitOnes", "[B", Sum.inr (3 : Nat)) ∈ stL) q2028 dJ28_getChars_78 ?_ hok
        intro hok
        refine g_ildn0 hE1 dJ28_getChars_81 ?_
        refine g_ineg hE1 dJ28_getChars_82 ?_
        obtain ⟨b1, hb2, hw⟩ := hw
        rw [hb2]
        obtain ⟨ht3, hw⟩ := hw
        obtain ⟨h4, h5, hw⟩ := hw
        refine gx_bald hE ht3 h4 h5 dJ28_getChars_83 ?_ hok
        intro hok
        obtain ⟨b6, hb7, hw⟩ := hw
        rw [hb7]
        obtain ⟨ht8, hw⟩ := hw
        obtain ⟨h9, h10, hw⟩ := hw
        obtain ⟨h11, h12, hw⟩ := hw
        refine gx_bast hE ht8 h11 h9 h10 h12 dJ28_getChars_84 ?_ hok
        intro hok
        have hw := hw _ rfl
        generalize uI I_22 b6 (x5_22 + (-1)) (I_22 b1 (-x0_22)) = I13 at hw hok ⊢
        refine g_ildn0 hE1 dJ28_getChars_85 ?_
        refine g_bipush hE1 dJ28_getChars_86 (by decide) ?_
        refine jn2_walk (fun (x5_104 : Int) (I_104 : xI) => GX E X T I_104 R L 0 0 104 [some (aI x0_22), some (aI x1), some (aR (some b6)), none, none, some (aI x5_104), some (aI y0_12)] []) hw (fun x5_104 I_104 hw => ?_) (fun J_104 hj_104 hw => ?_)
        · intro hok
          refine g_ild6 hE1 dJ28_getChars_104 ?_
          refine jn2_walk (fun (x5_118 : Int) (I_118 : xI) => GX E X T I_118 R L 0 0 118 [some (aI x0_22), some (aI x1), some (aR (some b6)), none, none, some (aI x5_118), some (aI y0_12)] []) hw (fun x5_118 I_118 hw => ?_) (fun J_118 hj_118 hw => ?_)
          · intro hok
            refine g_ild5 hE1 dJ28_getChars_118 ?_
            exact gx_iret hE hR dJ28_getChars_120 (by decide) (by decide) rfl ⟨_, rfl, rfl, rfl, rfl, hw⟩ hok
          · skip
            obtain ⟨h19, h20, hT21, hN22⟩ := hw
            refine g_if_eq hE1 (tgt := 118) dJ28_getChars_106 (by decide) h19 (fun q => ?_) (fun q => ?_)
            · have hw := hT21 q
              exact hj_118 _ _ hw hok
            · have hw := hN22 q
              refine g_aldn2 hE1 dJ28_getChars_109 ?_
              refine g_iinc5 hE1 dJ28_getChars_110 (by decide) rfl ?_
              refine g_ild5 hE1 dJ28_getChars_113 ?_
              refine g_bipush hE1 dJ28_getChars_115 (by decide) ?_
              obtain ⟨h14, h15, hw⟩ := hw
              obtain ⟨h16, h17, hw⟩ := hw
              refine gx_bast hE ht8 h16 h14 h15 h17 dJ28_getChars_117 ?_ hok
              intro hok
              have hw := hw _ rfl
              generalize uI I_104 b6 (x5_104 + (-1)) 45 = I18 at hw hok ⊢
              exact hj_118 _ _ hw hok
        · skip
          obtain ⟨h33, h34, hT35, hN36⟩ := hw
          refine g_icmp_ge hE1 (tgt := 104) dJ28_getChars_88 (by decide) h33 h34 (fun q => ?_) (fun q => ?_)
          · have hw := hT35 q
            refine g_aldn2 hE1 dJ28_getChars_91 ?_
            refine g_iinc5 hE1 dJ28_getChars_92 (by decide) rfl ?_
            refine g_ild5 hE1 dJ28_getChars_95 ?_
            refine gx_gets_r hE (List.mem_of_getElem? (i := 4) rfl : ("java/lang/Integer", "DigitTens", "[B", Sum.inr (2 : Nat)) ∈ stL) q2030 dJ28_getChars_97 ?_ hok
            intro hok
            refine g_ildn0 hE1 dJ28_getChars_100 ?_
            refine g_ineg hE1 dJ28_getChars_101 ?_
            obtain ⟨b23, hb24, hw⟩ := hw
            rw [hb24]
            obtain ⟨ht25, hw⟩ := hw
            obtain ⟨h26, h27, hw⟩ := hw
            refine gx_bald hE ht25 h26 h27 dJ28_getChars_102 ?_ hok
            intro hok
            obtain ⟨h28, h29, hw⟩ := hw
            obtain ⟨h30, h31, hw⟩ := hw
            refine gx_bast hE ht8 h30 h28 h29 h31 dJ28_getChars_103 ?_ hok
            intro hok
            have hw := hw _ rfl
            generalize uI I13 b6 ((x5_22 + (-1)) + (-1)) (I13 b23 (-x0_22)) = I32 at hw hok ⊢
            exact hj_104 _ _ hw hok
          · have hw := hN36 q
            exact hj_104 _ _ hw hok
      · have hw := hN64 q
        refine g_ildn0 hE1 dJ28_getChars_28 ?_
        refine g_bipush hE1 dJ28_getChars_29 (by decide) ?_
        obtain ⟨h37, hw⟩ := hw
        refine g_idiv hE1 dJ28_getChars_31 h37 (by decide) ?_
        refine g_istn3 hE1 dJ28_getChars_32 (by decide) rfl ?_
        refine g_ildn3 hE1 dJ28_getChars_33 ?_
        refine g_bipush hE1 dJ28_getChars_34 (by decide) ?_
        refine g_imul hE1 dJ28_getChars_36 ?_
        refine g_ildn0 hE1 dJ28_getChars_37 ?_
        refine g_isub hE1 dJ28_getChars_38 ?_
        refine g_ist4 hE1 dJ28_getChars_39 (by decide) rfl ?_
        refine g_ildn3 hE1 dJ28_getChars_41 ?_
        refine g_istn0 hE1 dJ28_getChars_42 (by decide) rfl ?_
        refine g_aldn2 hE1 dJ28_getChars_43 ?_
        refine g_iinc5 hE1 dJ28_getChars_44 (by decide) rfl ?_
        refine g_ild5 hE1 dJ28_getChars_47 ?_
        refine gx_gets_r hE (List.mem_of_getElem? (i := 5) rfl : ("java/lang/Integer", "DigitOnes", "[B", Sum.inr (3 : Nat)) ∈ stL) q2028 dJ28_getChars_49 ?_ hok
        intro hok
        refine g_ild4 hE1 dJ28_getChars_52 ?_
        obtain ⟨b38, hb39, hw⟩ := hw
        rw [hb39]
        obtain ⟨ht40, hw⟩ := hw
        obtain ⟨h41, h42, hw⟩ := hw
        refine gx_bald hE ht40 h41 h42 dJ28_getChars_54 ?_ hok
        intro hok
        obtain ⟨b43, hb44, hw⟩ := hw
        rw [hb44]
        obtain ⟨ht45, hw⟩ := hw
        obtain ⟨h46, h47, hw⟩ := hw
        obtain ⟨h48, h49, hw⟩ := hw
        refine gx_bast hE ht45 h48 h46 h47 h49 dJ28_getChars_55 ?_ hok
        intro hok
        have hw := hw _ rfl
        generalize uI I_22 b43 (x5_22 + (-1)) (I_22 b38 (((x0_22 / 100) * 100) - x0_22)) = I50 at hw hok ⊢
        refine g_aldn2 hE1 dJ28_getChars_56 ?_
        refine g_iinc5 hE1 dJ28_getChars_57 (by decide) rfl ?_
        refine g_ild5 hE1 dJ28_getChars_60 ?_
        refine gx_gets_r hE (List.mem_of_getElem? (i := 4) rfl : ("java/lang/Integer", "DigitTens", "[B", Sum.inr (2 : Nat)) ∈ stL) q2030 dJ28_getChars_62 ?_ hok
        intro hok
        refine g_ild4 hE1 dJ28_getChars_65 ?_
        obtain ⟨b51, hb52, hw⟩ := hw
        rw [hb52]
        obtain ⟨ht53, hw⟩ := hw
        obtain ⟨h54, h55, hw⟩ := hw
        refine gx_bald hE ht53 h54 h55 dJ28_getChars_67 ?_ hok
        intro hok
        obtain ⟨h56, h57, hw⟩ := hw
        obtain ⟨h58, h59, hw⟩ := hw
        refine gx_bast hE ht45 h58 h56 h57 h59 dJ28_getChars_68 ?_ hok
        intro hok
        have hw := hw _ rfl
        generalize uI I50 b43 ((x5_22 + (-1)) + (-1)) (I50 b51 (((x0_22 / 100) * 100) - x0_22)) = I60 at hw hok ⊢
        refine g_goto hE1 (tgt := 22) dJ28_getChars_69 (by decide) ?_
        refine g_kl3 ?_
        refine g_kl4 ?_
        simpa only [hb39, hb44, hb52] using hk_22 _ _ _ hw hok
    · skip
      obtain ⟨h65, h66, hT67, hN68⟩ := hw
      refine g_if_ne hE1 (tgt := 22) dJ28_getChars_16 (by decide) h65 (fun q => ?_) (fun q => ?_)
      · have hw := hT67 q
        refine g_ildn0 hE1 dJ28_getChars_19 ?_
        refine g_ineg hE1 dJ28_getChars_20 ?_
        refine g_istn0 hE1 dJ28_getChars_21 (by decide) rfl ?_
        exact hj_22 _ hw hok
      · have hw := hN68 q
        exact hj_22 _ hw hok
  · skip
    obtain ⟨h69, h70, hT71, hN72⟩ := hw
    refine g_if_ge hE1 (tgt := 11) dJ28_getChars_4 (by decide) h69 (fun q => ?_) (fun q => ?_)
    · have hw := hT71 q
      refine g_iconst hE1 dJ28_getChars_7 ?_
      refine g_goto hE1 (tgt := 12) dJ28_getChars_8 (by decide) ?_
      exact hj_12 _ hw hok
    · have hw := hN72 q
      refine g_iconst hE1 dJ28_getChars_11 ?_
      exact hj_12 _ hw hok

/-- java/lang/AbstractStringBuilder.append(I)Ljava/lang/AbstractStringBuilder; -/
def wx_J6_append_3_J7 (X : XT) (o : Nat) (x1 : Int) (T : xT) (I : xI) (R : xR) (L : xL) (Q : Option Nat → xT → xI → xR → Prop) : Prop :=
  xtag T o = 8 ∧
  wx_J28_stringSize X x1 T I R L (fun (r2 : Int) => 
  wx_J6_ensureCapacityInternal_J7 X o ((I o 3) + r2) T I R L (fun (T4 : xT) (I5 : xI) (R6 : xR) => tle T T4 → 
  wx_J6_isLatin1_J7 X o T4 I5 R6 L (fun (r9 : Int) => 
  cEq r9 0
    (
    False)
    (
    wx_J28_getChars X x1 ((I o 3) + r2) (R6 o 0) T4 I5 R6 L (fun (r11 : Int) (I12 : xI) => 
    ∀ I14 : xI, I14 = uI I12 o 3 ((I o 3) + r2) →
    Q (some o) T4 I14 R6)))))
theorem hx_J6_append_3_J7 : yJ6_append_3.cls = RJ6 ∧ yJ6_append_3.cls ≠ "java/lang/invoke/MethodHandle" ∧ yJ6_append_3.cls ≠ "java/lang/invoke/VarHandle" ∧ (parseMethodDescriptor yJ6_append_3.desc).map (fun d => d.parameters.length) = some 1 := by decide +kernel
set_option maxHeartbeats 4000000 in
theorem tx_J6_append_3_J7 (X : XT) {o : Nat} {x1 : Int} {T : xT} {I : xI} {R : xR} {L : xL} {Q : Option Nat → xT → xI → xR → Prop} (hw : wx_J6_append_3_J7 X o x1 T I R L Q) : CtX X yJ6_append_3 cJ6_append_3 4 (some (.object "java/lang/AbstractStringBuilder")) (rmX 4 1 150 134) [aR (some o), aI x1] T I R L (PXqTIR T I R L Q) := by
  refine CtX.intro (by decide) (Nat.le_of_ble_eq_true rfl) (fun E hE hR hN => ?_)
  have hRm := hR.rm
  have hE : OkX E X RJ6 cJ6_append_3 4 (some (.object "java/lang/AbstractStringBuilder")) := hE
  have hE1 := hE.1
  show GX E X T I R L 0 0 0 [some (aR (some o)), some (aI x1), none, none] []
  unfold wx_J6_append_3_J7 at hw
  intro hok
  refine g_aldn0 hE1 dJ6_append_3_0 ?_
  obtain ⟨ht1, hw⟩ := hw
  refine gx_geti hE in_J7 (t := 8) rfl (by decide) 3 3 rfl (by decide) rfl (by decide) rfl q342 (Or.inl rfl) ht1 dJ6_append_3_1 ?_ hok
  intro hok
  refine g_istn2 hE1 dJ6_append_3_4 (by decide) rfl ?_
  refine g_ildn2 hE1 dJ6_append_3_5 ?_
  refine g_ildn1 hE1 dJ6_append_3_6 ?_
  refine gx_callS hE hRm (As := [aI x1]) hx_J28_stringSize (tx_J28_stringSize X hw) (lw_S q2022 q2023 q143 q2024) ⟨by decide, by decide⟩ ⟨(by decide), (by decide)⟩ rfl (Nat.le_of_ble_eq_true rfl) dJ6_append_3_7 rfl (fun r9 Tz Iz Rz Lz hΦ => ?_) hok
  obtain ⟨r2, rfl, rfl, rfl, rfl, rfl, hw⟩ := hΦ
  show GX E X T I R L 0 0 10 [some (aR (some o)), some (aI x1), some (aI (I o 3)), none] [aI r2, aI (I o 3)]
  intro hok
  refine g_iadd hE1 dJ6_append_3_10 ?_
  refine g_istn3 hE1 dJ6_append_3_11 (by decide) rfl ?_
  refine g_aldn0 hE1 dJ6_append_3_12 ?_
  refine g_ildn3 hE1 dJ6_append_3_13 ?_
  refine gx_callP hE hRm (As := [aI ((I o 3) + r2)]) ht1 (by decide) (by decide) rfl (x0 := ⟨"java/lang/AbstractStringBuilder", "isLatin1", "()Z"⟩) hx_J6_ensureCapacityInternal_J7.2 (tx_J6_ensureCapacityInternal_J7 X hw) (lw_meth q731) q728 q104 q730 q756 rfl q729 ⟨by decide, by decide⟩ ⟨(by decide), (by decide)⟩ rfl (Nat.le_of_ble_eq_true rfl) dJ6_append_3_14 rfl (fun r9 T4 I5 R6 Lz hΦ => ?_) hok
  obtain ⟨rfl, rfl, hl7, hw⟩ := hΦ
  have hw := hw hl7
  show GX E X T4 I5 R6 L 1 150 17 [some (aR (some o)), some (aI x1), some (aI (I o 3)), some (aI ((I o 3) + r2))] []
  intro hok
  refine g_aldn0 hE1 dJ6_append_3_17 ?_
  have ht8 := hl7.tag ht1 (by decide)
  refine gx_callU hE hRm (na := 0) (As := []) ht8 (by decide) (by decide) rfl (owner := "java/lang/AbstractStringBuilder") (x := ⟨"java/lang/AbstractStringBuilder", "isLatin1", "()Z"⟩) (by decide +kernel) (tx_J6_isLatin1_J7 X hw) (lw_U q753 q755 q756 q754 q104 q757) rfl ⟨by decide, by decide⟩ ⟨(by decide), (by decide)⟩ rfl (Nat.le_of_ble_eq_true rfl) dJ6_append_3_18 rfl (fun r9 Tz Iz Rz Lz hΦ => ?_) hok
  obtain ⟨r9, rfl, rfl, rfl, rfl, rfl, hw⟩ := hΦ
  show GX E X T4 I5 R6 L 1 150 21 [some (aR (some o)), some (aI x1), some (aI (I o 3)), some (aI ((I o 3) + r2))] [aI r9]
  intro hok
  obtain ⟨h15, h16, hT17, hN18⟩ := hw
  refine g_if_eq hE1 (tgt := 37) dJ6_append_3_21 (by decide) h15 (fun q => ?_) (fun q => ?_)
  · have hw := hT17 q
    refine g_ildn1 hE1 dJ6_append_3_37 ?_
    refine g_ildn2 hE1 dJ6_append_3_38 ?_
    refine g_ildn3 hE1 dJ6_append_3_39 ?_
    refine g_aldn0 hE1 dJ6_append_3_40 ?_
    refine gx_getr hE in_J7 (t := 8) rfl (by decide) 0 0 rfl (by decide) rfl (by decide) rfl q338 (Or.inl rfl) ht8 dJ6_append_3_41 ?_ hok
    intro hok
    exact hw.elim
  · have hw := hN18 q
    refine g_ildn1 hE1 dJ6_append_3_24 ?_
    refine g_ildn3 hE1 dJ6_append_3_25 ?_
    refine g_aldn0 hE1 dJ6_append_3_26 ?_
    refine gx_getr hE in_J7 (t := 8) rfl (by decide) 0 0 rfl (by decide) rfl (by decide) rfl q338 (Or.inl rfl) ht8 dJ6_append_3_27 ?_ hok
    intro hok
    refine gx_callS hE hRm (As := [aI x1, aI ((I o 3) + r2), aR (R6 o 0)]) hx_J28_getChars (tx_J28_getChars X hw) (lw_S q2025 q2026 q143 q2027) ⟨by decide, by decide⟩ ⟨(by decide), (by decide)⟩ rfl (Nat.le_of_ble_eq_true rfl) dJ6_append_3_30 rfl (fun r9 Tz I12 Rz Lz hΦ => ?_) hok
    obtain ⟨r11, rfl, rfl, rfl, rfl, hw⟩ := hΦ
    show GX E X T4 I12 R6 L 1 150 33 [some (aR (some o)), some (aI x1), some (aI (I o 3)), some (aI ((I o 3) + r2))] [aI r11]
    intro hok
    refine g_pop hE1 dJ6_append_3_33 rfl ?_
    refine g_goto hE1 (tgt := 48) dJ6_append_3_34 (by decide) ?_
    refine g_aldn0 hE1 dJ6_append_3_48 ?_
    refine g_ildn3 hE1 dJ6_append_3_49 ?_
    refine gx_puti hE in_J7 (t := 8) rfl (by decide) 3 3 rfl (by decide) rfl (by decide) (ty := tyJ7 3) tyJ7 tyJ7_ok nmJ7 rfl q342 (Or.inl rfl) rfl (tyJ7_ok 3 (by decide)) rfl rfl ht8 dJ6_append_3_50 ?_ hok
    intro hok
    have hw := hw _ rfl
    generalize uI I12 o 3 ((I o 3) + r2) = I14 at hw hok ⊢
    refine g_aldn0 hE1 dJ6_append_3_53 ?_
    exact gx_aret hE hR dJ6_append_3_54 (by decide) (by decide) (Or.inl ⟨_, rfl⟩) ⟨_, rfl, rfl, hl7, hw⟩ hok

/-- java/lang/StringBuilder.append(I)Ljava/lang/StringBuilder; -/
def wx_J7_append_3 (X : XT) (o : Nat) (x1 : Int) (T : xT) (I : xI) (R : xR) (L : xL) (Q : Option Nat → xT → xI → xR → Prop) : Prop :=
  xtag T o = 8 ∧ wx_J6_append_3_J7 X o x1 T I R L (fun (r2 : Option Nat) (T3 : xT) (I4 : xI) (R5 : xR) => tle T T3 → 
  Q (some o) T3 I4 R5)
theorem hx_J7_append_3 : yJ7_append_3.cls = RJ7 ∧ yJ7_append_3.cls ≠ "java/lang/invoke/MethodHandle" ∧ yJ7_append_3.cls ≠ "java/lang/invoke/VarHandle" ∧ (parseMethodDescriptor yJ7_append_3.desc).map (fun d => d.parameters.length) = some 1 := by decide +kernel
set_option maxHeartbeats 4000000 in
theorem tx_J7_append_3 (X : XT) {o : Nat} {x1 : Int} {T : xT} {I : xI} {R : xR} {L : xL} {Q : Option Nat → xT → xI → xR → Prop} (hw : wx_J7_append_3 X o x1 T I R L Q) : CtX X yJ7_append_3 cJ7_append_3 2 (some (.object "java/lang/StringBuilder")) (rmX 5 1 150 157) [aR (some o), aI x1] T I R L (PXqTIR T I R L Q) := by
  refine CtX.intro (by decide) (Nat.le_of_ble_eq_true rfl) (fun E hE hR hN => ?_)
  have hRm := hR.rm
  have hE : OkX E X RJ7 cJ7_append_3 2 (some (.object "java/lang/StringBuilder")) := hE
  have hE1 := hE.1
  show GX E X T I R L 0 0 0 [some (aR (some o)), some (aI x1)] []
  unfold wx_J7_append_3 at hw
  intro hok
  refine g_aldn0 hE1 dJ7_append_3_0 ?_
  refine g_ildn1 hE1 dJ7_append_3_1 ?_
  obtain ⟨ht1, hw⟩ := hw
  refine gx_callSU hE hRm (na := 1) (As := [aI x1]) ht1 (by decide) (by decide) rfl (by decide +kernel) (tx_J6_append_3_J7 X hw) (lw_SU q2019 q2600 q351 q2020 q104 q2021) ⟨by decide, by decide⟩ ⟨(by decide), (by decide)⟩ rfl (Nat.le_of_ble_eq_true rfl) dJ7_append_3_2 rfl (fun r9 T3 I4 R5 Lz hΦ => ?_) hok
  obtain ⟨r2, rfl, rfl, hl6, hw⟩ := hΦ
  have hw := hw hl6
  show GX E X T3 I4 R5 L 1 150 5 [some (aR (some o)), some (aI x1)] [aR r2]
  intro hok
  refine g_pop hE1 dJ7_append_3_5 rfl ?_
  refine g_aldn0 hE1 dJ7_append_3_6 ?_
  exact gx_aret hE hR dJ7_append_3_7 (by decide) (by decide) (Or.inl ⟨_, rfl⟩) ⟨_, rfl, rfl, hl6, hw⟩ hok

/-- java/lang/String.coder()B -/
def wx_J8_coder (X : XT) (o : Nat)  (T : xT) (I : xI) (R : xR) (L : xL) (Q : Int → Prop) : Prop :=
  jn1 (fun (y0_14 : Int) => 
      bl y0_14 ∧ Q y0_14)
    (fun (J_14 : Int → Prop) =>
    xtag T o = 25 ∧
    J_14 (I o 1))
theorem hx_J8_coder : yJ8_coder.cls = RJ8 ∧ yJ8_coder.cls ≠ "java/lang/invoke/MethodHandle" ∧ yJ8_coder.cls ≠ "java/lang/invoke/VarHandle" ∧ (parseMethodDescriptor yJ8_coder.desc).map (fun d => d.parameters.length) = some 0 := by decide +kernel
set_option maxHeartbeats 4000000 in
theorem tx_J8_coder (X : XT) {o : Nat}  {T : xT} {I : xI} {R : xR} {L : xL} {Q : Int → Prop} (hw : wx_J8_coder X o T I R L Q) : CtX X yJ8_coder cJ8_coder 1 (some .byte) (rmX 0 0 0 0) [aR (some o)] T I R L (PXi T I R L Q) := by
  refine CtX.intro (by decide) (Nat.le_of_ble_eq_true rfl) (fun E hE hR hN => ?_)
  have hRm := hR.rm
  have hE : OkX E X RJ8 cJ8_coder 1 (some .byte) := hE
  have hE1 := hE.1
  show GX E X T I R L 0 0 0 [some (aR (some o))] []
  unfold wx_J8_coder at hw
  intro hok
  refine gx_gets_i hE (List.mem_of_getElem? (i := 1) rfl : ("java/lang/String", "COMPACT_STRINGS", "Z", Sum.inl (1 : Int)) ∈ stL) q792 dJ8_coder_0 ?_ hok
  intro hok
  refine jn1_walk (fun (y0_14 : Int) => GX E X T I R L 0 0 14 [some (aR (some o))] [aI y0_14]) hw (fun y0_14 hw => ?_) (fun J_14 hj_14 hw => ?_)
  · intro hok
    obtain ⟨h1, hw⟩ := hw
    exact gx_iret hE hR dJ8_coder_14 (by decide) (by decide) (narrow_by h1) ⟨_, rfl, rfl, rfl, rfl, rfl, hw⟩ hok
  · skip
    refine g_if_eq hE1 (tgt := 13) dJ8_coder_3 (by decide) (by decide) (fun q => absurd q (by decide)) (fun _ => ?_)
    refine g_aldn0 hE1 dJ8_coder_6 ?_
    obtain ⟨ht2, hw⟩ := hw
    refine gx_getiS hE in_J8 (t := 25) rfl (by decide) 1 1 rfl (by decide) rfl rfl rfl q878 (Or.inl rfl) ht2 dJ8_coder_7 ?_ hok
    intro hok
    refine g_goto hE1 (tgt := 14) dJ8_coder_10 (by decide) ?_
    exact hj_14 _ hw hok

/-- java/lang/String.length()I -/
def wx_J8_length (X : XT) (o : Nat)  (T : xT) (I : xI) (R : xR) (L : xL) (Q : Int → Prop) : Prop :=
  xtag T o = 25 ∧
  ∃ b2 : Nat, R o 0 = some b2 ∧ xtag T b2 = 101 ∧
  wx_J8_coder X o T I R L (fun (r5 : Int) => 
  Q (bShr (xlen T b2 : Int) r5))
theorem hx_J8_length : yJ8_length.cls = RJ8 ∧ yJ8_length.cls ≠ "java/lang/invoke/MethodHandle" ∧ yJ8_length.cls ≠ "java/lang/invoke/VarHandle" ∧ (parseMethodDescriptor yJ8_length.desc).map (fun d => d.parameters.length) = some 0 := by decide +kernel
set_option maxHeartbeats 4000000 in
theorem tx_J8_length (X : XT) {o : Nat}  {T : xT} {I : xI} {R : xR} {L : xL} {Q : Int → Prop} (hw : wx_J8_length X o T I R L Q) : CtX X yJ8_length cJ8_length 1 (some .int) (rmX 1 0 0 20) [aR (some o)] T I R L (PXi T I R L Q) := by
  refine CtX.intro (by decide) (Nat.le_of_ble_eq_true rfl) (fun E hE hR hN => ?_)
  have hRm := hR.rm
  have hE : OkX E X RJ8 cJ8_length 1 (some .int) := hE
  have hE1 := hE.1
  show GX E X T I R L 0 0 0 [some (aR (some o))] []
  unfold wx_J8_length at hw
  intro hok
  refine g_aldn0 hE1 dJ8_length_0 ?_
  obtain ⟨ht1, hw⟩ := hw
  refine gx_getrS hE in_J8 (t := 25) rfl (by decide) 0 0 rfl (by decide) rfl rfl rfl q877 (Or.inl rfl) ht1 dJ8_length_1 ?_ hok
  intro hok
  obtain ⟨b2, hb3, hw⟩ := hw
  rw [hb3]
  obtain ⟨ht4, hw⟩ := hw
  refine gx_alenB hE ht4 dJ8_length_4 ?_ hok
  intro hok
  refine g_aldn0 hE1 dJ8_length_5 ?_
  refine gx_callV hE hRm (As := []) ht1 (by decide) (by decide) rfl hx_J8_coder (tx_J8_coder X hw) (lw_V q788 q789 q790 q106 q791) ⟨by decide, by decide⟩ ⟨(by decide), (by decide)⟩ rfl (Nat.le_of_ble_eq_true rfl) dJ8_length_6 rfl (fun r9 Tz Iz Rz Lz hΦ => ?_) hok
  obtain ⟨r5, rfl, rfl, rfl, rfl, rfl, hw⟩ := hΦ
  show GX E X T I R L 0 0 9 [some (aR (some o))] [aI r5, aI (xlen T b2 : Int)]
  intro hok
  refine g_ishr hE1 dJ8_length_9 ?_
  exact gx_iret hE hR dJ8_length_10 (by decide) (by decide) rfl ⟨_, rfl, rfl, rfl, rfl, rfl, hw⟩ hok

/-- java/lang/AbstractStringBuilder.inflateIfNeededFor(Ljava/lang/String;)V -/
def wx_J6_inflateIfNeededFor_J7 (X : XT) (o : Nat) (x1 : Option Nat) (T : xT) (I : xI) (R : xR) (L : xL) (Q : Prop) : Prop :=
  jn0 (
      Q)
    (fun (J_21 : Prop) =>
    xtag T o = 8 ∧
    ∃ b2 : Nat, x1 = some b2 ∧ xtag T b2 = 25 ∧ wx_J8_coder X b2 T I R L (fun (r5 : Int) => 
    cEq (I o 1) r5
      (
      J_21)
      (
      False)))
theorem hx_J6_inflateIfNeededFor_J7 : yJ6_inflateIfNeededFor.cls = RJ6 ∧ yJ6_inflateIfNeededFor.cls ≠ "java/lang/invoke/MethodHandle" ∧ yJ6_inflateIfNeededFor.cls ≠ "java/lang/invoke/VarHandle" ∧ (parseMethodDescriptor yJ6_inflateIfNeededFor.desc).map (fun d => d.parameters.length) = some 1 := by decide +kernel
set_option maxHeartbeats 4000000 in
theorem tx_J6_inflateIfNeededFor_J7 (X : XT) {o : Nat} {x1 : Option Nat} {T : xT} {I : xI} {R : xR} {L : xL} {Q : Prop} (hw : wx_J6_inflateIfNeededFor_J7 X o x1 T I R L Q) : CtX X yJ6_inflateIfNeededFor cJ6_inflateIfNeededFor 2 none (rmX 1 0 0 20) [aR (some o), aR x1] T I R L (PXv T I R L Q) := by
  refine CtX.intro (by decide) (Nat.le_of_ble_eq_true rfl) (fun E hE hR hN => ?_)
  have hRm := hR.rm
  have hE : OkX E X RJ6 cJ6_inflateIfNeededFor 2 none := hE
  have hE1 := hE.1
  show GX E X T I R L 0 0 0 [some (aR (some o)), some (aR x1)] []
  unfold wx_J6_inflateIfNeededFor_J7 at hw
  intro hok
  refine gx_gets_i hE (List.mem_of_getElem? (i := 1) rfl : ("java/lang/String", "COMPACT_STRINGS", "Z", Sum.inl (1 : Int)) ∈ stL) q329 dJ6_inflateIfNeededFor_0 ?_ hok
  intro hok
  refine jn0_walk (GX E X T I R L 0 0 21 [some (aR (some o)), some (aR x1)] []) hw (fun  hw => ?_) (fun J_21 hj_21 hw => ?_)
  · intro hok
    exact gx_vret hE hR dJ6_inflateIfNeededFor_21 (by decide) (by decide) ⟨rfl, rfl, rfl, rfl, rfl, hw⟩ hok
  · skip
    refine g_if_eq hE1 (tgt := 21) dJ6_inflateIfNeededFor_3 (by decide) (by decide) (fun q => absurd q (by decide)) (fun _ => ?_)
    refine g_aldn0 hE1 dJ6_inflateIfNeededFor_6 ?_
    obtain ⟨ht1, hw⟩ := hw
    refine gx_geti hE in_J7 (t := 8) rfl (by decide) 1 1 rfl (by decide) rfl (by decide) rfl q339 (Or.inl rfl) ht1 dJ6_inflateIfNeededFor_7 ?_ hok
    intro hok
    refine g_aldn1 hE1 dJ6_inflateIfNeededFor_10 ?_
    obtain ⟨b2, hb3, hw⟩ := hw
    rw [hb3]
    obtain ⟨ht4, hw⟩ := hw
    refine gx_callV hE hRm (As := []) ht4 (by decide) (by decide) rfl hx_J8_coder (tx_J8_coder X hw) (lw_V q801 q789 q790 q106 q791) ⟨by decide, by decide⟩ ⟨(by decide), (by decide)⟩ rfl (Nat.le_of_ble_eq_true rfl) dJ6_inflateIfNeededFor_11 rfl (fun r9 Tz Iz Rz Lz hΦ => ?_) hok
    obtain ⟨r5, rfl, rfl, rfl, rfl, rfl, hw⟩ := hΦ
    show GX E X T I R L 0 0 14 [some (aR (some o)), some (aR (some b2))] [aI r5, aI (I o 1)]
    intro hok
    obtain ⟨h7, h8, hT9, hN10⟩ := hw
    refine g_icmp_eq hE1 (tgt := 21) dJ6_inflateIfNeededFor_14 (by decide) h7 h8 (fun q => ?_) (fun q => ?_)
    · have hw := hT9 q
      simpa only [hb3] using hj_21  hw hok
    · have hw := hN10 q
      refine g_aldn0 hE1 dJ6_inflateIfNeededFor_17 ?_
      exact hw.elim

/-- java/lang/StringLatin1.inflate([BI[BII)V -/
def wx_J23_inflate (X : XT) (x0 : Option Nat) (x1 : Int) (x2 : Option Nat) (x3 : Int) (x4 : Int) (T : xT) (I : xI) (R : xR) (L : xL) (Q : Prop) : Prop :=
  False
theorem hx_J23_inflate : yJ23_inflate.cls ≠ "java/lang/invoke/MethodHandle" ∧ yJ23_inflate.cls ≠ "java/lang/invoke/VarHandle" ∧ (parseMethodDescriptor yJ23_inflate.desc).map (fun d => d.parameters.length) = some 5 := by decide +kernel
set_option maxHeartbeats 4000000 in
theorem tx_J23_inflate (X : XT) {x0 : Option Nat} {x1 : Int} {x2 : Option Nat} {x3 : Int} {x4 : Int} {T : xT} {I : xI} {R : xR} {L : xL} {Q : Prop} (hw : wx_J23_inflate X x0 x1 x2 x3 x4 T I R L Q) : CtX X yJ23_inflate cJ23_inflate 5 none (rmX 0 0 0 0) [aR x0, aI x1, aR x2, aI x3, aI x4] T I R L (PXv T I R L Q) := by
  refine CtX.intro (by decide) (Nat.le_of_ble_eq_true rfl) (fun E hE hR hN => ?_)
  have hRm := hR.rm
  have hE : OkX E X RJ23 cJ23_inflate 5 none := hE
  have hE1 := hE.1
  show GX E X T I R L 0 0 0 [some (aR x0), some (aI x1), some (aR x2), some (aI x3), some (aI x4)] []
  unfold wx_J23_inflate at hw
  intro hok
  refine g_aldn0 hE1 dJ23_inflate_0 ?_
  refine g_ildn1 hE1 dJ23_inflate_1 ?_
  refine g_aldn2 hE1 dJ23_inflate_2 ?_
  refine g_ildn3 hE1 dJ23_inflate_3 ?_
  refine g_ild4 hE1 dJ23_inflate_4 ?_
  exact hw.elim

/-- java/lang/String.getBytes([BIB)V -/
def wx_J8_getBytes (X : XT) (o : Nat) (x1 : Option Nat) (x2 : Int) (x3 : Int) (T : xT) (I : xI) (R : xR) (L : xL) (Q : xI → Prop) : Prop :=
  xtag T o = 25 ∧ wx_J8_coder X o T I R L (fun (r2 : Int) => 
  jn1 (fun (I_43 : xI) => 
      Q I_43)
    (fun (J_43 : xI → Prop) =>
    cEq r2 x3
      (
      ∃ b4 : Nat, R o 0 = some b4 ∧ xtag T b4 = 101 ∧
      ∃ b7 : Nat, x1 = some b7 ∧ xtag T b7 = 101 ∧ ((0 : Int) ≤ 0 ∧ (0 : Int) < 2147483648) ∧ ((0 : Int) ≤ (bShl x2 x3) ∧ ((bShl x2 x3) : Int) < 2147483648) ∧ ((0 : Int) ≤ (xlen T b4 : Int) ∧ ((xlen T b4 : Int) : Int) < 2147483648) ∧ (0 : Int) + (xlen T b4 : Int) ≤ xlen T b4 ∧ ((bShl x2 x3) : Int) + (xlen T b4 : Int) ≤ xlen T b7 ∧ (bsX X ≤ b7 ∧ (∀ j : Int, fits .byte (.int (iI (I b4 j))) = true)) ∧ ∀ I16 : xI, I16 = cpI I b4 0 b7 (bShl x2 x3) (xlen T b4 : Int) →
      J_43 I16)
      (
      ∃ b17 : Nat, R o 0 = some b17 ∧ xtag T b17 = 101 ∧
      wx_J23_inflate X (some b17) 0 x1 x2 (xlen T b17 : Int) T I R L (
      J_43 I))))
theorem hx_J8_getBytes : yJ8_getBytes.cls = RJ8 ∧ yJ8_getBytes.cls ≠ "java/lang/invoke/MethodHandle" ∧ yJ8_getBytes.cls ≠ "java/lang/invoke/VarHandle" ∧ (parseMethodDescriptor yJ8_getBytes.desc).map (fun d => d.parameters.length) = some 3 := by decide +kernel
set_option maxHeartbeats 4000000 in
theorem tx_J8_getBytes (X : XT) {o : Nat} {x1 : Option Nat} {x2 : Int} {x3 : Int} {T : xT} {I : xI} {R : xR} {L : xL} {Q : xI → Prop} (hw : wx_J8_getBytes X o x1 x2 x3 T I R L Q) : CtX X yJ8_getBytes cJ8_getBytes 4 none (rmX 1 0 0 64) [aR (some o), aR x1, aI x2, aI x3] T I R L (PXvI T I R L Q) := by
  refine CtX.intro (by decide) (Nat.le_of_ble_eq_true rfl) (fun E hE hR hN => ?_)
  have hRm := hR.rm
  have hE : OkX E X RJ8 cJ8_getBytes 4 none := hE
  have hE1 := hE.1
  show GX E X T I R L 0 0 0 [some (aR (some o)), some (aR x1), some (aI x2), some (aI x3)] []
  unfold wx_J8_getBytes at hw
  intro hok
  refine g_aldn0 hE1 dJ8_getBytes_0 ?_
  obtain ⟨ht1, hw⟩ := hw
  refine gx_callV hE hRm (As := []) ht1 (by decide) (by decide) rfl hx_J8_coder (tx_J8_coder X hw) (lw_V q788 q789 q790 q106 q791) ⟨by decide, by decide⟩ ⟨(by decide), (by decide)⟩ rfl (Nat.le_of_ble_eq_true rfl) dJ8_getBytes_1 rfl (fun r9 Tz Iz Rz Lz hΦ => ?_) hok
  obtain ⟨r2, rfl, rfl, rfl, rfl, rfl, hw⟩ := hΦ
  show GX E X T I R L 0 0 4 [some (aR (some o)), some (aR x1), some (aI x2), some (aI x3)] [aI r2]
  intro hok
  refine g_ildn3 hE1 dJ8_getBytes_4 ?_
  refine jn1_walk (fun (I_43 : xI) => GX E X T I_43 R L 0 0 43 [some (aR (some o)), some (aR x1), some (aI x2), some (aI x3)] []) hw (fun I_43 hw => ?_) (fun J_43 hj_43 hw => ?_)
  · intro hok
    exact gx_vret hE hR dJ8_getBytes_43 (by decide) (by decide) ⟨rfl, rfl, rfl, rfl, hw⟩ hok
  · skip
    obtain ⟨h21, h22, hT23, hN24⟩ := hw
    refine g_icmp_ne hE1 (tgt := 28) dJ8_getBytes_5 (by decide) h21 h22 (fun q => ?_) (fun q => ?_)
    · have hw := hT23 q
      refine g_aldn0 hE1 dJ8_getBytes_8 ?_
      refine gx_getrS hE in_J8 (t := 25) rfl (by decide) 0 0 rfl (by decide) rfl rfl rfl q877 (Or.inl rfl) ht1 dJ8_getBytes_9 ?_ hok
      intro hok
      refine g_iconst hE1 dJ8_getBytes_12 ?_
      refine g_aldn1 hE1 dJ8_getBytes_13 ?_
      refine g_ildn2 hE1 dJ8_getBytes_14 ?_
      refine g_ildn3 hE1 dJ8_getBytes_15 ?_
      refine g_ishl hE1 dJ8_getBytes_16 ?_
      refine g_aldn0 hE1 dJ8_getBytes_17 ?_
      refine gx_getrS hE in_J8 (t := 25) rfl (by decide) 0 0 rfl (by decide) rfl rfl rfl q877 (Or.inl rfl) ht1 dJ8_getBytes_18 ?_ hok
      intro hok
      obtain ⟨b4, hb5, hw⟩ := hw
      rw [hb5]
      obtain ⟨ht6, hw⟩ := hw
      refine gx_alenB hE ht6 dJ8_getBytes_21 ?_ hok
      intro hok
      obtain ⟨b7, hb8, hw⟩ := hw
      rw [hb8]
      obtain ⟨ht9, hw⟩ := hw
      obtain ⟨h10, h11, h12, h13, h14, h15, hw⟩ := hw
      refine gx_copyB hE hRm q825 q428 q427 q111 ht6 ht9 h10 h11 h12 h13 h14 h15  (by decide) (by decide) (Nat.le_of_ble_eq_true rfl) dJ8_getBytes_22 ?_ hok
      intro hok
      have hw := hw _ rfl
      generalize cpI I b4 0 b7 (bShl x2 x3) (xlen T b4 : Int) = I16 at hw hok ⊢
      refine g_goto hE1 (tgt := 43) dJ8_getBytes_25 (by decide) ?_
      simpa only [hb5, hb8] using hj_43 _ hw hok
    · have hw := hN24 q
      refine g_aldn0 hE1 dJ8_getBytes_28 ?_
      refine gx_getrS hE in_J8 (t := 25) rfl (by decide) 0 0 rfl (by decide) rfl rfl rfl q877 (Or.inl rfl) ht1 dJ8_getBytes_29 ?_ hok
      intro hok
      refine g_iconst hE1 dJ8_getBytes_32 ?_
      refine g_aldn1 hE1 dJ8_getBytes_33 ?_
      refine g_ildn2 hE1 dJ8_getBytes_34 ?_
      refine g_aldn0 hE1 dJ8_getBytes_35 ?_
      refine gx_getrS hE in_J8 (t := 25) rfl (by decide) 0 0 rfl (by decide) rfl rfl rfl q877 (Or.inl rfl) ht1 dJ8_getBytes_36 ?_ hok
      intro hok
      obtain ⟨b17, hb18, hw⟩ := hw
      rw [hb18]
      obtain ⟨ht19, hw⟩ := hw
      refine gx_alenB hE ht19 dJ8_getBytes_39 ?_ hok
      intro hok
      refine gx_callS hE hRm (As := [aR (some b17), aI 0, aR x1, aI x2, aI (xlen T b17 : Int)]) hx_J23_inflate (tx_J23_inflate X hw) (lw_S q826 q807 q124 q808) ⟨by decide, by decide⟩ ⟨(by decide), (by decide)⟩ rfl (Nat.le_of_ble_eq_true rfl) dJ8_getBytes_40 rfl (fun r9 Tz Iz Rz Lz hΦ => ?_) hok
      obtain ⟨rfl, rfl, rfl, rfl, rfl, hw⟩ := hΦ
      show GX E X T I R L 0 0 43 [some (aR (some o)), some (aR x1), some (aI x2), some (aI x3)] []
      intro hok
      exact hj_43 _ hw hok

/-- java/lang/AbstractStringBuilder.putStringAt(ILjava/lang/String;)V -/
def wx_J6_putStringAt_J7 (X : XT) (o : Nat) (x1 : Int) (x2 : Option Nat) (T : xT) (I : xI) (R : xR) (L : xL) (Q : xI → Prop) : Prop :=
  xtag T o = 8 ∧ wx_J6_inflateIfNeededFor_J7 X o x2 T I R L (
  ∃ b3 : Nat, x2 = some b3 ∧ xtag T b3 = 25 ∧ wx_J8_getBytes X b3 (R o 0) x1 (I o 1) T I R L (fun (I6 : xI) => 
  Q I6))
theorem hx_J6_putStringAt_J7 : yJ6_putStringAt.cls = RJ6 ∧ yJ6_putStringAt.cls ≠ "java/lang/invoke/MethodHandle" ∧ yJ6_putStringAt.cls ≠ "java/lang/invoke/VarHandle" ∧ (parseMethodDescriptor yJ6_putStringAt.desc).map (fun d => d.parameters.length) = some 2 := by decide +kernel
set_option maxHeartbeats 4000000 in
theorem tx_J6_putStringAt_J7 (X : XT) {o : Nat} {x1 : Int} {x2 : Option Nat} {T : xT} {I : xI} {R : xR} {L : xL} {Q : xI → Prop} (hw : wx_J6_putStringAt_J7 X o x1 x2 T I R L Q) : CtX X yJ6_putStringAt cJ6_putStringAt 3 none (rmX 2 0 0 87) [aR (some o), aI x1, aR x2] T I R L (PXvI T I R L Q) := by
  refine CtX.intro (by decide) (Nat.le_of_ble_eq_true rfl) (fun E hE hR hN => ?_)
  have hRm := hR.rm
  have hE : OkX E X RJ6 cJ6_putStringAt 3 none := hE
  have hE1 := hE.1
  show GX E X T I R L 0 0 0 [some (aR (some o)), some (aI x1), some (aR x2)] []
  unfold wx_J6_putStringAt_J7 at hw
  intro hok
  refine g_aldn0 hE1 dJ6_putStringAt_0 ?_
  refine g_aldn2 hE1 dJ6_putStringAt_1 ?_
  obtain ⟨ht1, hw⟩ := hw
  refine gx_callP hE hRm (As := [aR x2]) ht1 (by decide) (by decide) rfl (x0 := ⟨"java/lang/AbstractStringBuilder", "isLatin1", "()Z"⟩) hx_J6_inflateIfNeededFor_J7.2 (tx_J6_inflateIfNeededFor_J7 X hw) (lw_meth q800) q797 q104 q799 q756 rfl q798 ⟨by decide, by decide⟩ ⟨(by decide), (by decide)⟩ rfl (Nat.le_of_ble_eq_true rfl) dJ6_putStringAt_2 rfl (fun r9 Tz Iz Rz Lz hΦ => ?_) hok
  obtain ⟨rfl, rfl, rfl, rfl, rfl, hw⟩ := hΦ
  show GX E X T I R L 0 0 5 [some (aR (some o)), some (aI x1), some (aR x2)] []
  intro hok
  refine g_aldn2 hE1 dJ6_putStringAt_5 ?_
  refine g_aldn0 hE1 dJ6_putStringAt_6 ?_
  refine gx_getr hE in_J7 (t := 8) rfl (by decide) 0 0 rfl (by decide) rfl (by decide) rfl q338 (Or.inl rfl) ht1 dJ6_putStringAt_7 ?_ hok
  intro hok
  refine g_ildn1 hE1 dJ6_putStringAt_10 ?_
  refine g_aldn0 hE1 dJ6_putStringAt_11 ?_
  refine gx_geti hE in_J7 (t := 8) rfl (by decide) 1 1 rfl (by decide) rfl (by decide) rfl q339 (Or.inl rfl) ht1 dJ6_putStringAt_12 ?_ hok
  intro hok
  obtain ⟨b3, hb4, hw⟩ := hw
  rw [hb4]
  obtain ⟨ht5, hw⟩ := hw
  refine gx_callV hE hRm (As := [aR (R o 0), aI x1, aI (I o 1)]) ht5 (by decide) (by decide) rfl hx_J8_getBytes (tx_J8_getBytes X hw) (lw_V q821 q822 q823 q106 q824) ⟨by decide, by decide⟩ ⟨(by decide), (by decide)⟩ rfl (Nat.le_of_ble_eq_true rfl) dJ6_putStringAt_15 rfl (fun r9 Tz I6 Rz Lz hΦ => ?_) hok
  obtain ⟨rfl, rfl, rfl, rfl, hw⟩ := hΦ
  show GX E X T I6 R L 0 0 18 [some (aR (some o)), some (aI x1), some (aR (some b3))] []
  intro hok
  exact gx_vret hE hR dJ6_putStringAt_18 (by decide) (by decide) ⟨rfl, rfl, rfl, rfl, hw⟩ hok

