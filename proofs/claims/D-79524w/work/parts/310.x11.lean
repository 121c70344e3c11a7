set_option maxRecDepth 100000
/-- WhalingLogs$ReadOrder.<init>(II)V -/
def wx_X14_init (X : XT) (o : Nat) (x1 : Int) (x2 : Int) (T : xT) (I : xI) (R : xR) (L : xL) (Q : xI → Prop) : Prop :=
  xtag T o = 22 ∧ ∀ I2 : xI, I2 = uI I o 0 x1 →
  ∀ I3 : xI, I3 = uI I2 o 1 x2 →
  Q I3
theorem hx_X14_init : yX14_init.cls ≠ "java/lang/invoke/MethodHandle" ∧ yX14_init.cls ≠ "java/lang/invoke/VarHandle" ∧ (parseMethodDescriptor yX14_init.desc).map (fun d => d.parameters.length) = some 2 := by decide +kernel
set_option maxHeartbeats 4000000 in
theorem tx_X14_init (X : XT) {o : Nat} {x1 : Int} {x2 : Int} {T : xT} {I : xI} {R : xR} {L : xL} {Q : xI → Prop} (hw : wx_X14_init X o x1 x2 T I R L Q) : CtX X yX14_init cX14_init 3 none (rmX 1 0 0 20) [aR (some o), aI x1, aI x2] T I R L (PXvI T I R L Q) := by
  refine CtX.intro (by decide) (Nat.le_of_ble_eq_true rfl) (fun E hE hR hN => ?_)
  have hRm := hR.rm
  have hE : OkX E X RX14 cX14_init 3 none := hE
  have hE1 := hE.1
  have hI : isInit E := hN
  show GX E X T I R L 0 0 0 [some (aR (some o)), some (aI x1), some (aI x2)] []
  unfold wx_X14_init at hw
  intro hok
  refine g_aldn0 hE1 dX14_init_0 ?_
  refine gx_objInit hE hRm rfl q1893 q151 q152 (by decide) (by decide) (Nat.le_of_ble_eq_true rfl) dX14_init_1 ?_ hok
  intro hok
  refine g_aldn0 hE1 dX14_init_4 ?_
  refine g_ildn1 hE1 dX14_init_5 ?_
  obtain ⟨ht1, hw⟩ := hw
  refine gx_putiF hE in_X14 (t := 22) rfl (by decide) 0 0 rfl (by decide) rfl (by decide) (ty := tyX14 0) tyX14 tyX14_ok nmX14 rfl q1894 (Or.inl rfl) rfl hI rfl (tyX14_ok 0 (by decide)) rfl rfl ht1 dX14_init_6 ?_ hok
  intro hok
  have hw := hw _ rfl
  generalize uI I o 0 x1 = I2 at hw hok ⊢
  refine g_aldn0 hE1 dX14_init_9 ?_
  refine g_ildn2 hE1 dX14_init_10 ?_
  refine gx_putiF hE in_X14 (t := 22) rfl (by decide) 1 1 rfl (by decide) rfl (by decide) (ty := tyX14 1) tyX14 tyX14_ok nmX14 rfl q1895 (Or.inl rfl) rfl hI rfl (tyX14_ok 1 (by decide)) rfl rfl ht1 dX14_init_11 ?_ hok
  intro hok
  have hw := hw _ rfl
  generalize uI I2 o 1 x2 = I3 at hw hok ⊢
  exact gx_vret hE hR dX14_init_14 (by decide) (by decide) ⟨rfl, rfl, rfl, rfl, hw⟩ hok

/-- WhalingLogs$Reader.readOrder()LWhalingLogs$Order; -/
def wx_X8_readOrder (X : XT) (o : Nat)  (T : xT) (I : xI) (R : xR) (L : xL) (Q : Option Nat → xT → xI → xR → Prop) (Y : Nat → xT → xI → xR → Prop) : Prop :=
  xtag T o = 16 ∧ wx_X8_number X o 1 T I R L (fun (r2 : Int) (T3 : xT) (I4 : xI) (R5 : xR) => tle T T3 → 
    ∀ q7 : Nat, xtag T3 q7 = 0 → bsX X ≤ q7 → ∀ T10 : xT, T10 = xnew T3 q7 22 0 →
    wx_X8_number X o 1 T10 I4 R5 L (fun (r14 : Int) (T15 : xT) (I16 : xI) (R17 : xR) => tle T10 T15 → 
      wx_X14_init X q7 r2 r14 T15 I16 R17 L (fun (I19 : xI) => 
      Q (some q7) T15 I19 R17))
      (fun (e21 : Nat) (T22 : xT) (I23 : xI) (R24 : xR) => tle T10 T22 → xtag T22 e21 = 17 → 
      Y e21 T22 I23 R24))
    (fun (e27 : Nat) (T28 : xT) (I29 : xI) (R30 : xR) => tle T T28 → xtag T28 e27 = 17 → 
    Y e27 T28 I29 R30)
theorem hx_X8_readOrder : yX8_readOrder.cls = RX8 ∧ yX8_readOrder.cls ≠ "java/lang/invoke/MethodHandle" ∧ yX8_readOrder.cls ≠ "java/lang/invoke/VarHandle" ∧ (parseMethodDescriptor yX8_readOrder.desc).map (fun d => d.parameters.length) = some 0 := by decide +kernel
set_option maxHeartbeats 4000000 in
theorem tx_X8_readOrder (X : XT) {o : Nat}  {T : xT} {I : xI} {R : xR} {L : xL} {Q : Option Nat → xT → xI → xR → Prop} {Y : Nat → xT → xI → xR → Prop} (hw : wx_X8_readOrder X o T I R L Q Y) : CtY X yX8_readOrder cX8_readOrder 2 (some (.object "WhalingLogs$Order")) (rmX 8 5 30 193) [aR (some o)] T I R L (PXqTIR T I R L Q) (PYTIR T I R L "WhalingLogs$Wrong" 17 Y) := by
  refine CtY.intro (by decide) (Nat.le_of_ble_eq_true rfl) (fun E hE hR hY hN => ?_)
  have hRm := hR.rm
  have hE : OkX E X RX8 cX8_readOrder 2 (some (.object "WhalingLogs$Order")) := hE
  have hE1 := hE.1
  show GX E X T I R L 0 0 0 [some (aR (some o)), none] []
  unfold wx_X8_readOrder at hw
  intro hok
  refine g_aldn0 hE1 dX8_readOrder_0 ?_
  refine g_iconst hE1 dX8_readOrder_1 ?_
  obtain ⟨ht1, hw⟩ := hw
  refine gy_callV hE hRm (As := [aI 1]) ht1 (by decide) (by decide) rfl hx_X8_number (tx_X8_number X hw) (lw_V q1829 q1831 qs41 q133 q1832) ⟨by decide, by decide⟩ ⟨(by decide), (by decide)⟩ rfl (Nat.le_of_ble_eq_true rfl) dX8_readOrder_2 rfl (fun r9 T3 I4 R5 Lz hΦ => ?_) (fun Ec q9 T28 I29 R30 Lz hΦ => ?_) hok
  · obtain ⟨r2, rfl, rfl, hl6, hw⟩ := hΦ
    have hw := hw hl6
    show GX E X T3 I4 R5 L 2 14 5 [some (aR (some o)), none] [aI r2]
    intro hok
    refine g_istn1 hE1 dX8_readOrder_5 (by decide) rfl ?_
    refine gx_new hE hRm in_X14 tyX14 tyX14_ok (t := 22) rfl (by decide) (by decide) rfl (by decide) q1888 q1889 q139 (by decide) (by decide) dX8_readOrder_6 (fun q7 hq8 hbs9 => ?_) hok
    intro hok
    have hw := hw q7 hq8 hbs9 _ rfl
    have hl11 := tle.new (T := T3) (q := q7) (t := 22) (n := 0) hq8
    have hT12 : xtag (xnew T3 q7 22 0) q7 = 22 := if_pos rfl
    generalize xnew T3 q7 22 0 = T10 at hw hl11 hok hT12 ⊢
    refine g_dup hE1 dX8_readOrder_9 rfl ?_
    refine g_ildn1 hE1 dX8_readOrder_10 ?_
    refine g_aldn0 hE1 dX8_readOrder_11 ?_
    refine g_iconst hE1 dX8_readOrder_12 ?_
    have ht13 := (hl6.tr hl11).tag ht1 (by decide)
    refine gy_callV hE hRm (As := [aI 1]) ht13 (by decide) (by decide) rfl hx_X8_number (tx_X8_number X hw) (lw_V q1829 q1831 qs41 q133 q1832) ⟨by decide, by decide⟩ ⟨(by decide), (by decide)⟩ rfl (Nat.le_of_ble_eq_true rfl) dX8_readOrder_13 rfl (fun r9 T15 I16 R17 Lz hΦ => ?_) (fun Ec q9 T22 I23 R24 Lz hΦ => ?_) hok
    · obtain ⟨r14, rfl, rfl, hl18, hw⟩ := hΦ
      have hw := hw hl18
      show GX E X T15 I16 R17 L 5 30 16 [some (aR (some o)), some (aI r2)] [aI r14, aI r2, aR (some q7), aR (some q7)]
      intro hok
      refine gx_callI hE hRm (As := [aI r2, aI r14]) (b := q7) hx_X14_init (lw_meth q1892) q1890 q139 q1891 rfl (tx_X14_init X hw) ⟨by decide, by decide⟩ ⟨(by decide), (by decide)⟩ rfl (Nat.le_of_ble_eq_true rfl) dX8_readOrder_16 rfl (fun r9 Tz I19 Rz Lz hΦ => ?_) hok
      obtain ⟨rfl, rfl, rfl, rfl, hw⟩ := hΦ
      show GX E X T15 I19 R17 L 5 30 19 [some (aR (some o)), some (aI r2)] [aR (some q7)]
      intro hok
      exact gx_aret hE hR dX8_readOrder_19 (by decide) (by decide) (Or.inl ⟨_, rfl⟩) ⟨_, rfl, rfl, ((hl6.tr hl11).tr hl18), hw⟩ hok
    · have hq9 : ∃ q8, q8 = q9 := ⟨_, rfl⟩
      obtain ⟨e21, rfl⟩ := hq9
      obtain ⟨rfl, rfl, hl25, ht26, hw⟩ := hΦ
      have hw := hw hl25 ht26
      exact gx_out hE hY (by decide) (by decide) ⟨rfl, rfl, ((hl6.tr hl11).tr hl25), ht26, hw⟩
  · have hq9 : ∃ q8, q8 = q9 := ⟨_, rfl⟩
    obtain ⟨e27, rfl⟩ := hq9
    obtain ⟨rfl, rfl, hl31, ht32, hw⟩ := hΦ
    have hw := hw hl31 ht32
    exact gx_out hE hY (by decide) (by decide) ⟨rfl, rfl, hl31, ht32, hw⟩

/-- WhalingLogs$StrikeOrder.<init>(II)V -/
def wx_X15_init (X : XT) (o : Nat) (x1 : Int) (x2 : Int) (T : xT) (I : xI) (R : xR) (L : xL) (Q : xI → Prop) : Prop :=
  xtag T o = 23 ∧ ∀ I2 : xI, I2 = uI I o 0 x1 →
  ∀ I3 : xI, I3 = uI I2 o 1 x2 →
  Q I3
theorem hx_X15_init : yX15_init.cls ≠ "java/lang/invoke/MethodHandle" ∧ yX15_init.cls ≠ "java/lang/invoke/VarHandle" ∧ (parseMethodDescriptor yX15_init.desc).map (fun d => d.parameters.length) = some 2 := by decide +kernel
set_option maxHeartbeats 4000000 in
theorem tx_X15_init (X : XT) {o : Nat} {x1 : Int} {x2 : Int} {T : xT} {I : xI} {R : xR} {L : xL} {Q : xI → Prop} (hw : wx_X15_init X o x1 x2 T I R L Q) : CtX X yX15_init cX15_init 3 none (rmX 1 0 0 20) [aR (some o), aI x1, aI x2] T I R L (PXvI T I R L Q) := by
  refine CtX.intro (by decide) (Nat.le_of_ble_eq_true rfl) (fun E hE hR hN => ?_)
  have hRm := hR.rm
  have hE : OkX E X RX15 cX15_init 3 none := hE
  have hE1 := hE.1
  have hI : isInit E := hN
  show GX E X T I R L 0 0 0 [some (aR (some o)), some (aI x1), some (aI x2)] []
  unfold wx_X15_init at hw
  intro hok
  refine g_aldn0 hE1 dX15_init_0 ?_
  refine gx_objInit hE hRm rfl q1910 q151 q152 (by decide) (by decide) (Nat.le_of_ble_eq_true rfl) dX15_init_1 ?_ hok
  intro hok
  refine g_aldn0 hE1 dX15_init_4 ?_
  refine g_ildn1 hE1 dX15_init_5 ?_
  obtain ⟨ht1, hw⟩ := hw
  refine gx_putiF hE in_X15 (t := 23) rfl (by decide) 0 0 rfl (by decide) rfl (by decide) (ty := tyX15 0) tyX15 tyX15_ok nmX15 rfl q1911 (Or.inl rfl) rfl hI rfl (tyX15_ok 0 (by decide)) rfl rfl ht1 dX15_init_6 ?_ hok
  intro hok
  have hw := hw _ rfl
  generalize uI I o 0 x1 = I2 at hw hok ⊢
  refine g_aldn0 hE1 dX15_init_9 ?_
  refine g_ildn2 hE1 dX15_init_10 ?_
  refine gx_putiF hE in_X15 (t := 23) rfl (by decide) 1 1 rfl (by decide) rfl (by decide) (ty := tyX15 1) tyX15 tyX15_ok nmX15 rfl q1912 (Or.inl rfl) rfl hI rfl (tyX15_ok 1 (by decide)) rfl rfl ht1 dX15_init_11 ?_ hok
  intro hok
  have hw := hw _ rfl
  generalize uI I2 o 1 x2 = I3 at hw hok ⊢
  exact gx_vret hE hR dX15_init_14 (by decide) (by decide) ⟨rfl, rfl, rfl, rfl, hw⟩ hok

/-- WhalingLogs$Reader.strikeOrder()LWhalingLogs$Order; -/
def wx_X8_strikeOrder (X : XT) (o : Nat)  (T : xT) (I : xI) (R : xR) (L : xL) (Q : Option Nat → xT → xI → xR → Prop) (Y : Nat → xT → xI → xR → Prop) : Prop :=
  xtag T o = 16 ∧ wx_X8_number X o 1 T I R L (fun (r2 : Int) (T3 : xT) (I4 : xI) (R5 : xR) => tle T T3 → 
    ∀ q7 : Nat, xtag T3 q7 = 0 → bsX X ≤ q7 → ∀ T10 : xT, T10 = xnew T3 q7 23 0 →
    wx_X8_number X o 1 T10 I4 R5 L (fun (r14 : Int) (T15 : xT) (I16 : xI) (R17 : xR) => tle T10 T15 → 
      wx_X15_init X q7 r2 r14 T15 I16 R17 L (fun (I19 : xI) => 
      Q (some q7) T15 I19 R17))
      (fun (e21 : Nat) (T22 : xT) (I23 : xI) (R24 : xR) => tle T10 T22 → xtag T22 e21 = 17 → 
      Y e21 T22 I23 R24))
    (fun (e27 : Nat) (T28 : xT) (I29 : xI) (R30 : xR) => tle T T28 → xtag T28 e27 = 17 → 
    Y e27 T28 I29 R30)
theorem hx_X8_strikeOrder : yX8_strikeOrder.cls = RX8 ∧ yX8_strikeOrder.cls ≠ "java/lang/invoke/MethodHandle" ∧ yX8_strikeOrder.cls ≠ "java/lang/invoke/VarHandle" ∧ (parseMethodDescriptor yX8_strikeOrder.desc).map (fun d => d.parameters.length) = some 0 := by decide +kernel
set_option maxHeartbeats 4000000 in
theorem tx_X8_strikeOrder (X : XT) {o : Nat}  {T : xT} {I : xI} {R : xR} {L : xL} {Q : Option Nat → xT → xI → xR → Prop} {Y : Nat → xT → xI → xR → Prop} (hw : wx_X8_strikeOrder X o T I R L Q Y) : CtY X yX8_strikeOrder cX8_strikeOrder 2 (some (.object "WhalingLogs$Order")) (rmX 8 5 30 193) [aR (some o)] T I R L (PXqTIR T I R L Q) (PYTIR T I R L "WhalingLogs$Wrong" 17 Y) := by
  refine CtY.intro (by decide) (Nat.le_of_ble_eq_true rfl) (fun E hE hR hY hN => ?_)
  have hRm := hR.rm
  have hE : OkX E X RX8 cX8_strikeOrder 2 (some (.object "WhalingLogs$Order")) := hE
  have hE1 := hE.1
  show GX E X T I R L 0 0 0 [some (aR (some o)), none] []
  unfold wx_X8_strikeOrder at hw
  intro hok
  refine g_aldn0 hE1 dX8_strikeOrder_0 ?_
  refine g_iconst hE1 dX8_strikeOrder_1 ?_
  obtain ⟨ht1, hw⟩ := hw
  refine gy_callV hE hRm (As := [aI 1]) ht1 (by decide) (by decide) rfl hx_X8_number (tx_X8_number X hw) (lw_V q1829 q1831 qs41 q133 q1832) ⟨by decide, by decide⟩ ⟨(by decide), (by decide)⟩ rfl (Nat.le_of_ble_eq_true rfl) dX8_strikeOrder_2 rfl (fun r9 T3 I4 R5 Lz hΦ => ?_) (fun Ec q9 T28 I29 R30 Lz hΦ => ?_) hok
  · obtain ⟨r2, rfl, rfl, hl6, hw⟩ := hΦ
    have hw := hw hl6
    show GX E X T3 I4 R5 L 2 14 5 [some (aR (some o)), none] [aI r2]
    intro hok
    refine g_istn1 hE1 dX8_strikeOrder_5 (by decide) rfl ?_
    refine gx_new hE hRm in_X15 tyX15 tyX15_ok (t := 23) rfl (by decide) (by decide) rfl (by decide) q1905 q1906 q140 (by decide) (by decide) dX8_strikeOrder_6 (fun q7 hq8 hbs9 => ?_) hok
    intro hok
    have hw := hw q7 hq8 hbs9 _ rfl
    have hl11 := tle.new (T := T3) (q := q7) (t := 23) (n := 0) hq8
    have hT12 : xtag (xnew T3 q7 23 0) q7 = 23 := if_pos rfl
    generalize xnew T3 q7 23 0 = T10 at hw hl11 hok hT12 ⊢
    refine g_dup hE1 dX8_strikeOrder_9 rfl ?_
    refine g_ildn1 hE1 dX8_strikeOrder_10 ?_
    refine g_aldn0 hE1 dX8_strikeOrder_11 ?_
    refine g_iconst hE1 dX8_strikeOrder_12 ?_
    have ht13 := (hl6.tr hl11).tag ht1 (by decide)
    refine gy_callV hE hRm (As := [aI 1]) ht13 (by decide) (by decide) rfl hx_X8_number (tx_X8_number X hw) (lw_V q1829 q1831 qs41 q133 q1832) ⟨by decide, by decide⟩ ⟨(by decide), (by decide)⟩ rfl (Nat.le_of_ble_eq_true rfl) dX8_strikeOrder_13 rfl (fun r9 T15 I16 R17 Lz hΦ => ?_) (fun Ec q9 T22 I23 R24 Lz hΦ => ?_) hok
    · obtain ⟨r14, rfl, rfl, hl18, hw⟩ := hΦ
      have hw := hw hl18
      show GX E X T15 I16 R17 L 5 30 16 [some (aR (some o)), some (aI r2)] [aI r14, aI r2, aR (some q7), aR (some q7)]
      intro hok
      refine gx_callI hE hRm (As := [aI r2, aI r14]) (b := q7) hx_X15_init (lw_meth q1909) q1907 q140 q1908 rfl (tx_X15_init X hw) ⟨by decide, by decide⟩ ⟨(by decide), (by decide)⟩ rfl (Nat.le_of_ble_eq_true rfl) dX8_strikeOrder_16 rfl (fun r9 Tz I19 Rz Lz hΦ => ?_) hok
      obtain ⟨rfl, rfl, rfl, rfl, hw⟩ := hΦ
      show GX E X T15 I19 R17 L 5 30 19 [some (aR (some o)), some (aI r2)] [aR (some q7)]
      intro hok
      exact gx_aret hE hR dX8_strikeOrder_19 (by decide) (by decide) (Or.inl ⟨_, rfl⟩) ⟨_, rfl, rfl, ((hl6.tr hl11).tr hl18), hw⟩ hok
    · have hq9 : ∃ q8, q8 = q9 := ⟨_, rfl⟩
      obtain ⟨e21, rfl⟩ := hq9
      obtain ⟨rfl, rfl, hl25, ht26, hw⟩ := hΦ
      have hw := hw hl25 ht26
      exact gx_out hE hY (by decide) (by decide) ⟨rfl, rfl, ((hl6.tr hl11).tr hl25), ht26, hw⟩
  · have hq9 : ∃ q8, q8 = q9 := ⟨_, rfl⟩
    obtain ⟨e27, rfl⟩ := hq9
    obtain ⟨rfl, rfl, hl31, ht32, hw⟩ := hΦ
    have hw := hw hl31 ht32
    exact gx_out hE hY (by decide) (by decide) ⟨rfl, rfl, hl31, ht32, hw⟩

/-- WhalingLogs$CellOrder.<init>(LWhalingLogs;ZII)V -/
def wx_X10_init (X : XT) (o : Nat) (x1 : Option Nat) (x2 : Int) (x3 : Int) (x4 : Int) (T : xT) (I : xI) (R : xR) (L : xL) (Q : xI → xR → Prop) : Prop :=
  xtag T o = 18 ∧ ∀ R2 : xR, R2 = uR R o 3 x1 →
  bl x2 ∧ ∀ I4 : xI, I4 = uI I o 0 x2 →
  ∀ I5 : xI, I5 = uI I4 o 1 x3 →
  ∀ I6 : xI, I6 = uI I5 o 2 x4 →
  Q I6 R2
theorem hx_X10_init : yX10_init.cls ≠ "java/lang/invoke/MethodHandle" ∧ yX10_init.cls ≠ "java/lang/invoke/VarHandle" ∧ (parseMethodDescriptor yX10_init.desc).map (fun d => d.parameters.length) = some 4 := by decide +kernel
set_option maxHeartbeats 4000000 in
theorem tx_X10_init (X : XT) {o : Nat} {x1 : Option Nat} {x2 : Int} {x3 : Int} {x4 : Int} {T : xT} {I : xI} {R : xR} {L : xL} {Q : xI → xR → Prop} (hw : wx_X10_init X o x1 x2 x3 x4 T I R L Q) : CtX X yX10_init cX10_init 5 none (rmX 1 0 0 20) [aR (some o), aR x1, aI x2, aI x3, aI x4] T I R L (PXvIR T I R L Q) := by
  refine CtX.intro (by decide) (Nat.le_of_ble_eq_true rfl) (fun E hE hR hN => ?_)
  have hRm := hR.rm
  have hE : OkX E X RX10 cX10_init 5 none := hE
  have hE1 := hE.1
  have hI : isInit E := hN
  show GX E X T I R L 0 0 0 [some (aR (some o)), some (aR x1), some (aI x2), some (aI x3), some (aI x4)] []
  unfold wx_X10_init at hw
  intro hok
  refine g_aldn0 hE1 dX10_init_0 ?_
  refine g_aldn1 hE1 dX10_init_1 ?_
  obtain ⟨ht1, hw⟩ := hw
  refine gx_putrF hE in_X10 (t := 18) rfl (by decide) 3 3 rfl (by decide) rfl (by decide) (ty := tyX10 3) tyX10 tyX10_ok nmX10 rfl q1817 (Or.inl rfl) rfl hI rfl (tyX10_ok 3 (by decide)) nar_o fit_o ht1 dX10_init_2 ?_ hok
  intro hok
  have hw := hw _ rfl
  generalize uR R o 3 x1 = R2 at hw hok ⊢
  refine g_aldn0 hE1 dX10_init_5 ?_
  refine gx_objInit hE hRm rfl q1813 q151 q152 (by decide) (by decide) (Nat.le_of_ble_eq_true rfl) dX10_init_6 ?_ hok
  intro hok
  refine g_aldn0 hE1 dX10_init_9 ?_
  refine g_ildn2 hE1 dX10_init_10 ?_
  obtain ⟨h3, hw⟩ := hw
  refine gx_putiF hE in_X10 (t := 18) rfl (by decide) 0 0 rfl (by decide) rfl (by decide) (ty := tyX10 0) tyX10 tyX10_ok nmX10 rfl q1814 (Or.inl rfl) rfl hI rfl (tyX10_ok 0 (by decide)) (narrow_bl h3) (fits_bl h3) ht1 dX10_init_11 ?_ hok
  intro hok
  have hw := hw _ rfl
  generalize uI I o 0 x2 = I4 at hw hok ⊢
  refine g_aldn0 hE1 dX10_init_14 ?_
  refine g_ildn3 hE1 dX10_init_15 ?_
  refine gx_putiF hE in_X10 (t := 18) rfl (by decide) 1 1 rfl (by decide) rfl (by decide) (ty := tyX10 1) tyX10 tyX10_ok nmX10 rfl q1815 (Or.inl rfl) rfl hI rfl (tyX10_ok 1 (by decide)) rfl rfl ht1 dX10_init_16 ?_ hok
  intro hok
  have hw := hw _ rfl
  generalize uI I4 o 1 x3 = I5 at hw hok ⊢
  refine g_aldn0 hE1 dX10_init_19 ?_
  refine g_ild4 hE1 dX10_init_20 ?_
  refine gx_putiF hE in_X10 (t := 18) rfl (by decide) 2 2 rfl (by decide) rfl (by decide) (ty := tyX10 2) tyX10 tyX10_ok nmX10 rfl q1816 (Or.inl rfl) rfl hI rfl (tyX10_ok 2 (by decide)) rfl rfl ht1 dX10_init_22 ?_ hok
  intro hok
  have hw := hw _ rfl
  generalize uI I5 o 2 x4 = I6 at hw hok ⊢
  exact gx_vret hE hR dX10_init_25 (by decide) (by decide) ⟨rfl, rfl, rfl, hw⟩ hok

/-- WhalingLogs$Reader.cellOrder(Z)LWhalingLogs$Order; -/
def wx_X8_cellOrder (X : XT) (o : Nat) (x1 : Int) (T : xT) (I : xI) (R : xR) (L : xL) (Q : Option Nat → xT → xI → xR → Prop) (Y : Nat → xT → xI → xR → Prop) : Prop :=
  xtag T o = 16 ∧ wx_X8_column X o T I R L (fun (r2 : Int) (T3 : xT) (I4 : xI) (R5 : xR) => tle T T3 → 
    ∀ q7 : Nat, xtag T3 q7 = 0 → bsX X ≤ q7 → ∀ T10 : xT, T10 = xnew T3 q7 18 0 →
    wx_X8_digits X o 2 T10 I4 R5 L (fun (r14 : Int) (T15 : xT) (I16 : xI) (R17 : xR) => tle T10 T15 → 
      wx_X10_init X q7 (R5 o 2) x1 r2 r14 T15 I16 R17 L (fun (I19 : xI) (R20 : xR) => 
      Q (some q7) T15 I19 R20))
      (fun (e22 : Nat) (T23 : xT) (I24 : xI) (R25 : xR) => tle T10 T23 → xtag T23 e22 = 17 → 
      Y e22 T23 I24 R25))
    (fun (e28 : Nat) (T29 : xT) (I30 : xI) (R31 : xR) => tle T T29 → xtag T29 e28 = 17 → 
    Y e28 T29 I30 R31)
theorem hx_X8_cellOrder : yX8_cellOrder.cls = RX8 ∧ yX8_cellOrder.cls ≠ "java/lang/invoke/MethodHandle" ∧ yX8_cellOrder.cls ≠ "java/lang/invoke/VarHandle" ∧ (parseMethodDescriptor yX8_cellOrder.desc).map (fun d => d.parameters.length) = some 1 := by decide +kernel
set_option maxHeartbeats 4000000 in
theorem tx_X8_cellOrder (X : XT) {o : Nat} {x1 : Int} {T : xT} {I : xI} {R : xR} {L : xL} {Q : Option Nat → xT → xI → xR → Prop} {Y : Nat → xT → xI → xR → Prop} (hw : wx_X8_cellOrder X o x1 T I R L Q Y) : CtY X yX8_cellOrder cX8_cellOrder 3 (some (.object "WhalingLogs$Order")) (rmX 7 4 25 172) [aR (some o), aI x1] T I R L (PXqTIR T I R L Q) (PYTIR T I R L "WhalingLogs$Wrong" 17 Y) := by
  refine CtY.intro (by decide) (Nat.le_of_ble_eq_true rfl) (fun E hE hR hY hN => ?_)
  have hRm := hR.rm
  have hE : OkX E X RX8 cX8_cellOrder 3 (some (.object "WhalingLogs$Order")) := hE
  have hE1 := hE.1
  show GX E X T I R L 0 0 0 [some (aR (some o)), some (aI x1), none] []
  unfold wx_X8_cellOrder at hw
  intro hok
  refine g_aldn0 hE1 dX8_cellOrder_0 ?_
  obtain ⟨ht1, hw⟩ := hw
  refine gy_callV hE hRm (As := []) ht1 (by decide) (by decide) rfl hx_X8_column (tx_X8_column X hw) (lw_V q1769 q1771 qs36 q133 q1772) ⟨by decide, by decide⟩ ⟨(by decide), (by decide)⟩ rfl (Nat.le_of_ble_eq_true rfl) dX8_cellOrder_1 rfl (fun r9 T3 I4 R5 Lz hΦ => ?_) (fun Ec q9 T29 I30 R31 Lz hΦ => ?_) hok
  · obtain ⟨r2, rfl, rfl, hl6, hw⟩ := hΦ
    have hw := hw hl6
    show GX E X T3 I4 R5 L 2 14 4 [some (aR (some o)), some (aI x1), none] [aI r2]
    intro hok
    refine g_istn2 hE1 dX8_cellOrder_4 (by decide) rfl ?_
    refine gx_new hE hRm in_X10 tyX10 tyX10_ok (t := 18) rfl (by decide) (by decide) rfl (by decide) q1800 q1801 q135 (by decide) (by decide) dX8_cellOrder_5 (fun q7 hq8 hbs9 => ?_) hok
    intro hok
    have hw := hw q7 hq8 hbs9 _ rfl
    have hl11 := tle.new (T := T3) (q := q7) (t := 18) (n := 0) hq8
    have hT12 : xtag (xnew T3 q7 18 0) q7 = 18 := if_pos rfl
    generalize xnew T3 q7 18 0 = T10 at hw hl11 hok hT12 ⊢
    refine g_dup hE1 dX8_cellOrder_8 rfl ?_
    refine g_aldn0 hE1 dX8_cellOrder_9 ?_
    have ht13 := (hl6.tr hl11).tag ht1 (by decide)
    refine gx_getr hE in_X8 (t := 16) rfl (by decide) 2 2 rfl (by decide) rfl (by decide) rfl q1626 (Or.inl rfl) ht13 dX8_cellOrder_10 ?_ hok
    intro hok
    refine g_ildn1 hE1 dX8_cellOrder_13 ?_
    refine g_ildn2 hE1 dX8_cellOrder_14 ?_
    refine g_aldn0 hE1 dX8_cellOrder_15 ?_
    refine g_iconst hE1 dX8_cellOrder_16 ?_
    refine gy_callV hE hRm (As := [aI 2]) ht13 (by decide) (by decide) rfl hx_X8_digits (tx_X8_digits X hw) (lw_V q1802 q1804 qs39 q133 q1805) ⟨by decide, by decide⟩ ⟨(by decide), (by decide)⟩ rfl (Nat.le_of_ble_eq_true rfl) dX8_cellOrder_17 rfl (fun r9 T15 I16 R17 Lz hΦ => ?_) (fun Ec q9 T23 I24 R25 Lz hΦ => ?_) hok
    · obtain ⟨r14, rfl, rfl, hl18, hw⟩ := hΦ
      have hw := hw hl18
      show GX E X T15 I16 R17 L 4 25 20 [some (aR (some o)), some (aI x1), some (aI r2)] [aI r14, aI r2, aI x1, aR (R5 o 2), aR (some q7), aR (some q7)]
      intro hok
      refine gx_callI hE hRm (As := [aR (R5 o 2), aI x1, aI r2, aI r14]) (b := q7) hx_X10_init (lw_meth q1812) q1810 q135 q1811 rfl (tx_X10_init X hw) ⟨by decide, by decide⟩ ⟨(by decide), (by decide)⟩ rfl (Nat.le_of_ble_eq_true rfl) dX8_cellOrder_20 rfl (fun r9 Tz I19 R20 Lz hΦ => ?_) hok
      obtain ⟨rfl, rfl, rfl, hw⟩ := hΦ
      show GX E X T15 I19 R20 L 4 25 23 [some (aR (some o)), some (aI x1), some (aI r2)] [aR (some q7)]
      intro hok
      exact gx_aret hE hR dX8_cellOrder_23 (by decide) (by decide) (Or.inl ⟨_, rfl⟩) ⟨_, rfl, rfl, ((hl6.tr hl11).tr hl18), hw⟩ hok
    · have hq9 : ∃ q8, q8 = q9 := ⟨_, rfl⟩
      obtain ⟨e22, rfl⟩ := hq9
      obtain ⟨rfl, rfl, hl26, ht27, hw⟩ := hΦ
      have hw := hw hl26 ht27
      exact gx_out hE hY (by decide) (by decide) ⟨rfl, rfl, ((hl6.tr hl11).tr hl26), ht27, hw⟩
  · have hq9 : ∃ q8, q8 = q9 := ⟨_, rfl⟩
    obtain ⟨e28, rfl⟩ := hq9
    obtain ⟨rfl, rfl, hl32, ht33, hw⟩ := hΦ
    have hw := hw hl32 ht33
    exact gx_out hE hY (by decide) (by decide) ⟨rfl, rfl, hl32, ht33, hw⟩

/-- WhalingLogs$SpeedOrder.<init>(I)V -/
def wx_X11_init (X : XT) (o : Nat) (x1 : Int) (T : xT) (I : xI) (R : xR) (L : xL) (Q : xI → Prop) : Prop :=
  xtag T o = 19 ∧ ∀ I2 : xI, I2 = uI I o 0 x1 →
  Q I2
theorem hx_X11_init : yX11_init.cls ≠ "java/lang/invoke/MethodHandle" ∧ yX11_init.cls ≠ "java/lang/invoke/VarHandle" ∧ (parseMethodDescriptor yX11_init.desc).map (fun d => d.parameters.length) = some 1 := by decide +kernel
set_option maxHeartbeats 4000000 in
theorem tx_X11_init (X : XT) {o : Nat} {x1 : Int} {T : xT} {I : xI} {R : xR} {L : xL} {Q : xI → Prop} (hw : wx_X11_init X o x1 T I R L Q) : CtX X yX11_init cX11_init 2 none (rmX 1 0 0 20) [aR (some o), aI x1] T I R L (PXvI T I R L Q) := by
  refine CtX.intro (by decide) (Nat.le_of_ble_eq_true rfl) (fun E hE hR hN => ?_)
  have hRm := hR.rm
  have hE : OkX E X RX11 cX11_init 2 none := hE
  have hE1 := hE.1
  have hI : isInit E := hN
  show GX E X T I R L 0 0 0 [some (aR (some o)), some (aI x1)] []
  unfold wx_X11_init at hw
  intro hok
  refine g_aldn0 hE1 dX11_init_0 ?_
  refine gx_objInit hE hRm rfl q1836 q151 q152 (by decide) (by decide) (Nat.le_of_ble_eq_true rfl) dX11_init_1 ?_ hok
  intro hok
  refine g_aldn0 hE1 dX11_init_4 ?_
  refine g_ildn1 hE1 dX11_init_5 ?_
  obtain ⟨ht1, hw⟩ := hw
  refine gx_putiF hE in_X11 (t := 19) rfl (by decide) 0 0 rfl (by decide) rfl (by decide) (ty := tyX11 0) tyX11 tyX11_ok nmX11 rfl q1837 (Or.inl rfl) rfl hI rfl (tyX11_ok 0 (by decide)) rfl rfl ht1 dX11_init_6 ?_ hok
  intro hok
  have hw := hw _ rfl
  generalize uI I o 0 x1 = I2 at hw hok ⊢
  exact gx_vret hE hR dX11_init_9 (by decide) (by decide) ⟨rfl, rfl, rfl, rfl, hw⟩ hok

/-- WhalingLogs$BlameOrder.<init>(I)V -/
def wx_X16_init (X : XT) (o : Nat) (x1 : Int) (T : xT) (I : xI) (R : xR) (L : xL) (Q : xI → Prop) : Prop :=
  xtag T o = 24 ∧ ∀ I2 : xI, I2 = uI I o 0 x1 →
  Q I2
theorem hx_X16_init : yX16_init.cls ≠ "java/lang/invoke/MethodHandle" ∧ yX16_init.cls ≠ "java/lang/invoke/VarHandle" ∧ (parseMethodDescriptor yX16_init.desc).map (fun d => d.parameters.length) = some 1 := by decide +kernel
set_option maxHeartbeats 4000000 in
theorem tx_X16_init (X : XT) {o : Nat} {x1 : Int} {T : xT} {I : xI} {R : xR} {L : xL} {Q : xI → Prop} (hw : wx_X16_init X o x1 T I R L Q) : CtX X yX16_init cX16_init 2 none (rmX 1 0 0 20) [aR (some o), aI x1] T I R L (PXvI T I R L Q) := by
  refine CtX.intro (by decide) (Nat.le_of_ble_eq_true rfl) (fun E hE hR hN => ?_)
  have hRm := hR.rm
  have hE : OkX E X RX16 cX16_init 2 none := hE
  have hE1 := hE.1
  have hI : isInit E := hN
  show GX E X T I R L 0 0 0 [some (aR (some o)), some (aI x1)] []
  unfold wx_X16_init at hw
  intro hok
  refine g_aldn0 hE1 dX16_init_0 ?_
  refine gx_objInit hE hRm rfl q1923 q151 q152 (by decide) (by decide) (Nat.le_of_ble_eq_true rfl) dX16_init_1 ?_ hok
  intro hok
  refine g_aldn0 hE1 dX16_init_4 ?_
  refine g_ildn1 hE1 dX16_init_5 ?_
  obtain ⟨ht1, hw⟩ := hw
  refine gx_putiF hE in_X16 (t := 24) rfl (by decide) 0 0 rfl (by decide) rfl (by decide) (ty := tyX16 0) tyX16 tyX16_ok nmX16 rfl q1924 (Or.inl rfl) rfl hI rfl (tyX16_ok 0 (by decide)) rfl rfl ht1 dX16_init_6 ?_ hok
  intro hok
  have hw := hw _ rfl
  generalize uI I o 0 x1 = I2 at hw hok ⊢
  exact gx_vret hE hR dX16_init_9 (by decide) (by decide) ⟨rfl, rfl, rfl, rfl, hw⟩ hok

/-- WhalingLogs$Reader.order()LWhalingLogs$Order; -/
def wx_X8_order (X : XT) (o : Nat)  (T : xT) (I : xI) (R : xR) (L : xL) (Q : Option Nat → xT → xI → xR → Prop) (Y : Nat → xT → xI → xR → Prop) : Prop :=
  xtag T o = 16 ∧
  wx_X8_word X o T I R L (fun (r2 : Option Nat) (T3 : xT) (I4 : xI) (R5 : xR) => tle T T3 → 
  ∃ b7 : Nat, r2 = some b7 ∧ xtag T3 b7 = 25 ∧ wx_J8_hashCode X b7 T3 I4 R5 L (fun (r10 : Int) (I11 : xI) => 
  jn1 (fun (x3_203 : Int) => 
      inR x3_203 ∧ ((x3_203 < 0 ∨ 7 < x3_203) →
        ∀ q13 : Nat, xtag T3 q13 = 0 → bsX X ≤ q13 → ∀ T16 : xT, T16 = xnew T3 q13 17 0 →
        wx_X9_init X q13 (I o 1) T16 I11 R5 L (fun (I19 : xI) (R20 : xR) => 
        Y q13 T16 I19 R20)) ∧
      (x3_203 = 0 →
        wx_X8_cellOrder X o 1 T3 I11 R5 L (fun (r25 : Option Nat) (T26 : xT) (I27 : xI) (R28 : xR) => tle T3 T26 → 
          Q r25 T26 I27 R28)
          (fun (e30 : Nat) (T31 : xT) (I32 : xI) (R33 : xR) => tle T3 T31 → xtag T31 e30 = 17 → 
          Y e30 T31 I32 R33)) ∧
      (x3_203 = 1 →
        wx_X8_cellOrder X o 0 T3 I11 R5 L (fun (r38 : Option Nat) (T39 : xT) (I40 : xI) (R41 : xR) => tle T3 T39 → 
          Q r38 T39 I40 R41)
          (fun (e43 : Nat) (T44 : xT) (I45 : xI) (R46 : xR) => tle T3 T44 → xtag T44 e43 = 17 → 
          Y e43 T44 I45 R46)) ∧
      (x3_203 = 2 →
        ∀ q50 : Nat, xtag T3 q50 = 0 → bsX X ≤ q50 → ∀ T53 : xT, T53 = xnew T3 q50 19 0 →
        wx_X8_number X o 3 T53 I11 R5 L (fun (r57 : Int) (T58 : xT) (I59 : xI) (R60 : xR) => tle T53 T58 → 
          wx_X11_init X q50 r57 T58 I59 R60 L (fun (I62 : xI) => 
          Q (some q50) T58 I62 R60))
          (fun (e64 : Nat) (T65 : xT) (I66 : xI) (R67 : xR) => tle T53 T65 → xtag T65 e64 = 17 → 
          Y e64 T65 I66 R67)) ∧
      (x3_203 = 3 →
        wx_X8_pageOrder X o T3 I11 R5 L (fun (r72 : Option Nat) (T73 : xT) (I74 : xI) (R75 : xR) => tle T3 T73 → 
          Q r72 T73 I74 R75)
          (fun (e77 : Nat) (T78 : xT) (I79 : xI) (R80 : xR) => tle T3 T78 → xtag T78 e77 = 17 → 
          Y e77 T78 I79 R80)) ∧
      (x3_203 = 4 →
        wx_X8_entryOrder X o T3 I11 R5 L (fun (r85 : Option Nat) (T86 : xT) (I87 : xI) (R88 : xR) => tle T3 T86 → 
          Q r85 T86 I87 R88)
          (fun (e90 : Nat) (T91 : xT) (I92 : xI) (R93 : xR) => tle T3 T91 → xtag T91 e90 = 17 → 
          Y e90 T91 I92 R93)) ∧
      (x3_203 = 5 →
        wx_X8_readOrder X o T3 I11 R5 L (fun (r98 : Option Nat) (T99 : xT) (I100 : xI) (R101 : xR) => tle T3 T99 → 
          Q r98 T99 I100 R101)
          (fun (e103 : Nat) (T104 : xT) (I105 : xI) (R106 : xR) => tle T3 T104 → xtag T104 e103 = 17 → 
          Y e103 T104 I105 R106)) ∧
      (x3_203 = 6 →
        wx_X8_strikeOrder X o T3 I11 R5 L (fun (r111 : Option Nat) (T112 : xT) (I113 : xI) (R114 : xR) => tle T3 T112 → 
          Q r111 T112 I113 R114)
          (fun (e116 : Nat) (T117 : xT) (I118 : xI) (R119 : xR) => tle T3 T117 → xtag T117 e116 = 17 → 
          Y e116 T117 I118 R119)) ∧
      (x3_203 = 7 →
        ∀ q123 : Nat, xtag T3 q123 = 0 → bsX X ≤ q123 → ∀ T126 : xT, T126 = xnew T3 q123 24 0 →
        wx_X8_number X o 1 T126 I11 R5 L (fun (r130 : Int) (T131 : xT) (I132 : xI) (R133 : xR) => tle T126 T131 → 
          wx_X16_init X q123 r130 T131 I132 R133 L (fun (I135 : xI) => 
          Q (some q123) T131 I135 R133))
          (fun (e137 : Nat) (T138 : xT) (I139 : xI) (R140 : xR) => tle T126 T138 → xtag T138 e137 = 17 → 
          Y e137 T138 I139 R140)))
    (fun (J_203 : Int → Prop) =>
    inR (wr r10) ∧ (((wr r10) ≠ (-891985998) ∧ (wr r10) ≠ 113743 ∧ (wr r10) ≠ 3314155 ∧ (wr r10) ≠ 3433103 ∧ (wr r10) ≠ 3496342 ∧ (wr r10) ≠ 93819183 ∧ (wr r10) ≠ 96667762 ∧ (wr r10) ≠ 109641799) →
      J_203 (-1)) ∧
    ((wr r10) = (-891985998) →
      ∀ b146 v147 : Nat, srX X 19 = some b146 → xtag T3 b146 = 25 → R5 b146 0 = some v147 → I11 b146 1 = 0 → xtag T3 v147 = 101 → xlen T3 v147 = 6 → (∀ j : Nat, j < 6 → I11 v147 (j : Int) = ([115, 116, 114, 105, 107, 101] : List Int).getD j 0) →
      wx_J8_equals X b7 (some b146) T3 I11 R5 L (fun (r155 : Int) => 
      cEq r155 0
        (
        J_203 (-1))
        (
        J_203 6))) ∧
    ((wr r10) = 113743 →
      ∀ b162 v163 : Nat, srX X 14 = some b162 → xtag T3 b162 = 25 → R5 b162 0 = some v163 → I11 b162 1 = 0 → xtag T3 v163 = 101 → xlen T3 v163 = 3 → (∀ j : Nat, j < 3 → I11 v163 (j : Int) = ([115, 101, 97] : List Int).getD j 0) →
      wx_J8_equals X b7 (some b162) T3 I11 R5 L (fun (r171 : Int) => 
      cEq r171 0
        (
        J_203 (-1))
        (
        J_203 1))) ∧
    ((wr r10) = 3314155 →
      ∀ b178 v179 : Nat, srX X 13 = some b178 → xtag T3 b178 = 25 → R5 b178 0 = some v179 → I11 b178 1 = 0 → xtag T3 v179 = 101 → xlen T3 v179 = 4 → (∀ j : Nat, j < 4 → I11 v179 (j : Int) = ([108, 97, 110, 100] : List Int).getD j 0) →
      wx_J8_equals X b7 (some b178) T3 I11 R5 L (fun (r187 : Int) => 
      cEq r187 0
        (
        J_203 (-1))
        (
        J_203 0))) ∧
    ((wr r10) = 3433103 →
      ∀ b194 v195 : Nat, srX X 16 = some b194 → xtag T3 b194 = 25 → R5 b194 0 = some v195 → I11 b194 1 = 0 → xtag T3 v195 = 101 → xlen T3 v195 = 4 → (∀ j : Nat, j < 4 → I11 v195 (j : Int) = ([112, 97, 103, 101] : List Int).getD j 0) →
      wx_J8_equals X b7 (some b194) T3 I11 R5 L (fun (r203 : Int) => 
      cEq r203 0
        (
        J_203 (-1))
        (
        J_203 3))) ∧
    ((wr r10) = 3496342 →
      ∀ b210 v211 : Nat, srX X 18 = some b210 → xtag T3 b210 = 25 → R5 b210 0 = some v211 → I11 b210 1 = 0 → xtag T3 v211 = 101 → xlen T3 v211 = 4 → (∀ j : Nat, j < 4 → I11 v211 (j : Int) = ([114, 101, 97, 100] : List Int).getD j 0) →
      wx_J8_equals X b7 (some b210) T3 I11 R5 L (fun (r219 : Int) => 
      cEq r219 0
        (
        J_203 (-1))
        (
        J_203 5))) ∧
    ((wr r10) = 93819183 →
      ∀ b226 v227 : Nat, srX X 20 = some b226 → xtag T3 b226 = 25 → R5 b226 0 = some v227 → I11 b226 1 = 0 → xtag T3 v227 = 101 → xlen T3 v227 = 5 → (∀ j : Nat, j < 5 → I11 v227 (j : Int) = ([98, 108, 97, 109, 101] : List Int).getD j 0) →
      wx_J8_equals X b7 (some b226) T3 I11 R5 L (fun (r235 : Int) => 
      cEq r235 0
        (
        J_203 (-1))
        (
        J_203 7))) ∧
    ((wr r10) = 96667762 →
      ∀ b242 v243 : Nat, srX X 17 = some b242 → xtag T3 b242 = 25 → R5 b242 0 = some v243 → I11 b242 1 = 0 → xtag T3 v243 = 101 → xlen T3 v243 = 5 → (∀ j : Nat, j < 5 → I11 v243 (j : Int) = ([101, 110, 116, 114, 121] : List Int).getD j 0) →
      wx_J8_equals X b7 (some b242) T3 I11 R5 L (fun (r251 : Int) => 
      cEq r251 0
        (
        J_203 (-1))
        (
        J_203 4))) ∧
    ((wr r10) = 109641799 →
      ∀ b258 v259 : Nat, srX X 15 = some b258 → xtag T3 b258 = 25 → R5 b258 0 = some v259 → I11 b258 1 = 0 → xtag T3 v259 = 101 → xlen T3 v259 = 5 → (∀ j : Nat, j < 5 → I11 v259 (j : Int) = ([115, 112, 101, 101, 100] : List Int).getD j 0) →
      wx_J8_equals X b7 (some b258) T3 I11 R5 L (fun (r267 : Int) => 
      cEq r267 0
        (
        J_203 (-1))
        (
        J_203 2))))))
theorem hx_X8_order : yX8_order.cls = RX8 ∧ yX8_order.cls ≠ "java/lang/invoke/MethodHandle" ∧ yX8_order.cls ≠ "java/lang/invoke/VarHandle" ∧ (parseMethodDescriptor yX8_order.desc).map (fun d => d.parameters.length) = some 0 := by decide +kernel
set_option maxHeartbeats 4000000 in
theorem tx_X8_order (X : XT) {o : Nat}  {T : xT} {I : xI} {R : xR} {L : xL} {Q : Option Nat → xT → xI → xR → Prop} {Y : Nat → xT → xI → xR → Prop} (hw : wx_X8_order X o T I R L Q Y) : CtY X yX8_order cX8_order 4 (some (.object "WhalingLogs$Order")) (rmX 9 70 4745 217) [aR (some o)] T I R L (PXqTIR T I R L Q) (PYTIR T I R L "WhalingLogs$Wrong" 17 Y) := by
  refine CtY.intro (by decide) (Nat.le_of_ble_eq_true rfl) (fun E hE hR hY hN => ?_)
  have hRm := hR.rm
  have hE : OkX E X RX8 cX8_order 4 (some (.object "WhalingLogs$Order")) := hE
  have hE1 := hE.1
  show GX E X T I R L 0 0 0 [some (aR (some o)), none, none, none] []
  unfold wx_X8_order at hw
  intro hok
  refine g_aldn0 hE1 dX8_order_0 ?_
  obtain ⟨ht1, hw⟩ := hw
  refine gx_geti hE in_X8 (t := 16) rfl (by decide) 1 1 rfl (by decide) rfl (by decide) rfl q1625 (Or.inl rfl) ht1 dX8_order_1 ?_ hok
  intro hok
  refine g_istn1 hE1 dX8_order_4 (by decide) rfl ?_
  refine g_aldn0 hE1 dX8_order_5 ?_
  refine gx_callV hE hRm (As := []) ht1 (by decide) (by decide) rfl hx_X8_word (tx_X8_word X hw) (lw_V q1644 q1646 qs33 q133 q1647) ⟨by decide, by decide⟩ ⟨(by decide), (by decide)⟩ rfl (Nat.le_of_ble_eq_true rfl) dX8_order_6 rfl (fun r9 T3 I4 R5 Lz hΦ => ?_) hok
  obtain ⟨r2, rfl, rfl, hl6, hw⟩ := hΦ
  have hw := hw hl6
  show GX E X T3 I4 R5 L 30 4500 9 [some (aR (some o)), some (aI (I o 1)), none, none] [aR r2]
  intro hok
  refine g_astn2 hE1 dX8_order_9 (by decide) rfl ?_
  refine g_iconst hE1 dX8_order_10 ?_
  refine g_istn3 hE1 dX8_order_11 (by decide) rfl ?_
  refine g_aldn2 hE1 dX8_order_12 ?_
  obtain ⟨b7, hb8, hw⟩ := hw
  rw [hb8]
  obtain ⟨ht9, hw⟩ := hw
  refine gx_callV hE hRm (As := []) ht9 (by decide) (by decide) rfl hx_J8_hashCode (tx_J8_hashCode X hw) (lw_V q1700 q1701 q1702 q106 q1703) ⟨by decide, by decide⟩ ⟨(by decide), (by decide)⟩ rfl (Nat.le_of_ble_eq_true rfl) dX8_order_13 rfl (fun r9 Tz I11 Rz Lz hΦ => ?_) hok
  obtain ⟨r10, rfl, rfl, rfl, rfl, hw⟩ := hΦ
  show GX E X T3 I11 R5 L 30 4500 16 [some (aR (some o)), some (aI (I o 1)), some (aR (some b7)), some (aI (-1))] [aI r10]
  intro hok
  refine jn1_walk (fun (x3_203 : Int) => GX E X T3 I11 R5 L 30 4500 203 [some (aR (some o)), some (aI (I o 1)), some (aR (some b7)), some (aI x3_203)] []) hw (fun x3_203 hw => ?_) (fun J_203 hj_203 hw => ?_)
  · intro hok
    refine g_ildn3 hE1 dX8_order_203 ?_
    obtain ⟨h22, h23, h36, h49, h70, h83, h96, h109, h122, h143⟩ := hw
    refine g_table hE1 dX8_order_204 h22 310 (by decide) [252, 258, 264, 277, 282, 287, 292, 297] (by decide) (by decide) (fun q => ?_) (fun i t hi he => ?_)
    · have hw := h23 q
      refine gx_new hE hRm in_X9 tyX9 tyX9_ok (t := 17) rfl (by decide) (by decide) rfl (by decide) q1781 q1782 q134 (by decide) (by decide) dX8_order_310 (fun q13 hq14 hbs15 => ?_) hok
      intro hok
      have hw := hw q13 hq14 hbs15 _ rfl
      have hl17 := tle.new (T := T3) (q := q13) (t := 17) (n := 0) hq14
      have hT18 : xtag (xnew T3 q13 17 0) q13 = 17 := if_pos rfl
      generalize xnew T3 q13 17 0 = T16 at hw hl17 hok hT18 ⊢
      refine g_dup hE1 dX8_order_313 rfl ?_
      refine g_ildn1 hE1 dX8_order_314 ?_
      refine gx_callI hE hRm (As := [aI (I o 1)]) (b := q13) hx_X9_init (lw_meth q1792) q1790 q134 q1791 rfl (tx_X9_init X hw) ⟨by decide, by decide⟩ ⟨(by decide), (by decide)⟩ rfl (Nat.le_of_ble_eq_true rfl) dX8_order_315 rfl (fun r9 Tz I19 R20 Lz hΦ => ?_) hok
      obtain ⟨rfl, rfl, rfl, hw⟩ := hΦ
      show GX E X T16 I19 R20 L 31 4507 318 [some (aR (some o)), some (aI (I o 1)), some (aR (some b7)), some (aI x3_203)] [aR (some q13)]
      intro hok
      exact gx_athrow hE hT18 (by decide) (by decide) rfl dX8_order_318 (gx_out hE hY (by decide) (by decide) ⟨rfl, rfl, (hl6.tr hl17), hT18, hw⟩) hok
    rcases i with _ | i
    · obtain rfl : 252 = t := Option.some.inj hi
      have hw := h36 (by omega)
      refine g_aldn0 hE1 dX8_order_252 ?_
      refine g_iconst hE1 dX8_order_253 ?_
      have ht24 := hl6.tag ht1 (by decide)
      refine gy_callV hE hRm (As := [aI 1]) ht24 (by decide) (by decide) rfl hx_X8_cellOrder (tx_X8_cellOrder X hw) (lw_V q1765 q1767 qs35 q133 q1768) ⟨by decide, by decide⟩ ⟨(by decide), (by decide)⟩ rfl (Nat.le_of_ble_eq_true rfl) dX8_order_254 rfl (fun r9 T26 I27 R28 Lz hΦ => ?_) (fun Ec q9 T31 I32 R33 Lz hΦ => ?_) hok
      · obtain ⟨r25, rfl, rfl, hl29, hw⟩ := hΦ
        have hw := hw hl29
        show GX E X T26 I27 R28 L 34 4525 257 [some (aR (some o)), some (aI (I o 1)), some (aR (some b7)), some (aI x3_203)] [aR r25]
        intro hok
        exact gx_aret hE hR dX8_order_257 (by decide) (by decide) (Or.inl ⟨_, rfl⟩) ⟨_, rfl, rfl, (hl6.tr hl29), hw⟩ hok
      · have hq9 : ∃ q8, q8 = q9 := ⟨_, rfl⟩
        obtain ⟨e30, rfl⟩ := hq9
        obtain ⟨rfl, rfl, hl34, ht35, hw⟩ := hΦ
        have hw := hw hl34 ht35
        exact gx_out hE hY (by decide) (by decide) ⟨rfl, rfl, (hl6.tr hl34), ht35, hw⟩
    rcases i with _ | i
    · obtain rfl : 258 = t := Option.some.inj hi
      have hw := h49 (by omega)
      refine g_aldn0 hE1 dX8_order_258 ?_
      refine g_iconst hE1 dX8_order_259 ?_
      have ht37 := hl6.tag ht1 (by decide)
      refine gy_callV hE hRm (As := [aI 0]) ht37 (by decide) (by decide) rfl hx_X8_cellOrder (tx_X8_cellOrder X hw) (lw_V q1765 q1767 qs35 q133 q1768) ⟨by decide, by decide⟩ ⟨(by decide), (by decide)⟩ rfl (Nat.le_of_ble_eq_true rfl) dX8_order_260 rfl (fun r9 T39 I40 R41 Lz hΦ => ?_) (fun Ec q9 T44 I45 R46 Lz hΦ => ?_) hok
      · obtain ⟨r38, rfl, rfl, hl42, hw⟩ := hΦ
        have hw := hw hl42
        show GX E X T39 I40 R41 L 34 4525 263 [some (aR (some o)), some (aI (I o 1)), some (aR (some b7)), some (aI x3_203)] [aR r38]
        intro hok
        exact gx_aret hE hR dX8_order_263 (by decide) (by decide) (Or.inl ⟨_, rfl⟩) ⟨_, rfl, rfl, (hl6.tr hl42), hw⟩ hok
      · have hq9 : ∃ q8, q8 = q9 := ⟨_, rfl⟩
        obtain ⟨e43, rfl⟩ := hq9
        obtain ⟨rfl, rfl, hl47, ht48, hw⟩ := hΦ
        have hw := hw hl47 ht48
        exact gx_out hE hY (by decide) (by decide) ⟨rfl, rfl, (hl6.tr hl47), ht48, hw⟩
    rcases i with _ | i
    · obtain rfl : 264 = t := Option.some.inj hi
      have hw := h70 (by omega)
      refine gx_new hE hRm in_X11 tyX11 tyX11_ok (t := 19) rfl (by decide) (by decide) rfl (by decide) q1827 q1828 q136 (by decide) (by decide) dX8_order_264 (fun q50 hq51 hbs52 => ?_) hok
      intro hok
      have hw := hw q50 hq51 hbs52 _ rfl
      have hl54 := tle.new (T := T3) (q := q50) (t := 19) (n := 0) hq51
      have hT55 : xtag (xnew T3 q50 19 0) q50 = 19 := if_pos rfl
      generalize xnew T3 q50 19 0 = T53 at hw hl54 hok hT55 ⊢
      refine g_dup hE1 dX8_order_267 rfl ?_
      refine g_aldn0 hE1 dX8_order_268 ?_
      refine g_iconst hE1 dX8_order_269 ?_
      have ht56 := (hl6.tr hl54).tag ht1 (by decide)
      refine gy_callV hE hRm (As := [aI 3]) ht56 (by decide) (by decide) rfl hx_X8_number (tx_X8_number X hw) (lw_V q1829 q1831 qs41 q133 q1832) ⟨by decide, by decide⟩ ⟨(by decide), (by decide)⟩ rfl (Nat.le_of_ble_eq_true rfl) dX8_order_270 rfl (fun r9 T58 I59 R60 Lz hΦ => ?_) (fun Ec q9 T65 I66 R67 Lz hΦ => ?_) hok
      · obtain ⟨r57, rfl, rfl, hl61, hw⟩ := hΦ
        have hw := hw hl61
        show GX E X T58 I59 R60 L 33 4515 273 [some (aR (some o)), some (aI (I o 1)), some (aR (some b7)), some (aI x3_203)] [aI r57, aR (some q50), aR (some q50)]
        intro hok
        refine gx_callI hE hRm (As := [aI r57]) (b := q50) hx_X11_init (lw_meth q1835) q1833 q136 q1834 rfl (tx_X11_init X hw) ⟨by decide, by decide⟩ ⟨(by decide), (by decide)⟩ rfl (Nat.le_of_ble_eq_true rfl) dX8_order_273 rfl (fun r9 Tz I62 Rz Lz hΦ => ?_) hok
        obtain ⟨rfl, rfl, rfl, rfl, hw⟩ := hΦ
        show GX E X T58 I62 R60 L 33 4515 276 [some (aR (some o)), some (aI (I o 1)), some (aR (some b7)), some (aI x3_203)] [aR (some q50)]
        intro hok
        exact gx_aret hE hR dX8_order_276 (by decide) (by decide) (Or.inl ⟨_, rfl⟩) ⟨_, rfl, rfl, ((hl6.tr hl54).tr hl61), hw⟩ hok
      · have hq9 : ∃ q8, q8 = q9 := ⟨_, rfl⟩
        obtain ⟨e64, rfl⟩ := hq9
        obtain ⟨rfl, rfl, hl68, ht69, hw⟩ := hΦ
        have hw := hw hl68 ht69
        exact gx_out hE hY (by decide) (by decide) ⟨rfl, rfl, ((hl6.tr hl54).tr hl68), ht69, hw⟩
    rcases i with _ | i
    · obtain rfl : 277 = t := Option.some.inj hi
      have hw := h83 (by omega)
      refine g_aldn0 hE1 dX8_order_277 ?_
      have ht71 := hl6.tag ht1 (by decide)
      refine gy_callV hE hRm (As := []) ht71 (by decide) (by decide) rfl hx_X8_pageOrder (tx_X8_pageOrder X hw) (lw_V q1841 q1843 qs42 q133 q1844) ⟨by decide, by decide⟩ ⟨(by decide), (by decide)⟩ rfl (Nat.le_of_ble_eq_true rfl) dX8_order_278 rfl (fun r9 T73 I74 R75 Lz hΦ => ?_) (fun Ec q9 T78 I79 R80 Lz hΦ => ?_) hok
      · obtain ⟨r72, rfl, rfl, hl76, hw⟩ := hΦ
        have hw := hw hl76
        show GX E X T73 I74 R75 L 35 4530 281 [some (aR (some o)), some (aI (I o 1)), some (aR (some b7)), some (aI x3_203)] [aR r72]
        intro hok
        exact gx_aret hE hR dX8_order_281 (by decide) (by decide) (Or.inl ⟨_, rfl⟩) ⟨_, rfl, rfl, (hl6.tr hl76), hw⟩ hok
      · have hq9 : ∃ q8, q8 = q9 := ⟨_, rfl⟩
        obtain ⟨e77, rfl⟩ := hq9
        obtain ⟨rfl, rfl, hl81, ht82, hw⟩ := hΦ
        have hw := hw hl81 ht82
        exact gx_out hE hY (by decide) (by decide) ⟨rfl, rfl, (hl6.tr hl81), ht82, hw⟩
    rcases i with _ | i
    · obtain rfl : 282 = t := Option.some.inj hi
      have hw := h96 (by omega)
      refine g_aldn0 hE1 dX8_order_282 ?_
      have ht84 := hl6.tag ht1 (by decide)
      refine gy_callV hE hRm (As := []) ht84 (by decide) (by decide) rfl hx_X8_entryOrder (tx_X8_entryOrder X hw) (lw_V q1858 q1860 qs43 q133 q1861) ⟨by decide, by decide⟩ ⟨(by decide), (by decide)⟩ rfl (Nat.le_of_ble_eq_true rfl) dX8_order_283 rfl (fun r9 T86 I87 R88 Lz hΦ => ?_) (fun Ec q9 T91 I92 R93 Lz hΦ => ?_) hok
      · obtain ⟨r85, rfl, rfl, hl89, hw⟩ := hΦ
        have hw := hw hl89
        show GX E X T86 I87 R88 L 40 4568 286 [some (aR (some o)), some (aI (I o 1)), some (aR (some b7)), some (aI x3_203)] [aR r85]
        intro hok
        exact gx_aret hE hR dX8_order_286 (by decide) (by decide) (Or.inl ⟨_, rfl⟩) ⟨_, rfl, rfl, (hl6.tr hl89), hw⟩ hok
      · have hq9 : ∃ q8, q8 = q9 := ⟨_, rfl⟩
        obtain ⟨e90, rfl⟩ := hq9
        obtain ⟨rfl, rfl, hl94, ht95, hw⟩ := hΦ
        have hw := hw hl94 ht95
        exact gx_out hE hY (by decide) (by decide) ⟨rfl, rfl, (hl6.tr hl94), ht95, hw⟩
    rcases i with _ | i
    · obtain rfl : 287 = t := Option.some.inj hi
      have hw := h109 (by omega)
      refine g_aldn0 hE1 dX8_order_287 ?_
      have ht97 := hl6.tag ht1 (by decide)
      refine gy_callV hE hRm (As := []) ht97 (by decide) (by decide) rfl hx_X8_readOrder (tx_X8_readOrder X hw) (lw_V q1884 q1886 qs44 q133 q1887) ⟨by decide, by decide⟩ ⟨(by decide), (by decide)⟩ rfl (Nat.le_of_ble_eq_true rfl) dX8_order_288 rfl (fun r9 T99 I100 R101 Lz hΦ => ?_) (fun Ec q9 T104 I105 R106 Lz hΦ => ?_) hok
      · obtain ⟨r98, rfl, rfl, hl102, hw⟩ := hΦ
        have hw := hw hl102
        show GX E X T99 I100 R101 L 35 4530 291 [some (aR (some o)), some (aI (I o 1)), some (aR (some b7)), some (aI x3_203)] [aR r98]
        intro hok
        exact gx_aret hE hR dX8_order_291 (by decide) (by decide) (Or.inl ⟨_, rfl⟩) ⟨_, rfl, rfl, (hl6.tr hl102), hw⟩ hok
      · have hq9 : ∃ q8, q8 = q9 := ⟨_, rfl⟩
        obtain ⟨e103, rfl⟩ := hq9
        obtain ⟨rfl, rfl, hl107, ht108, hw⟩ := hΦ
        have hw := hw hl107 ht108
        exact gx_out hE hY (by decide) (by decide) ⟨rfl, rfl, (hl6.tr hl107), ht108, hw⟩
    rcases i with _ | i
    · obtain rfl : 292 = t := Option.some.inj hi
      have hw := h122 (by omega)
      refine g_aldn0 hE1 dX8_order_292 ?_
      have ht110 := hl6.tag ht1 (by decide)
      refine gy_callV hE hRm (As := []) ht110 (by decide) (by decide) rfl hx_X8_strikeOrder (tx_X8_strikeOrder X hw) (lw_V q1901 q1903 qs45 q133 q1904) ⟨by decide, by decide⟩ ⟨(by decide), (by decide)⟩ rfl (Nat.le_of_ble_eq_true rfl) dX8_order_293 rfl (fun r9 T112 I113 R114 Lz hΦ => ?_) (fun Ec q9 T117 I118 R119 Lz hΦ => ?_) hok
      · obtain ⟨r111, rfl, rfl, hl115, hw⟩ := hΦ
        have hw := hw hl115
        show GX E X T112 I113 R114 L 35 4530 296 [some (aR (some o)), some (aI (I o 1)), some (aR (some b7)), some (aI x3_203)] [aR r111]
        intro hok
        exact gx_aret hE hR dX8_order_296 (by decide) (by decide) (Or.inl ⟨_, rfl⟩) ⟨_, rfl, rfl, (hl6.tr hl115), hw⟩ hok
      · have hq9 : ∃ q8, q8 = q9 := ⟨_, rfl⟩
        obtain ⟨e116, rfl⟩ := hq9
        obtain ⟨rfl, rfl, hl120, ht121, hw⟩ := hΦ
        have hw := hw hl120 ht121
        exact gx_out hE hY (by decide) (by decide) ⟨rfl, rfl, (hl6.tr hl120), ht121, hw⟩
    rcases i with _ | i
    · obtain rfl : 297 = t := Option.some.inj hi
      have hw := h143 (by omega)
      refine gx_new hE hRm in_X16 tyX16 tyX16_ok (t := 24) rfl (by decide) (by decide) rfl (by decide) q1918 q1919 q141 (by decide) (by decide) dX8_order_297 (fun q123 hq124 hbs125 => ?_) hok
      intro hok
      have hw := hw q123 hq124 hbs125 _ rfl
      have hl127 := tle.new (T := T3) (q := q123) (t := 24) (n := 0) hq124
      have hT128 : xtag (xnew T3 q123 24 0) q123 = 24 := if_pos rfl
      generalize xnew T3 q123 24 0 = T126 at hw hl127 hok hT128 ⊢
      refine g_dup hE1 dX8_order_300 rfl ?_
      refine g_aldn0 hE1 dX8_order_301 ?_
      refine g_iconst hE1 dX8_order_302 ?_
      have ht129 := (hl6.tr hl127).tag ht1 (by decide)
      refine gy_callV hE hRm (As := [aI 1]) ht129 (by decide) (by decide) rfl hx_X8_number (tx_X8_number X hw) (lw_V q1829 q1831 qs41 q133 q1832) ⟨by decide, by decide⟩ ⟨(by decide), (by decide)⟩ rfl (Nat.le_of_ble_eq_true rfl) dX8_order_303 rfl (fun r9 T131 I132 R133 Lz hΦ => ?_) (fun Ec q9 T138 I139 R140 Lz hΦ => ?_) hok
      · obtain ⟨r130, rfl, rfl, hl134, hw⟩ := hΦ
        have hw := hw hl134
        show GX E X T131 I132 R133 L 33 4515 306 [some (aR (some o)), some (aI (I o 1)), some (aR (some b7)), some (aI x3_203)] [aI r130, aR (some q123), aR (some q123)]
        intro hok
        refine gx_callI hE hRm (As := [aI r130]) (b := q123) hx_X16_init (lw_meth q1922) q1920 q141 q1921 rfl (tx_X16_init X hw) ⟨by decide, by decide⟩ ⟨(by decide), (by decide)⟩ rfl (Nat.le_of_ble_eq_true rfl) dX8_order_306 rfl (fun r9 Tz I135 Rz Lz hΦ => ?_) hok
        obtain ⟨rfl, rfl, rfl, rfl, hw⟩ := hΦ
        show GX E X T131 I135 R133 L 33 4515 309 [some (aR (some o)), some (aI (I o 1)), some (aR (some b7)), some (aI x3_203)] [aR (some q123)]
        intro hok
        exact gx_aret hE hR dX8_order_309 (by decide) (by decide) (Or.inl ⟨_, rfl⟩) ⟨_, rfl, rfl, ((hl6.tr hl127).tr hl134), hw⟩ hok
      · have hq9 : ∃ q8, q8 = q9 := ⟨_, rfl⟩
        obtain ⟨e137, rfl⟩ := hq9
        obtain ⟨rfl, rfl, hl141, ht142, hw⟩ := hΦ
        have hw := hw hl141 ht142
        exact gx_out hE hY (by decide) (by decide) ⟨rfl, rfl, ((hl6.tr hl127).tr hl141), ht142, hw⟩
    exact absurd hi (by simp)
  · skip
    refine g_wr ?_
    obtain ⟨h144, h145, h161, h177, h193, h209, h225, h241, h257, h273⟩ := hw
    refine g_lookup hE1 dX8_order_16 h144 (by decide) 203 (by decide) [176, 106, 92, 134, 162, 191, 148, 120] (by decide) (fun q => ?_) (fun i t q hq hi he => ?_)
    · have hw := h145 ⟨q (-891985998, 160) (by decide), q (113743, 90) (by decide), q (3314155, 76) (by decide), q (3433103, 118) (by decide), q (3496342, 146) (by decide), q (93819183, 175) (by decide), q (96667762, 132) (by decide), q (109641799, 104) (by decide)⟩
      exact hj_203 _ hw hok
    rcases i with _ | i
    · obtain rfl : 176 = t := Option.some.inj hi
      obtain rfl : ((-891985998 : Int), (160 : Int)) = q := Option.some.inj hq
      have hw := h161 he
      refine g_aldn2 hE1 dX8_order_176 ?_
      refine gx_ldcS hE (i := 9) (bs9 := [115, 116, 114, 105, 107, 101]) rfl dX8_order_177 (fun b146 v147 h148 ht151 h149 h150 ht152 h153 h154 => ?_) hok
      have hw := hw b146 v147 h148 ht151 h149 h150 ht152 h153 h154
      intro hok
      refine gx_callV hE hRm (As := [aR (some b146)]) ht9 (by decide) (by decide) rfl hx_J8_equals (tx_J8_equals X hw) (lw_V q1750 q1751 q1752 q106 q1753) ⟨by decide, by decide⟩ ⟨(by decide), (by decide)⟩ rfl (Nat.le_of_ble_eq_true rfl) dX8_order_179 rfl (fun r9 Tz Iz Rz Lz hΦ => ?_) hok
      obtain ⟨r155, rfl, rfl, rfl, rfl, rfl, hw⟩ := hΦ
      show GX E X T3 I11 R5 L 30 4500 182 [some (aR (some o)), some (aI (I o 1)), some (aR (some b7)), some (aI (-1))] [aI r155]
      intro hok
      obtain ⟨h157, h158, hT159, hN160⟩ := hw
      refine g_if_eq hE1 (tgt := 203) dX8_order_182 (by decide) h157 (fun q => ?_) (fun q => ?_)
      · have hw := hT159 q
        exact hj_203 _ hw hok
      · have hw := hN160 q
        refine g_bipush hE1 dX8_order_185 (by decide) ?_
        refine g_istn3 hE1 dX8_order_187 (by decide) rfl ?_
        refine g_goto hE1 (tgt := 203) dX8_order_188 (by decide) ?_
        exact hj_203 _ hw hok
    rcases i with _ | i
    · obtain rfl : 106 = t := Option.some.inj hi
      obtain rfl : ((113743 : Int), (90 : Int)) = q := Option.some.inj hq
      have hw := h177 he
      refine g_aldn2 hE1 dX8_order_106 ?_
      refine gx_ldcS hE (i := 4) (bs9 := [115, 101, 97]) rfl dX8_order_107 (fun b162 v163 h164 ht167 h165 h166 ht168 h169 h170 => ?_) hok
      have hw := hw b162 v163 h164 ht167 h165 h166 ht168 h169 h170
      intro hok
      refine gx_callV hE hRm (As := [aR (some b162)]) ht9 (by decide) (by decide) rfl hx_J8_equals (tx_J8_equals X hw) (lw_V q1750 q1751 q1752 q106 q1753) ⟨by decide, by decide⟩ ⟨(by decide), (by decide)⟩ rfl (Nat.le_of_ble_eq_true rfl) dX8_order_109 rfl (fun r9 Tz Iz Rz Lz hΦ => ?_) hok
      obtain ⟨r171, rfl, rfl, rfl, rfl, rfl, hw⟩ := hΦ
      show GX E X T3 I11 R5 L 30 4500 112 [some (aR (some o)), some (aI (I o 1)), some (aR (some b7)), some (aI (-1))] [aI r171]
      intro hok
      obtain ⟨h173, h174, hT175, hN176⟩ := hw
      refine g_if_eq hE1 (tgt := 203) dX8_order_112 (by decide) h173 (fun q => ?_) (fun q => ?_)
      · have hw := hT175 q
        exact hj_203 _ hw hok
      · have hw := hN176 q
        refine g_iconst hE1 dX8_order_115 ?_
        refine g_istn3 hE1 dX8_order_116 (by decide) rfl ?_
        refine g_goto hE1 (tgt := 203) dX8_order_117 (by decide) ?_
        exact hj_203 _ hw hok
    rcases i with _ | i
    · obtain rfl : 92 = t := Option.some.inj hi
      obtain rfl : ((3314155 : Int), (76 : Int)) = q := Option.some.inj hq
      have hw := h193 he
      refine g_aldn2 hE1 dX8_order_92 ?_
      refine gx_ldcS hE (i := 3) (bs9 := [108, 97, 110, 100]) rfl dX8_order_93 (fun b178 v179 h180 ht183 h181 h182 ht184 h185 h186 => ?_) hok
      have hw := hw b178 v179 h180 ht183 h181 h182 ht184 h185 h186
      intro hok
      refine gx_callV hE hRm (As := [aR (some b178)]) ht9 (by decide) (by decide) rfl hx_J8_equals (tx_J8_equals X hw) (lw_V q1750 q1751 q1752 q106 q1753) ⟨by decide, by decide⟩ ⟨(by decide), (by decide)⟩ rfl (Nat.le_of_ble_eq_true rfl) dX8_order_95 rfl (fun r9 Tz Iz Rz Lz hΦ => ?_) hok
      obtain ⟨r187, rfl, rfl, rfl, rfl, rfl, hw⟩ := hΦ
      show GX E X T3 I11 R5 L 30 4500 98 [some (aR (some o)), some (aI (I o 1)), some (aR (some b7)), some (aI (-1))] [aI r187]
      intro hok
      obtain ⟨h189, h190, hT191, hN192⟩ := hw
      refine g_if_eq hE1 (tgt := 203) dX8_order_98 (by decide) h189 (fun q => ?_) (fun q => ?_)
      · have hw := hT191 q
        exact hj_203 _ hw hok
      · have hw := hN192 q
        refine g_iconst hE1 dX8_order_101 ?_
        refine g_istn3 hE1 dX8_order_102 (by decide) rfl ?_
        refine g_goto hE1 (tgt := 203) dX8_order_103 (by decide) ?_
        exact hj_203 _ hw hok
    rcases i with _ | i
    · obtain rfl : 134 = t := Option.some.inj hi
      obtain rfl : ((3433103 : Int), (118 : Int)) = q := Option.some.inj hq
      have hw := h209 he
      refine g_aldn2 hE1 dX8_order_134 ?_
      refine gx_ldcS hE (i := 6) (bs9 := [112, 97, 103, 101]) rfl dX8_order_135 (fun b194 v195 h196 ht199 h197 h198 ht200 h201 h202 => ?_) hok
      have hw := hw b194 v195 h196 ht199 h197 h198 ht200 h201 h202
      intro hok
      refine gx_callV hE hRm (As := [aR (some b194)]) ht9 (by decide) (by decide) rfl hx_J8_equals (tx_J8_equals X hw) (lw_V q1750 q1751 q1752 q106 q1753) ⟨by decide, by decide⟩ ⟨(by decide), (by decide)⟩ rfl (Nat.le_of_ble_eq_true rfl) dX8_order_137 rfl (fun r9 Tz Iz Rz Lz hΦ => ?_) hok
      obtain ⟨r203, rfl, rfl, rfl, rfl, rfl, hw⟩ := hΦ
      show GX E X T3 I11 R5 L 30 4500 140 [some (aR (some o)), some (aI (I o 1)), some (aR (some b7)), some (aI (-1))] [aI r203]
      intro hok
      obtain ⟨h205, h206, hT207, hN208⟩ := hw
      refine g_if_eq hE1 (tgt := 203) dX8_order_140 (by decide) h205 (fun q => ?_) (fun q => ?_)
      · have hw := hT207 q
        exact hj_203 _ hw hok
      · have hw := hN208 q
        refine g_iconst hE1 dX8_order_143 ?_
        refine g_istn3 hE1 dX8_order_144 (by decide) rfl ?_
        refine g_goto hE1 (tgt := 203) dX8_order_145 (by decide) ?_
        exact hj_203 _ hw hok
    rcases i with _ | i
    · obtain rfl : 162 = t := Option.some.inj hi
      obtain rfl : ((3496342 : Int), (146 : Int)) = q := Option.some.inj hq
      have hw := h225 he
      refine g_aldn2 hE1 dX8_order_162 ?_
      refine gx_ldcS hE (i := 8) (bs9 := [114, 101, 97, 100]) rfl dX8_order_163 (fun b210 v211 h212 ht215 h213 h214 ht216 h217 h218 => ?_) hok
      have hw := hw b210 v211 h212 ht215 h213 h214 ht216 h217 h218
      intro hok
      refine gx_callV hE hRm (As := [aR (some b210)]) ht9 (by decide) (by decide) rfl hx_J8_equals (tx_J8_equals X hw) (lw_V q1750 q1751 q1752 q106 q1753) ⟨by decide, by decide⟩ ⟨(by decide), (by decide)⟩ rfl (Nat.le_of_ble_eq_true rfl) dX8_order_165 rfl (fun r9 Tz Iz Rz Lz hΦ => ?_) hok
      obtain ⟨r219, rfl, rfl, rfl, rfl, rfl, hw⟩ := hΦ
      show GX E X T3 I11 R5 L 30 4500 168 [some (aR (some o)), some (aI (I o 1)), some (aR (some b7)), some (aI (-1))] [aI r219]
      intro hok
      obtain ⟨h221, h222, hT223, hN224⟩ := hw
      refine g_if_eq hE1 (tgt := 203) dX8_order_168 (by decide) h221 (fun q => ?_) (fun q => ?_)
      · have hw := hT223 q
        exact hj_203 _ hw hok
      · have hw := hN224 q
        refine g_iconst hE1 dX8_order_171 ?_
        refine g_istn3 hE1 dX8_order_172 (by decide) rfl ?_
        refine g_goto hE1 (tgt := 203) dX8_order_173 (by decide) ?_
        exact hj_203 _ hw hok
    rcases i with _ | i
    · obtain rfl : 191 = t := Option.some.inj hi
      obtain rfl : ((93819183 : Int), (175 : Int)) = q := Option.some.inj hq
      have hw := h241 he
      refine g_aldn2 hE1 dX8_order_191 ?_
      refine gx_ldcS hE (i := 10) (bs9 := [98, 108, 97, 109, 101]) rfl dX8_order_192 (fun b226 v227 h228 ht231 h229 h230 ht232 h233 h234 => ?_) hok
      have hw := hw b226 v227 h228 ht231 h229 h230 ht232 h233 h234
      intro hok
      refine gx_callV hE hRm (As := [aR (some b226)]) ht9 (by decide) (by decide) rfl hx_J8_equals (tx_J8_equals X hw) (lw_V q1750 q1751 q1752 q106 q1753) ⟨by decide, by decide⟩ ⟨(by decide), (by decide)⟩ rfl (Nat.le_of_ble_eq_true rfl) dX8_order_194 rfl (fun r9 Tz Iz Rz Lz hΦ => ?_) hok
      obtain ⟨r235, rfl, rfl, rfl, rfl, rfl, hw⟩ := hΦ
      show GX E X T3 I11 R5 L 30 4500 197 [some (aR (some o)), some (aI (I o 1)), some (aR (some b7)), some (aI (-1))] [aI r235]
      intro hok
      obtain ⟨h237, h238, hT239, hN240⟩ := hw
      refine g_if_eq hE1 (tgt := 203) dX8_order_197 (by decide) h237 (fun q => ?_) (fun q => ?_)
      · have hw := hT239 q
        exact hj_203 _ hw hok
      · have hw := hN240 q
        refine g_bipush hE1 dX8_order_200 (by decide) ?_
        refine g_istn3 hE1 dX8_order_202 (by decide) rfl ?_
        exact hj_203 _ hw hok
    rcases i with _ | i
    · obtain rfl : 148 = t := Option.some.inj hi
      obtain rfl : ((96667762 : Int), (132 : Int)) = q := Option.some.inj hq
      have hw := h257 he
      refine g_aldn2 hE1 dX8_order_148 ?_
      refine gx_ldcS hE (i := 7) (bs9 := [101, 110, 116, 114, 121]) rfl dX8_order_149 (fun b242 v243 h244 ht247 h245 h246 ht248 h249 h250 => ?_) hok
      have hw := hw b242 v243 h244 ht247 h245 h246 ht248 h249 h250
      intro hok
      refine gx_callV hE hRm (As := [aR (some b242)]) ht9 (by decide) (by decide) rfl hx_J8_equals (tx_J8_equals X hw) (lw_V q1750 q1751 q1752 q106 q1753) ⟨by decide, by decide⟩ ⟨(by decide), (by decide)⟩ rfl (Nat.le_of_ble_eq_true rfl) dX8_order_151 rfl (fun r9 Tz Iz Rz Lz hΦ => ?_) hok
      obtain ⟨r251, rfl, rfl, rfl, rfl, rfl, hw⟩ := hΦ
      show GX E X T3 I11 R5 L 30 4500 154 [some (aR (some o)), some (aI (I o 1)), some (aR (some b7)), some (aI (-1))] [aI r251]
      intro hok
      obtain ⟨h253, h254, hT255, hN256⟩ := hw
      refine g_if_eq hE1 (tgt := 203) dX8_order_154 (by decide) h253 (fun q => ?_) (fun q => ?_)
      · have hw := hT255 q
        exact hj_203 _ hw hok
      · have hw := hN256 q
        refine g_iconst hE1 dX8_order_157 ?_
        refine g_istn3 hE1 dX8_order_158 (by decide) rfl ?_
        refine g_goto hE1 (tgt := 203) dX8_order_159 (by decide) ?_
        exact hj_203 _ hw hok
    rcases i with _ | i
    · obtain rfl : 120 = t := Option.some.inj hi
      obtain rfl : ((109641799 : Int), (104 : Int)) = q := Option.some.inj hq
      have hw := h273 he
      refine g_aldn2 hE1 dX8_order_120 ?_
      refine gx_ldcS hE (i := 5) (bs9 := [115, 112, 101, 101, 100]) rfl dX8_order_121 (fun b258 v259 h260 ht263 h261 h262 ht264 h265 h266 => ?_) hok
      have hw := hw b258 v259 h260 ht263 h261 h262 ht264 h265 h266
      intro hok
      refine gx_callV hE hRm (As := [aR (some b258)]) ht9 (by decide) (by decide) rfl hx_J8_equals (tx_J8_equals X hw) (lw_V q1750 q1751 q1752 q106 q1753) ⟨by decide, by decide⟩ ⟨(by decide), (by decide)⟩ rfl (Nat.le_of_ble_eq_true rfl) dX8_order_123 rfl (fun r9 Tz Iz Rz Lz hΦ => ?_) hok
      obtain ⟨r267, rfl, rfl, rfl, rfl, rfl, hw⟩ := hΦ
      show GX E X T3 I11 R5 L 30 4500 126 [some (aR (some o)), some (aI (I o 1)), some (aR (some b7)), some (aI (-1))] [aI r267]
      intro hok
      obtain ⟨h269, h270, hT271, hN272⟩ := hw
      refine g_if_eq hE1 (tgt := 203) dX8_order_126 (by decide) h269 (fun q => ?_) (fun q => ?_)
      · have hw := hT271 q
        exact hj_203 _ hw hok
      · have hw := hN272 q
        refine g_iconst hE1 dX8_order_129 ?_
        refine g_istn3 hE1 dX8_order_130 (by decide) rfl ?_
        refine g_goto hE1 (tgt := 203) dX8_order_131 (by decide) ?_
        exact hj_203 _ hw hok
    exact absurd hi (by simp)

/-- WhalingLogs$Reader.orders()Ljava/util/LinkedList; -/
def wx_X8_orders (X : XT) (o : Nat)  (T : xT) (I : xI) (R : xR) (L : xL) (Q : Option Nat → xT → xI → xR → Prop) (Y : Nat → xT → xI → xR → Prop) : Prop :=
  ∀ q1 : Nat, xtag T q1 = 0 → bsX X ≤ q1 → ∀ T4 : xT, T4 = xnew T q1 4 0 →
  wx_J4_init X q1 T4 I R L (fun (I7 : xI) => 
  xtag T4 o = 16 ∧ wx_X8_order X o T4 I7 R L (fun (r10 : Option Nat) (T11 : xT) (I12 : xI) (R13 : xR) => tle T4 T11 → 
    wx_J4_addLast X q1 r10 T11 I12 R13 L (fun (T16 : xT) (I17 : xI) (R18 : xR) => tle T11 T16 → 
    lq5 (fun (T_16 : xT) (I_16 : xI) (R_16 : xR) (k_16 : Nat) (n_16 : Nat) (K_16 : xT → xI → xR → Nat → Nat → Prop) =>
      wx_X8_takes X o 59 T_16 I_16 R_16 L (fun (r21 : Int) (I22 : xI) => 
      cEq r21 0
        (
        ∃ b24 : Nat, R_16 o 0 = some b24 ∧ xtag T_16 b24 = 8 ∧ wx_J7_length X b24 T_16 I22 R_16 L (fun (r27 : Int) => 
        jn1 (fun (y1_58 : Int) => 
            k_16 + 1 ≤ 2000 ∧ n_16 + 7 ≤ 130000 ∧ wx_X8_needs X o y1_58 T_16 I22 R_16 L (fun (T31 : xT) (I32 : xI) (R33 : xR) => tle T_16 T31 → 
              Q (some q1) T31 I32 R33)
              (fun (e35 : Nat) (T36 : xT) (I37 : xI) (R38 : xR) => tle T_16 T36 → xtag T36 e35 = 17 → 
              Y e35 T36 I37 R38))
          (fun (J_58 : Int → Prop) =>
          cEq (I22 o 1) r27
            (
            J_58 1)
            (
            J_58 0))))
        (
        k_16 + 70 ≤ 2000 ∧ n_16 + 4745 ≤ 130000 ∧ wx_X8_order X o T_16 I22 R_16 L (fun (r47 : Option Nat) (T48 : xT) (I49 : xI) (R50 : xR) => tle T_16 T48 → 
          k_16 + 70 + 1 ≤ 2000 ∧ n_16 + 4745 + 3 ≤ 130000 ∧ wx_J4_addLast X q1 r47 T48 I49 R50 L (fun (T55 : xT) (I56 : xI) (R57 : xR) => tle T48 T55 → 
          K_16 T55 I56 R57 (k_16 + 70 + 1) (n_16 + 4745 + 3)))
          (fun (e59 : Nat) (T60 : xT) (I61 : xI) (R62 : xR) => tle T_16 T60 → xtag T60 e59 = 17 → 
          Y e59 T60 I61 R62)))) T16 I17 R18 72 4752))
    (fun (e69 : Nat) (T70 : xT) (I71 : xI) (R72 : xR) => tle T4 T70 → xtag T70 e69 = 17 → 
    Y e69 T70 I71 R72))
theorem hx_X8_orders : yX8_orders.cls = RX8 ∧ yX8_orders.cls ≠ "java/lang/invoke/MethodHandle" ∧ yX8_orders.cls ≠ "java/lang/invoke/VarHandle" ∧ (parseMethodDescriptor yX8_orders.desc).map (fun d => d.parameters.length) = some 0 := by decide +kernel
set_option maxHeartbeats 4000000 in
theorem tx_X8_orders (X : XT) {o : Nat}  {T : xT} {I : xI} {R : xR} {L : xL} {Q : Option Nat → xT → xI → xR → Prop} {Y : Nat → xT → xI → xR → Prop} (hw : wx_X8_orders X o T I R L Q Y) : CtY X yX8_orders cX8_orders 2 (some (.object "java/util/LinkedList")) (rmX 10 2000 130000 240) [aR (some o)] T I R L (PXqTIR T I R L Q) (PYTIR T I R L "WhalingLogs$Wrong" 17 Y) := by
  refine CtY.intro (by decide) (Nat.le_of_ble_eq_true rfl) (fun E hE hR hY hN => ?_)
  have hRm := hR.rm
  have hE : OkX E X RX8 cX8_orders 2 (some (.object "java/util/LinkedList")) := hE
  have hE1 := hE.1
  show GX E X T I R L 0 0 0 [some (aR (some o)), none] []
  unfold wx_X8_orders at hw
  intro hok
  refine gx_new hE hRm in_J4 tyJ4 tyJ4_ok (t := 4) rfl (by decide) (by decide) rfl (by decide) q1638 q184 q100 (by decide) (by decide) dX8_orders_0 (fun q1 hq2 hbs3 => ?_) hok
  intro hok
  have hw := hw q1 hq2 hbs3 _ rfl
  have hl5 := tle.new (T := T) (q := q1) (t := 4) (n := 0) hq2
  have hT6 : xtag (xnew T q1 4 0) q1 = 4 := if_pos rfl
  generalize xnew T q1 4 0 = T4 at hw hl5 hok hT6 ⊢
  refine g_dup hE1 dX8_orders_3 rfl ?_
  refine gx_callI hE hRm (As := []) (b := q1) hx_J4_init (lw_meth q187) q1639 q100 q186 rfl (tx_J4_init X hw) ⟨by decide, by decide⟩ ⟨(by decide), (by decide)⟩ rfl (Nat.le_of_ble_eq_true rfl) dX8_orders_4 rfl (fun r9 Tz I7 Rz Lz hΦ => ?_) hok
  obtain ⟨rfl, rfl, rfl, rfl, hw⟩ := hΦ
  show GX E X T4 I7 R L 1 4 7 [some (aR (some o)), none] [aR (some q1)]
  intro hok
  refine g_astn1 hE1 dX8_orders_7 (by decide) rfl ?_
  refine g_aldn1 hE1 dX8_orders_8 ?_
  refine g_aldn0 hE1 dX8_orders_9 ?_
  obtain ⟨ht9, hw⟩ := hw
  refine gy_callV hE hRm (As := []) ht9 (by decide) (by decide) rfl hx_X8_order (tx_X8_order X hw) (lw_V q1640 q1642 qs32 q133 q1643) ⟨by decide, by decide⟩ ⟨(by decide), (by decide)⟩ rfl (Nat.le_of_ble_eq_true rfl) dX8_orders_10 rfl (fun r9 T11 I12 R13 Lz hΦ => ?_) (fun Ec q9 T70 I71 R72 Lz hΦ => ?_) hok
  · obtain ⟨r10, rfl, rfl, hl14, hw⟩ := hΦ
    have hw := hw hl14
    show GX E X T11 I12 R13 L 71 4749 13 [some (aR (some o)), some (aR (some q1))] [aR r10, aR (some q1)]
    intro hok
    have ht15 := hl14.tag hT6 (by decide)
    refine gx_callV hE hRm (As := [aR r10]) ht15 (by decide) (by decide) rfl hx_J4_addLast (tx_J4_addLast X hw) (lw_V q1928 q1044 q1045 q100 q1046) ⟨by decide, by decide⟩ ⟨(by decide), (by decide)⟩ rfl (Nat.le_of_ble_eq_true rfl) dX8_orders_13 rfl (fun r9 T16 I17 R18 Lz hΦ => ?_) hok
    obtain ⟨rfl, rfl, hl19, hw⟩ := hΦ
    have hw := hw hl19
    show GX E X T16 I17 R18 L 72 4752 16 [some (aR (some o)), some (aR (some q1))] []
    intro hok
    refine lq5_walk (fun (T_16 : xT) (I_16 : xI) (R_16 : xR) (k_16 : Nat) (n_16 : Nat) => tle T16 T_16 → k_16 ≤ 2000 → n_16 ≤ 130000 → GX E X T_16 I_16 R_16 L k_16 n_16 16 [some (aR (some o)), some (aR (some q1))] []) (fun K_16 hk_16 T_16 I_16 R_16 k_16 n_16 hw => ?_) _ _ _ _ _ hw tle.rf (by omega) (by omega) hok
    intro hl_16 hkc_16 hnc_16
    intro hok
    refine g_aldn0 hE1 dX8_orders_16 ?_
    refine g_bipush hE1 dX8_orders_17 (by decide) ?_
    have ht20 := ((hl14.tr hl19).tr hl_16).tag ht9 (by decide)
    refine gx_callV hE hRm (As := [aI 59]) ht20 (by decide) (by decide) rfl hx_X8_takes (tx_X8_takes X hw) (lw_V q1773 q1775 qs37 q133 q1776) ⟨by decide, by decide⟩ ⟨(show k_16 + 0 ≤ 2000 by omega), (show n_16 + 0 ≤ 130000 by omega)⟩ rfl (Nat.le_of_ble_eq_true rfl) dX8_orders_19 rfl (fun r9 Tz I22 Rz Lz hΦ => ?_) hok
    obtain ⟨r21, rfl, rfl, rfl, rfl, hw⟩ := hΦ
    show GX E X T_16 I22 R_16 L k_16 n_16 22 [some (aR (some o)), some (aR (some q1))] [aI r21]
    intro hok
    obtain ⟨h65, h66, hT67, hN68⟩ := hw
    refine g_if_eq hE1 (tgt := 36) dX8_orders_22 (by decide) h65 (fun q => ?_) (fun q => ?_)
    · have hw := hT67 q
      refine g_aldn0 hE1 dX8_orders_36 ?_
      refine g_aldn0 hE1 dX8_orders_37 ?_
      refine gx_geti hE in_X8 (t := 16) rfl (by decide) 1 1 rfl (by decide) rfl (by decide) rfl q1625 (Or.inl rfl) ht20 dX8_orders_38 ?_ hok
      intro hok
      refine g_aldn0 hE1 dX8_orders_41 ?_
      refine gx_getr hE in_X8 (t := 16) rfl (by decide) 0 0 rfl (by decide) rfl (by decide) rfl q1624 (Or.inl rfl) ht20 dX8_orders_42 ?_ hok
      intro hok
      obtain ⟨b24, hb25, hw⟩ := hw
      rw [hb25]
      obtain ⟨ht26, hw⟩ := hw
      refine gx_callF hE hRm (na := 0) (As := []) ht26 (by decide) (by decide) rfl (x := ⟨"java/lang/CharSequence", "length", "()I"⟩) (by unfold fwL; simp; decide) (by decide +kernel) (tx_J7_length X hw) (lw_F q1655 q1663 q850 q105 q851) ⟨by decide, by decide⟩ ⟨(show k_16 + 0 ≤ 2000 by omega), (show n_16 + 0 ≤ 130000 by omega)⟩ rfl (Nat.le_of_ble_eq_true rfl) dX8_orders_45 rfl (fun r9 Tz Iz Rz Lz hΦ => ?_) hok
      obtain ⟨r27, rfl, rfl, rfl, rfl, rfl, hw⟩ := hΦ
      show GX E X T_16 I22 R_16 L k_16 n_16 50 [some (aR (some o)), some (aR (some q1))] [aI r27, aI (I22 o 1), aR (some o)]
      intro hok
      refine jn1_walk (fun (y1_58 : Int) => GX E X T_16 I22 R_16 L k_16 n_16 58 [some (aR (some o)), some (aR (some q1))] [aI y1_58, aR (some o)]) hw (fun y1_58 hw => ?_) (fun J_58 hj_58 hw => ?_)
      · intro hok
        obtain ⟨hc29, hw⟩ := hw
        obtain ⟨hc30, hw⟩ := hw
        refine gy_callV hE hRm (As := [aI y1_58]) ht20 (by decide) (by decide) rfl hx_X8_needs (tx_X8_needs X hw) (lw_V q1777 q1779 qs38 q133 q1780) ⟨by decide, by decide⟩ ⟨hc29, hc30⟩ rfl (Nat.le_of_ble_eq_true rfl) dX8_orders_58 rfl (fun r9 T31 I32 R33 Lz hΦ => ?_) (fun Ec q9 T36 I37 R38 Lz hΦ => ?_) hok
        · obtain ⟨rfl, rfl, hl34, hw⟩ := hΦ
          have hw := hw hl34
          show GX E X T31 I32 R33 L (k_16 + 1) (n_16 + 7) 61 [some (aR (some o)), some (aR (some q1))] []
          intro hok
          refine g_aldn1 hE1 dX8_orders_61 ?_
          exact gx_aret hE hR dX8_orders_62 (show k_16 + 1 ≤ 2000 by omega) (show n_16 + 7 ≤ 130000 by omega) (Or.inl ⟨_, rfl⟩) ⟨_, rfl, rfl, ((((hl5.tr hl14).tr hl19).tr hl_16).tr hl34), hw⟩ hok
        · have hq9 : ∃ q8, q8 = q9 := ⟨_, rfl⟩
          obtain ⟨e35, rfl⟩ := hq9
          obtain ⟨rfl, rfl, hl39, ht40, hw⟩ := hΦ
          have hw := hw hl39 ht40
          exact gx_out hE hY (show k_16 + 1 ≤ 2000 by omega) (show n_16 + 7 ≤ 130000 by omega) ⟨rfl, rfl, ((((hl5.tr hl14).tr hl19).tr hl_16).tr hl39), ht40, hw⟩
      · skip
        obtain ⟨h41, h42, hT43, hN44⟩ := hw
        refine g_icmp_ne hE1 (tgt := 57) dX8_orders_50 (by decide) h41 h42 (fun q => ?_) (fun q => ?_)
        · have hw := hT43 q
          refine g_iconst hE1 dX8_orders_53 ?_
          refine g_goto hE1 (tgt := 58) dX8_orders_54 (by decide) ?_
          exact hj_58 _ hw hok
        · have hw := hN44 q
          refine g_iconst hE1 dX8_orders_57 ?_
          exact hj_58 _ hw hok
    · have hw := hN68 q
      refine g_aldn1 hE1 dX8_orders_25 ?_
      refine g_aldn0 hE1 dX8_orders_26 ?_
      obtain ⟨hc45, hw⟩ := hw
      obtain ⟨hc46, hw⟩ := hw
      refine gy_callV hE hRm (As := []) ht20 (by decide) (by decide) rfl hx_X8_order (tx_X8_order X hw) (lw_V q1640 q1642 qs32 q133 q1643) ⟨by decide, by decide⟩ ⟨hc45, hc46⟩ rfl (Nat.le_of_ble_eq_true rfl) dX8_orders_27 rfl (fun r9 T48 I49 R50 Lz hΦ => ?_) (fun Ec q9 T60 I61 R62 Lz hΦ => ?_) hok
      · obtain ⟨r47, rfl, rfl, hl51, hw⟩ := hΦ
        have hw := hw hl51
        show GX E X T48 I49 R50 L (k_16 + 70) (n_16 + 4745) 30 [some (aR (some o)), some (aR (some q1))] [aR r47, aR (some q1)]
        intro hok
        have ht52 := (((hl14.tr hl19).tr hl_16).tr hl51).tag hT6 (by decide)
        obtain ⟨hc53, hw⟩ := hw
        obtain ⟨hc54, hw⟩ := hw
        refine gx_callV hE hRm (As := [aR r47]) ht52 (by decide) (by decide) rfl hx_J4_addLast (tx_J4_addLast X hw) (lw_V q1928 q1044 q1045 q100 q1046) ⟨by decide, by decide⟩ ⟨hc53, hc54⟩ rfl (Nat.le_of_ble_eq_true rfl) dX8_orders_30 rfl (fun r9 T55 I56 R57 Lz hΦ => ?_) hok
        obtain ⟨rfl, rfl, hl58, hw⟩ := hΦ
        have hw := hw hl58
        show GX E X T55 I56 R57 L (k_16 + 70 + 1) (n_16 + 4745 + 3) 33 [some (aR (some o)), some (aR (some q1))] []
        intro hok
        refine g_goto hE1 (tgt := 16) dX8_orders_33 (by decide) ?_
        exact hk_16 _ _ _ _ _ hw ((hl_16.tr hl51).tr hl58) (by omega) (by omega) hok
      · have hq9 : ∃ q8, q8 = q9 := ⟨_, rfl⟩
        obtain ⟨e59, rfl⟩ := hq9
        obtain ⟨rfl, rfl, hl63, ht64, hw⟩ := hΦ
        have hw := hw hl63 ht64
        exact gx_out hE hY (show k_16 + 70 ≤ 2000 by omega) (show n_16 + 4745 ≤ 130000 by omega) ⟨rfl, rfl, ((((hl5.tr hl14).tr hl19).tr hl_16).tr hl63), ht64, hw⟩
  · have hq9 : ∃ q8, q8 = q9 := ⟨_, rfl⟩
    obtain ⟨e69, rfl⟩ := hq9
    obtain ⟨rfl, rfl, hl73, ht74, hw⟩ := hΦ
    have hw := hw hl73 ht74
    exact gx_out hE hY (by decide) (by decide) ⟨rfl, rfl, (hl5.tr hl73), ht74, hw⟩

/-- java/util/Arrays.rangeCheck(III)V -/
def wx_J11_rangeCheck (X : XT) (x0 : Int) (x1 : Int) (x2 : Int) (T : xT) (I : xI) (R : xR) (L : xL) (Q : Prop) : Prop :=
  cLt x2 x1
    (
    False)
    (
    cLt x1 0
      (
      False)
      (
      cLt x0 x2
        (
        False)
        (
        Q)))
theorem hx_J11_rangeCheck : yJ11_rangeCheck.cls ≠ "java/lang/invoke/MethodHandle" ∧ yJ11_rangeCheck.cls ≠ "java/lang/invoke/VarHandle" ∧ (parseMethodDescriptor yJ11_rangeCheck.desc).map (fun d => d.parameters.length) = some 3 := by decide +kernel
set_option maxHeartbeats 4000000 in
theorem tx_J11_rangeCheck (X : XT) {x0 : Int} {x1 : Int} {x2 : Int} {T : xT} {I : xI} {R : xR} {L : xL} {Q : Prop} (hw : wx_J11_rangeCheck X x0 x1 x2 T I R L Q) : CtX X yJ11_rangeCheck cJ11_rangeCheck 3 none (rmX 0 0 0 0) [aI x0, aI x1, aI x2] T I R L (PXv T I R L Q) := by
  refine CtX.intro (by decide) (Nat.le_of_ble_eq_true rfl) (fun E hE hR hN => ?_)
  have hRm := hR.rm
  have hE : OkX E X RJ11 cJ11_rangeCheck 3 none := hE
  have hE1 := hE.1
  show GX E X T I R L 0 0 0 [some (aI x0), some (aI x1), some (aI x2)] []
  unfold wx_J11_rangeCheck at hw
  intro hok
  refine g_ildn1 hE1 dJ11_rangeCheck_0 ?_
  refine g_ildn2 hE1 dJ11_rangeCheck_1 ?_
  obtain ⟨h9, h10, hT11, hN12⟩ := hw
  refine g_icmp_le hE1 (tgt := 46) dJ11_rangeCheck_2 (by decide) h10 h9 (fun q => ?_) (fun q => ?_)
  · have hw := hT11 q
    exact hw.elim
  · have hw := hN12 q
    refine g_ildn1 hE1 dJ11_rangeCheck_46 ?_
    obtain ⟨h5, h6, hT7, hN8⟩ := hw
    refine g_if_ge hE1 (tgt := 59) dJ11_rangeCheck_47 (by decide) h5 (fun q => ?_) (fun q => ?_)
    · have hw := hT7 q
      exact hw.elim
    · have hw := hN8 q
      refine g_ildn2 hE1 dJ11_rangeCheck_59 ?_
      refine g_ildn0 hE1 dJ11_rangeCheck_60 ?_
      obtain ⟨h1, h2, hT3, hN4⟩ := hw
      refine g_icmp_le hE1 (tgt := 73) dJ11_rangeCheck_61 (by decide) h2 h1 (fun q => ?_) (fun q => ?_)
      · have hw := hT3 q
        exact hw.elim
      · have hw := hN4 q
        exact gx_vret hE hR dJ11_rangeCheck_73 (by decide) (by decide) ⟨rfl, rfl, rfl, rfl, rfl, hw⟩ hok

/-- java/util/Arrays.fill([BIIB)V -/
def wx_J11_fill (X : XT) (x0 : Option Nat) (x1 : Int) (x2 : Int) (x3 : Int) (T : xT) (I : xI) (R : xR) (L : xL) (Q : xI → Prop) : Prop :=
  ∃ b1 : Nat, x0 = some b1 ∧ xtag T b1 = 101 ∧
  wx_J11_rangeCheck X (xlen T b1 : Int) x1 x2 T I R L (
  lq2 (fun (x4_10 : Int) (I_10 : xI) (K_10 : Int → xI → Prop) =>
    cLt x4_10 x2
      (
      ib x4_10 (xlen T b1) ∧ xlen T b1 < 2147483648 ∧ bsX X ≤ b1 ∧ vp_nar .byte (iI x3) = iI x3 ∧ ∀ I9 : xI, I9 = uI I_10 b1 x4_10 x3 →
      K_10 (x4_10 + 1) I9)
      (
      Q I_10)) x1 I)
theorem hx_J11_fill : yJ11_fill.cls ≠ "java/lang/invoke/MethodHandle" ∧ yJ11_fill.cls ≠ "java/lang/invoke/VarHandle" ∧ (parseMethodDescriptor yJ11_fill.desc).map (fun d => d.parameters.length) = some 4 := by decide +kernel
set_option maxHeartbeats 4000000 in
theorem tx_J11_fill (X : XT) {x0 : Option Nat} {x1 : Int} {x2 : Int} {x3 : Int} {T : xT} {I : xI} {R : xR} {L : xL} {Q : xI → Prop} (hw : wx_J11_fill X x0 x1 x2 x3 T I R L Q) : CtX X yJ11_fill cJ11_fill 5 none (rmX 1 0 0 22) [aR x0, aI x1, aI x2, aI x3] T I R L (PXvI T I R L Q) := by
  refine CtX.intro (by decide) (Nat.le_of_ble_eq_true rfl) (fun E hE hR hN => ?_)
  have hRm := hR.rm
  have hE : OkX E X RJ11 cJ11_fill 5 none := hE
  have hE1 := hE.1
  show GX E X T I R L 0 0 0 [some (aR x0), some (aI x1), some (aI x2), some (aI x3), none] []
  unfold wx_J11_fill at hw
  intro hok
  refine g_aldn0 hE1 dJ11_fill_0 ?_
  obtain ⟨b1, hb2, hw⟩ := hw
  rw [hb2]
  obtain ⟨ht3, hw⟩ := hw
  refine gx_alenB hE ht3 dJ11_fill_1 ?_ hok
  intro hok
  refine g_ildn1 hE1 dJ11_fill_2 ?_
  refine g_ildn2 hE1 dJ11_fill_3 ?_
  refine gx_callS hE hRm (As := [aI (xlen T b1 : Int), aI x1, aI x2]) hx_J11_rangeCheck (tx_J11_rangeCheck X hw) (lw_S q2004 q2005 q110 q2006) ⟨by decide, by decide⟩ ⟨(by decide), (by decide)⟩ rfl (Nat.le_of_ble_eq_true rfl) dJ11_fill_4 rfl (fun r9 Tz Iz Rz Lz hΦ => ?_) hok
  obtain ⟨rfl, rfl, rfl, rfl, rfl, hw⟩ := hΦ
  show GX E X T I R L 0 0 7 [some (aR (some b1)), some (aI x1), some (aI x2), some (aI x3), none] []
  intro hok
  refine g_ildn1 hE1 dJ11_fill_7 ?_
  refine g_ist4 hE1 dJ11_fill_8 (by decide) rfl ?_
  refine lq2_walk (fun (x4_10 : Int) (I_10 : xI) => GX E X T I_10 R L 0 0 10 [some (aR (some b1)), some (aI x1), some (aI x2), some (aI x3), some (aI x4_10)] []) (fun K_10 hk_10 x4_10 I_10 hw => ?_) _ _ hw hok
  intro hok
  refine g_ild4 hE1 dJ11_fill_10 ?_
  refine g_ildn2 hE1 dJ11_fill_12 ?_
  obtain ⟨h10, h11, hT12, hN13⟩ := hw
  refine g_icmp_ge hE1 (tgt := 27) dJ11_fill_13 (by decide) h10 h11 (fun q => ?_) (fun q => ?_)
  · have hw := hT12 q
    refine g_aldn0 hE1 dJ11_fill_16 ?_
    refine g_ild4 hE1 dJ11_fill_17 ?_
    refine g_ildn3 hE1 dJ11_fill_19 ?_
    obtain ⟨h5, h6, hw⟩ := hw
    obtain ⟨h7, h8, hw⟩ := hw
    refine gx_bast hE ht3 h7 h5 h6 h8 dJ11_fill_20 ?_ hok
    intro hok
    have hw := hw _ rfl
    generalize uI I_10 b1 x4_10 x3 = I9 at hw hok ⊢
    refine g_iinc4 hE1 dJ11_fill_21 (by decide) rfl ?_
    refine g_goto hE1 (tgt := 10) dJ11_fill_24 (by decide) ?_
    exact hk_10 _ _ hw hok
  · have hw := hN13 q
    exact gx_vret hE hR dJ11_fill_27 (by decide) (by decide) ⟨rfl, rfl, rfl, rfl, hw⟩ hok

/-- java/lang/StringLatin1.fillNull([BII)V -/
def wx_J23_fillNull (X : XT) (x0 : Option Nat) (x1 : Int) (x2 : Int) (T : xT) (I : xI) (R : xR) (L : xL) (Q : xI → Prop) : Prop :=
  wx_J11_fill X x0 x1 x2 0 T I R L (fun (I1 : xI) => 
  Q I1)
theorem hx_J23_fillNull : yJ23_fillNull.cls ≠ "java/lang/invoke/MethodHandle" ∧ yJ23_fillNull.cls ≠ "java/lang/invoke/VarHandle" ∧ (parseMethodDescriptor yJ23_fillNull.desc).map (fun d => d.parameters.length) = some 3 := by decide +kernel
set_option maxHeartbeats 4000000 in
theorem tx_J23_fillNull (X : XT) {x0 : Option Nat} {x1 : Int} {x2 : Int} {T : xT} {I : xI} {R : xR} {L : xL} {Q : xI → Prop} (hw : wx_J23_fillNull X x0 x1 x2 T I R L Q) : CtX X yJ23_fillNull cJ23_fillNull 3 none (rmX 2 0 0 46) [aR x0, aI x1, aI x2] T I R L (PXvI T I R L Q) := by
  refine CtX.intro (by decide) (Nat.le_of_ble_eq_true rfl) (fun E hE hR hN => ?_)
  have hRm := hR.rm
  have hE : OkX E X RJ23 cJ23_fillNull 3 none := hE
  have hE1 := hE.1
  show GX E X T I R L 0 0 0 [some (aR x0), some (aI x1), some (aI x2)] []
  unfold wx_J23_fillNull at hw
  intro hok
  refine g_aldn0 hE1 dJ23_fillNull_0 ?_
  refine g_ildn1 hE1 dJ23_fillNull_1 ?_
  refine g_ildn2 hE1 dJ23_fillNull_2 ?_
  refine g_iconst hE1 dJ23_fillNull_3 ?_
  refine gx_callS hE hRm (As := [aR x0, aI x1, aI x2, aI 0]) hx_J11_fill (tx_J11_fill X hw) (lw_S q2001 q2002 q110 q2003) ⟨by decide, by decide⟩ ⟨(by decide), (by decide)⟩ rfl (Nat.le_of_ble_eq_true rfl) dJ23_fillNull_4 rfl (fun r9 Tz I1 Rz Lz hΦ => ?_) hok
  obtain ⟨rfl, rfl, rfl, rfl, hw⟩ := hΦ
  show GX E X T I1 R L 0 0 7 [some (aR x0), some (aI x1), some (aI x2)] []
  intro hok
  exact gx_vret hE hR dJ23_fillNull_7 (by decide) (by decide) ⟨rfl, rfl, rfl, rfl, hw⟩ hok

/-- java/lang/AbstractStringBuilder.setLength(I)V -/
def wx_J6_setLength_J7 (X : XT) (o : Nat) (x1 : Int) (T : xT) (I : xI) (R : xR) (L : xL) (Q : xT → xI → xR → Prop) : Prop :=
  cLt x1 0
    (
    False)
    (
    xtag T o = 8 ∧ wx_J6_ensureCapacityInternal_J7 X o x1 T I R L (fun (T2 : xT) (I3 : xI) (R4 : xR) => tle T T2 → 
    jn1 (fun (I_76 : xI) => 
        ∀ I7 : xI, I7 = uI I_76 o 3 x1 →
        Q T2 I7 R4)
      (fun (J_76 : xI → Prop) =>
      cLt (I3 o 3) x1
        (
        wx_J6_isLatin1_J7 X o T2 I3 R4 L (fun (r8 : Int) => 
        cEq r8 0
          (
          False)
          (
          wx_J23_fillNull X (R4 o 0) (I3 o 3) x1 T2 I3 R4 L (fun (I10 : xI) => 
          J_76 I10))))
        (
        cLt x1 (I3 o 3)
          (
          ∀ I16 : xI, I16 = uI I3 o 2 1 →
          J_76 I16)
          (
          J_76 I3)))))
theorem hx_J6_setLength_J7 : yJ6_setLength.cls = RJ6 ∧ yJ6_setLength.cls ≠ "java/lang/invoke/MethodHandle" ∧ yJ6_setLength.cls ≠ "java/lang/invoke/VarHandle" ∧ (parseMethodDescriptor yJ6_setLength.desc).map (fun d => d.parameters.length) = some 1 := by decide +kernel
set_option maxHeartbeats 4000000 in
theorem tx_J6_setLength_J7 (X : XT) {o : Nat} {x1 : Int} {T : xT} {I : xI} {R : xR} {L : xL} {Q : xT → xI → xR → Prop} (hw : wx_J6_setLength_J7 X o x1 T I R L Q) : CtX X yJ6_setLength cJ6_setLength 2 none (rmX 4 1 150 134) [aR (some o), aI x1] T I R L (PXvTIR T I R L Q) := by
  refine CtX.intro (by decide) (Nat.le_of_ble_eq_true rfl) (fun E hE hR hN => ?_)
  have hRm := hR.rm
  have hE : OkX E X RJ6 cJ6_setLength 2 none := hE
  have hE1 := hE.1
  show GX E X T I R L 0 0 0 [some (aR (some o)), some (aI x1)] []
  unfold wx_J6_setLength_J7 at hw
  intro hok
  refine g_ildn1 hE1 dJ6_setLength_0 ?_
  obtain ⟨h25, h26, hT27, hN28⟩ := hw
  refine g_if_ge hE1 (tgt := 13) dJ6_setLength_1 (by decide) h25 (fun q => ?_) (fun q => ?_)
  · have hw := hT27 q
    exact hw.elim
  · have hw := hN28 q
    refine g_aldn0 hE1 dJ6_setLength_13 ?_
    refine g_ildn1 hE1 dJ6_setLength_14 ?_
    obtain ⟨ht1, hw⟩ := hw
    refine gx_callP hE hRm (As := [aI x1]) ht1 (by decide) (by decide) rfl (x0 := ⟨"java/lang/AbstractStringBuilder", "isLatin1", "()Z"⟩) hx_J6_ensureCapacityInternal_J7.2 (tx_J6_ensureCapacityInternal_J7 X hw) (lw_meth q731) q728 q104 q730 q756 rfl q729 ⟨by decide, by decide⟩ ⟨(by decide), (by decide)⟩ rfl (Nat.le_of_ble_eq_true rfl) dJ6_setLength_15 rfl (fun r9 T2 I3 R4 Lz hΦ => ?_) hok
    obtain ⟨rfl, rfl, hl5, hw⟩ := hΦ
    have hw := hw hl5
    show GX E X T2 I3 R4 L 1 150 18 [some (aR (some o)), some (aI x1)] []
    intro hok
    refine g_aldn0 hE1 dJ6_setLength_18 ?_
    have ht6 := hl5.tag ht1 (by decide)
    refine gx_geti hE in_J7 (t := 8) rfl (by decide) 3 3 rfl (by decide) rfl (by decide) rfl q342 (Or.inl rfl) ht6 dJ6_setLength_19 ?_ hok
    intro hok
    refine g_ildn1 hE1 dJ6_setLength_22 ?_
    refine jn1_walk (fun (I_76 : xI) => GX E X T2 I_76 R4 L 1 150 76 [some (aR (some o)), some (aI x1)] []) hw (fun I_76 hw => ?_) (fun J_76 hj_76 hw => ?_)
    · intro hok
      refine g_aldn0 hE1 dJ6_setLength_76 ?_
      refine g_ildn1 hE1 dJ6_setLength_77 ?_
      refine gx_puti hE in_J7 (t := 8) rfl (by decide) 3 3 rfl (by decide) rfl (by decide) (ty := tyJ7 3) tyJ7 tyJ7_ok nmJ7 rfl q342 (Or.inl rfl) rfl (tyJ7_ok 3 (by decide)) rfl rfl ht6 dJ6_setLength_78 ?_ hok
      intro hok
      have hw := hw _ rfl
      generalize uI I_76 o 3 x1 = I7 at hw hok ⊢
      exact gx_vret hE hR dJ6_setLength_81 (by decide) (by decide) ⟨rfl, rfl, hl5, hw⟩ hok
    · skip
      obtain ⟨h21, h22, hT23, hN24⟩ := hw
      refine g_icmp_ge hE1 (tgt := 63) dJ6_setLength_23 (by decide) h21 h22 (fun q => ?_) (fun q => ?_)
      · have hw := hT23 q
        refine g_aldn0 hE1 dJ6_setLength_26 ?_
        refine gx_callU hE hRm (na := 0) (As := []) ht6 (by decide) (by decide) rfl (owner := "java/lang/AbstractStringBuilder") (x := ⟨"java/lang/AbstractStringBuilder", "isLatin1", "()Z"⟩) (by decide +kernel) (tx_J6_isLatin1_J7 X hw) (lw_U q753 q755 q756 q754 q104 q757) rfl ⟨by decide, by decide⟩ ⟨(by decide), (by decide)⟩ rfl (Nat.le_of_ble_eq_true rfl) dJ6_setLength_27 rfl (fun r9 Tz Iz Rz Lz hΦ => ?_) hok
        obtain ⟨r8, rfl, rfl, rfl, rfl, rfl, hw⟩ := hΦ
        show GX E X T2 I3 R4 L 1 150 30 [some (aR (some o)), some (aI x1)] [aI r8]
        intro hok
        obtain ⟨h12, h13, hT14, hN15⟩ := hw
        refine g_if_eq hE1 (tgt := 48) dJ6_setLength_30 (by decide) h12 (fun q => ?_) (fun q => ?_)
        · have hw := hT14 q
          refine g_aldn0 hE1 dJ6_setLength_48 ?_
          refine gx_getr hE in_J7 (t := 8) rfl (by decide) 0 0 rfl (by decide) rfl (by decide) rfl q338 (Or.inl rfl) ht6 dJ6_setLength_49 ?_ hok
          intro hok
          refine g_aldn0 hE1 dJ6_setLength_52 ?_
          refine gx_geti hE in_J7 (t := 8) rfl (by decide) 3 3 rfl (by decide) rfl (by decide) rfl q342 (Or.inl rfl) ht6 dJ6_setLength_53 ?_ hok
          intro hok
          refine g_ildn1 hE1 dJ6_setLength_56 ?_
          exact hw.elim
        · have hw := hN15 q
          refine g_aldn0 hE1 dJ6_setLength_33 ?_
          refine gx_getr hE in_J7 (t := 8) rfl (by decide) 0 0 rfl (by decide) rfl (by decide) rfl q338 (Or.inl rfl) ht6 dJ6_setLength_34 ?_ hok
          intro hok
          refine g_aldn0 hE1 dJ6_setLength_37 ?_
          refine gx_geti hE in_J7 (t := 8) rfl (by decide) 3 3 rfl (by decide) rfl (by decide) rfl q342 (Or.inl rfl) ht6 dJ6_setLength_38 ?_ hok
          intro hok
          refine g_ildn1 hE1 dJ6_setLength_41 ?_
          refine gx_callS hE hRm (As := [aR (R4 o 0), aI (I3 o 3), aI x1]) hx_J23_fillNull (tx_J23_fillNull X hw) (lw_S q1998 q1999 q124 q2000) ⟨by decide, by decide⟩ ⟨(by decide), (by decide)⟩ rfl (Nat.le_of_ble_eq_true rfl) dJ6_setLength_42 rfl (fun r9 Tz I10 Rz Lz hΦ => ?_) hok
          obtain ⟨rfl, rfl, rfl, rfl, hw⟩ := hΦ
          show GX E X T2 I10 R4 L 1 150 45 [some (aR (some o)), some (aI x1)] []
          intro hok
          refine g_goto hE1 (tgt := 76) dJ6_setLength_45 (by decide) ?_
          exact hj_76 _ hw hok
      · have hw := hN24 q
        refine g_aldn0 hE1 dJ6_setLength_63 ?_
        refine gx_geti hE in_J7 (t := 8) rfl (by decide) 3 3 rfl (by decide) rfl (by decide) rfl q342 (Or.inl rfl) ht6 dJ6_setLength_64 ?_ hok
        intro hok
        refine g_ildn1 hE1 dJ6_setLength_67 ?_
        obtain ⟨h17, h18, hT19, hN20⟩ := hw
        refine g_icmp_le hE1 (tgt := 76) dJ6_setLength_68 (by decide) h18 h17 (fun q => ?_) (fun q => ?_)
        · have hw := hT19 q
          refine g_aldn0 hE1 dJ6_setLength_71 ?_
          refine g_iconst hE1 dJ6_setLength_72 ?_
          refine gx_puti hE in_J7 (t := 8) rfl (by decide) 2 2 rfl (by decide) rfl (by decide) (ty := tyJ7 2) tyJ7 tyJ7_ok nmJ7 rfl q340 (Or.inl rfl) rfl (tyJ7_ok 2 (by decide)) (narrow_bl (by decide)) (fits_bl (by decide)) ht6 dJ6_setLength_73 ?_ hok
          intro hok
          have hw := hw _ rfl
          generalize uI I3 o 2 1 = I16 at hw hok ⊢
          exact hj_76 _ hw hok
        · have hw := hN20 q
          exact hj_76 _ hw hok

/-- java/lang/StringBuilder.setLength(I)V -/
def wx_J7_setLength (X : XT) (o : Nat) (x1 : Int) (T : xT) (I : xI) (R : xR) (L : xL) (Q : xT → xI → xR → Prop) : Prop :=
  xtag T o = 8 ∧ wx_J6_setLength_J7 X o x1 T I R L (fun (T2 : xT) (I3 : xI) (R4 : xR) => tle T T2 → 
  Q T2 I3 R4)
theorem hx_J7_setLength : yJ7_setLength.cls = RJ7 ∧ yJ7_setLength.cls ≠ "java/lang/invoke/MethodHandle" ∧ yJ7_setLength.cls ≠ "java/lang/invoke/VarHandle" ∧ (parseMethodDescriptor yJ7_setLength.desc).map (fun d => d.parameters.length) = some 1 := by decide +kernel
set_option maxHeartbeats 4000000 in
theorem tx_J7_setLength (X : XT) {o : Nat} {x1 : Int} {T : xT} {I : xI} {R : xR} {L : xL} {Q : xT → xI → xR → Prop} (hw : wx_J7_setLength X o x1 T I R L Q) : CtX X yJ7_setLength cJ7_setLength 2 none (rmX 5 1 150 155) [aR (some o), aI x1] T I R L (PXvTIR T I R L Q) := by
  refine CtX.intro (by decide) (Nat.le_of_ble_eq_true rfl) (fun E hE hR hN => ?_)
  have hRm := hR.rm
  have hE : OkX E X RJ7 cJ7_setLength 2 none := hE
  have hE1 := hE.1
  show GX E X T I R L 0 0 0 [some (aR (some o)), some (aI x1)] []
  unfold wx_J7_setLength at hw
  intro hok
  refine g_aldn0 hE1 dJ7_setLength_0 ?_
  refine g_ildn1 hE1 dJ7_setLength_1 ?_
  obtain ⟨ht1, hw⟩ := hw
  refine gx_callSU hE hRm (na := 1) (As := [aI x1]) ht1 (by decide) (by decide) rfl (by decide +kernel) (tx_J6_setLength_J7 X hw) (lw_SU q1995 q2599 q351 q1996 q104 q1997) ⟨by decide, by decide⟩ ⟨(by decide), (by decide)⟩ rfl (Nat.le_of_ble_eq_true rfl) dJ7_setLength_2 rfl (fun r9 T2 I3 R4 Lz hΦ => ?_) hok
  obtain ⟨rfl, rfl, hl5, hw⟩ := hΦ
  have hw := hw hl5
  show GX E X T2 I3 R4 L 1 150 5 [some (aR (some o)), some (aI x1)] []
  intro hok
  exact gx_vret hE hR dJ7_setLength_5 (by decide) (by decide) ⟨rfl, rfl, hl5, hw⟩ hok

/-- WhalingLogs$Order.needs(III)V -/
def wx_X17_needs (X : XT) (x0 : Int) (x1 : Int) (x2 : Int) (T : xT) (I : xI) (R : xR) (L : xL) (Q : xT → xI → xR → Prop) (Y : Nat → xT → xI → xR → Prop) : Prop :=
  wx_X0_isIn X x0 x1 x2 T I R L (fun (r1 : Int) => 
  jn1 (fun (y0_14 : Int) => 
      wx_X0_refuse X y0_14 8 x0 T I R L (fun (T3 : xT) (I4 : xI) (R5 : xR) => tle T T3 → 
        Q T3 I4 R5)
        (fun (e7 : Nat) (T8 : xT) (I9 : xI) (R10 : xR) => tle T T8 → xtag T8 e7 = 14 → 
        Y e7 T8 I9 R10))
    (fun (J_14 : Int → Prop) =>
    cEq r1 0
      (
      J_14 1)
      (
      J_14 0)))
theorem hx_X17_needs : yX17_needs.cls ≠ "java/lang/invoke/MethodHandle" ∧ yX17_needs.cls ≠ "java/lang/invoke/VarHandle" ∧ (parseMethodDescriptor yX17_needs.desc).map (fun d => d.parameters.length) = some 3 := by decide +kernel
set_option maxHeartbeats 4000000 in
theorem tx_X17_needs (X : XT) {x0 : Int} {x1 : Int} {x2 : Int} {T : xT} {I : xI} {R : xR} {L : xL} {Q : xT → xI → xR → Prop} {Y : Nat → xT → xI → xR → Prop} (hw : wx_X17_needs X x0 x1 x2 T I R L Q Y) : CtY X yX17_needs cX17_needs 3 none (rmX 5 1 8 112) [aI x0, aI x1, aI x2] T I R L (PXvTIR T I R L Q) (PYTIR T I R L "WhalingLogs$Refused" 14 Y) := by
  refine CtY.intro (by decide) (Nat.le_of_ble_eq_true rfl) (fun E hE hR hY hN => ?_)
  have hRm := hR.rm
  have hE : OkX E X RX17 cX17_needs 3 none := hE
  have hE1 := hE.1
  show GX E X T I R L 0 0 0 [some (aI x0), some (aI x1), some (aI x2)] []
  unfold wx_X17_needs at hw
  intro hok
  refine g_ildn0 hE1 dX17_needs_0 ?_
  refine g_ildn1 hE1 dX17_needs_1 ?_
  refine g_ildn2 hE1 dX17_needs_2 ?_
  refine gx_callSN hE hRm (As := [aI x0, aI x1, aI x2]) hx_X0_isIn (tx_X0_isIn X hw) (lw_meth q394) q1950 q94 q393 ⟨by decide, by decide⟩ ⟨(by decide), (by decide)⟩ rfl (Nat.le_of_ble_eq_true rfl) dX17_needs_3 rfl (fun r9 Tz Iz Rz Lz hΦ => ?_) hok
  obtain ⟨r1, rfl, rfl, rfl, rfl, rfl, hw⟩ := hΦ
  show GX E X T I R L 0 0 6 [some (aI x0), some (aI x1), some (aI x2)] [aI r1]
  intro hok
  refine jn1_walk (fun (y0_14 : Int) => GX E X T I R L 0 0 14 [some (aI x0), some (aI x1), some (aI x2)] [aI y0_14]) hw (fun y0_14 hw => ?_) (fun J_14 hj_14 hw => ?_)
  · intro hok
    refine g_bipush hE1 dX17_needs_14 (by decide) ?_
    refine g_ildn0 hE1 dX17_needs_16 ?_
    refine gy_callSN hE hRm (As := [aI y0_14, aI 8, aI x0]) hx_X0_refuse (tx_X0_refuse X hw) (lw_meth q1104) q1951 q94 q1103 ⟨by decide, by decide⟩ ⟨(by decide), (by decide)⟩ rfl (Nat.le_of_ble_eq_true rfl) dX17_needs_17 rfl (fun r9 T3 I4 R5 Lz hΦ => ?_) (fun Ec q9 T8 I9 R10 Lz hΦ => ?_) hok
    · obtain ⟨rfl, rfl, hl6, hw⟩ := hΦ
      have hw := hw hl6
      show GX E X T3 I4 R5 L 1 8 20 [some (aI x0), some (aI x1), some (aI x2)] []
      intro hok
      exact gx_vret hE hR dX17_needs_20 (by decide) (by decide) ⟨rfl, rfl, hl6, hw⟩ hok
    · have hq9 : ∃ q8, q8 = q9 := ⟨_, rfl⟩
      obtain ⟨e7, rfl⟩ := hq9
      obtain ⟨rfl, rfl, hl11, ht12, hw⟩ := hΦ
      have hw := hw hl11 ht12
      exact gx_out hE hY (by decide) (by decide) ⟨rfl, rfl, hl11, ht12, hw⟩
  · skip
    obtain ⟨h13, h14, hT15, hN16⟩ := hw
    refine g_if_ne hE1 (tgt := 13) dX17_needs_6 (by decide) h13 (fun q => ?_) (fun q => ?_)
    · have hw := hT15 q
      refine g_iconst hE1 dX17_needs_9 ?_
      refine g_goto hE1 (tgt := 14) dX17_needs_10 (by decide) ?_
      exact hj_14 _ hw hok
    · have hw := hN16 q
      refine g_iconst hE1 dX17_needs_13 ?_
      exact hj_14 _ hw hok

/-- WhalingLogs$CellOrder.does(LWhalingLogs$Archive;)V -/
def wx_X10_does (X : XT) (o : Nat) (x1 : Option Nat) (T : xT) (I : xI) (R : xR) (L : xL) (Q : xT → xI → xR → xL → Prop) (Y : Nat → xT → xI → xR → xL → Prop) : Prop :=
  xtag T o = 18 ∧
  wx_X17_needs X (I o 2) 0 11 T I R L (fun (T2 : xT) (I3 : xI) (R4 : xR) => tle T T2 → 
    ∃ b7 : Nat, R4 o 3 = some b7 ∧ xtag T2 b7 = 1 ∧ wx_X0_becomes X b7 x1 ((16 * (I3 o 2)) + (I3 o 1)) (I3 o 0) T2 I3 R4 L (fun (r10 : Int) (T11 : xT) (I12 : xI) (R13 : xR) (L14 : xL) => tle T2 T11 → 
      Q T11 I12 R13 L14)
      (fun (e16 : Nat) (T17 : xT) (I18 : xI) (R19 : xR) (L20 : xL) => tle T2 T17 → xtag T17 e16 = 14 → 
      Y e16 T17 I18 R19 L20))
    (fun (e23 : Nat) (T24 : xT) (I25 : xI) (R26 : xR) => tle T T24 → xtag T24 e23 = 14 → 
    Y e23 T24 I25 R26 L)
theorem hx_X10_does : yX10_does.cls = RX10 ∧ yX10_does.cls ≠ "java/lang/invoke/MethodHandle" ∧ yX10_does.cls ≠ "java/lang/invoke/VarHandle" ∧ (parseMethodDescriptor yX10_does.desc).map (fun d => d.parameters.length) = some 1 := by decide +kernel
set_option maxHeartbeats 4000000 in
theorem tx_X10_does (X : XT) {o : Nat} {x1 : Option Nat} {T : xT} {I : xI} {R : xR} {L : xL} {Q : xT → xI → xR → xL → Prop} {Y : Nat → xT → xI → xR → xL → Prop} (hw : wx_X10_does X o x1 T I R L Q Y) : CtY X yX10_does cX10_does 3 none (rmX 7 10 80 198) [aR (some o), aR x1] T I R L (PXvTIRL T I R L Q) (PYTIRL T I R L "WhalingLogs$Refused" 14 Y) := by
  refine CtY.intro (by decide) (Nat.le_of_ble_eq_true rfl) (fun E hE hR hY hN => ?_)
  have hRm := hR.rm
  have hE : OkX E X RX10 cX10_does 3 none := hE
  have hE1 := hE.1
  show GX E X T I R L 0 0 0 [some (aR (some o)), some (aR x1), none] []
  unfold wx_X10_does at hw
  intro hok
  refine g_aldn0 hE1 dX10_does_0 ?_
  obtain ⟨ht1, hw⟩ := hw
  refine gx_geti hE in_X10 (t := 18) rfl (by decide) 2 2 rfl (by decide) rfl (by decide) rfl q1816 (Or.inl rfl) ht1 dX10_does_1 ?_ hok
  intro hok
  refine g_iconst hE1 dX10_does_4 ?_
  refine g_bipush hE1 dX10_does_5 (by decide) ?_
  refine gy_callS hE hRm (As := [aI (I o 2), aI 0, aI 11]) hx_X17_needs (tx_X17_needs X hw) (lw_S q1947 q1948 q142 q1949) ⟨by decide, by decide⟩ ⟨(by decide), (by decide)⟩ rfl (Nat.le_of_ble_eq_true rfl) dX10_does_7 rfl (fun r9 T2 I3 R4 Lz hΦ => ?_) (fun Ec q9 T24 I25 R26 Lz hΦ => ?_) hok
  · obtain ⟨rfl, rfl, hl5, hw⟩ := hΦ
    have hw := hw hl5
    show GX E X T2 I3 R4 L 1 8 10 [some (aR (some o)), some (aR x1), none] []
    intro hok
    refine g_aldn0 hE1 dX10_does_10 ?_
    have ht6 := hl5.tag ht1 (by decide)
    refine gx_getr hE in_X10 (t := 18) rfl (by decide) 3 3 rfl (by decide) rfl (by decide) rfl q1817 (Or.inl rfl) ht6 dX10_does_11 ?_ hok
    intro hok
    refine g_aldn1 hE1 dX10_does_14 ?_
    refine g_bipush hE1 dX10_does_15 (by decide) ?_
    refine g_aldn0 hE1 dX10_does_17 ?_
    refine gx_geti hE in_X10 (t := 18) rfl (by decide) 2 2 rfl (by decide) rfl (by decide) rfl q1816 (Or.inl rfl) ht6 dX10_does_18 ?_ hok
    intro hok
    refine g_imul hE1 dX10_does_21 ?_
    refine g_aldn0 hE1 dX10_does_22 ?_
    refine gx_geti hE in_X10 (t := 18) rfl (by decide) 1 1 rfl (by decide) rfl (by decide) rfl q1815 (Or.inl rfl) ht6 dX10_does_23 ?_ hok
    intro hok
    refine g_iadd hE1 dX10_does_26 ?_
    refine g_aldn0 hE1 dX10_does_27 ?_
    refine gx_geti hE in_X10 (t := 18) rfl (by decide) 0 0 rfl (by decide) rfl (by decide) rfl q1814 (Or.inl rfl) ht6 dX10_does_28 ?_ hok
    intro hok
    obtain ⟨b7, hb8, hw⟩ := hw
    rw [hb8]
    obtain ⟨ht9, hw⟩ := hw
    refine gy_callVN hE hRm (As := [aR x1, aI ((16 * (I3 o 2)) + (I3 o 1)), aI (I3 o 0)]) ht9 (by decide) (by decide) rfl hx_X0_becomes.2 (tx_X0_becomes X hw) (lw_meth q1077) q1952 q94 q1076 qs12 ⟨by decide, by decide⟩ ⟨(by decide), (by decide)⟩ rfl (Nat.le_of_ble_eq_true rfl) dX10_does_31 rfl (fun r9 T11 I12 R13 L14 hΦ => ?_) (fun Ec q9 T17 I18 R19 L20 hΦ => ?_) hok
    · obtain ⟨r10, rfl, hl15, hw⟩ := hΦ
      have hw := hw hl15
      show GX E X T11 I12 R13 L14 3 21 34 [some (aR (some o)), some (aR x1), none] [aI r10]
      intro hok
      refine g_istn2 hE1 dX10_does_34 (by decide) rfl ?_
      exact gx_vret hE hR dX10_does_35 (by decide) (by decide) ⟨rfl, (hl5.tr hl15), hw⟩ hok
    · have hq9 : ∃ q8, q8 = q9 := ⟨_, rfl⟩
      obtain ⟨e16, rfl⟩ := hq9
      obtain ⟨rfl, hl21, ht22, hw⟩ := hΦ
      have hw := hw hl21 ht22
      exact gx_out hE hY (by decide) (by decide) ⟨rfl, (hl5.tr hl21), ht22, hw⟩
  · have hq9 : ∃ q8, q8 = q9 := ⟨_, rfl⟩
    obtain ⟨e23, rfl⟩ := hq9
    obtain ⟨rfl, rfl, hl27, ht28, hw⟩ := hΦ
    have hw := hw hl27 ht28
    exact gx_out hE hY (by decide) (by decide) ⟨rfl, hl27, ht28, hw⟩

