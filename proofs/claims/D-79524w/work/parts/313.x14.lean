set_option maxRecDepth 100000
/-- java/util/ArrayDeque.circularClear([Ljava/lang/Object;II)V -/
def wx_J5_circularClear (X : XT) (x0 : Option Nat) (x1 : Int) (x2 : Int) (T : xT) (I : xI) (R : xR) (L : xL) (Q : xR → Prop) : Prop :=
  jn1 (fun (y0_11 : Int) => 
      lq3 (fun (x1_12 : Int) (x3_12 : Int) (R_12 : xR) (K_12 : Int → Int → xR → Prop) =>
        cLt x1_12 x3_12
          (
          ∃ b1 : Nat, x0 = some b1 ∧ xtag T b1 = 103 ∧ ib x1_12 (xlen T b1) ∧ xlen T b1 < 2147483648 ∧ ∀ R6 : xR, R6 = uR R_12 b1 x1_12 none →
          K_12 (x1_12 + 1) x3_12 R6)
          (
          cEq x3_12 x2
            (
            Q R_12)
            (
            K_12 0 x2 R_12))) x1 y0_11 R)
    (fun (J_11 : Int → Prop) =>
    cLt x2 x1
      (
      ∃ b15 : Nat, x0 = some b15 ∧ xtag T b15 = 103 ∧
      J_11 (xlen T b15 : Int))
      (
      J_11 x2))
theorem hx_J5_circularClear : yJ5_circularClear.cls ≠ "java/lang/invoke/MethodHandle" ∧ yJ5_circularClear.cls ≠ "java/lang/invoke/VarHandle" ∧ (parseMethodDescriptor yJ5_circularClear.desc).map (fun d => d.parameters.length) = some 3 := by decide +kernel
set_option maxHeartbeats 4000000 in
theorem tx_J5_circularClear (X : XT) {x0 : Option Nat} {x1 : Int} {x2 : Int} {T : xT} {I : xI} {R : xR} {L : xL} {Q : xR → Prop} (hw : wx_J5_circularClear X x0 x1 x2 T I R L Q) : CtX X yJ5_circularClear cJ5_circularClear 4 none (rmX 0 0 0 0) [aR x0, aI x1, aI x2] T I R L (PXvR T I R L Q) := by
  refine CtX.intro (by decide) (Nat.le_of_ble_eq_true rfl) (fun E hE hR hN => ?_)
  have hRm := hR.rm
  have hE : OkX E X RJ5 cJ5_circularClear 4 none := hE
  have hE1 := hE.1
  show GX E X T I R L 0 0 0 [some (aR x0), some (aI x1), some (aI x2), none] []
  unfold wx_J5_circularClear at hw
  intro hok
  refine g_ildn1 hE1 dJ5_circularClear_0 ?_
  refine g_ildn2 hE1 dJ5_circularClear_1 ?_
  refine jn1_walk (fun (y0_11 : Int) => GX E X T I R L 0 0 11 [some (aR x0), some (aI x1), some (aI x2), none] [aI y0_11]) hw (fun y0_11 hw => ?_) (fun J_11 hj_11 hw => ?_)
  · intro hok
    refine g_istn3 hE1 dJ5_circularClear_11 (by decide) rfl ?_
    refine lq3_walk (fun (x1_12 : Int) (x3_12 : Int) (R_12 : xR) => GX E X T I R_12 L 0 0 12 [some (aR x0), some (aI x1_12), some (aI x2), some (aI x3_12)] []) (fun K_12 hk_12 x1_12 x3_12 R_12 hw => ?_) _ _ _ hw hok
    intro hok
    refine g_ildn1 hE1 dJ5_circularClear_12 ?_
    refine g_ildn3 hE1 dJ5_circularClear_13 ?_
    obtain ⟨h11, h12, hT13, hN14⟩ := hw
    refine g_icmp_ge hE1 (tgt := 27) dJ5_circularClear_14 (by decide) h11 h12 (fun q => ?_) (fun q => ?_)
    · have hw := hT13 q
      refine g_aldn0 hE1 dJ5_circularClear_17 ?_
      refine g_ildn1 hE1 dJ5_circularClear_18 ?_
      refine g_null hE1 dJ5_circularClear_19 ?_
      obtain ⟨b1, hb2, hw⟩ := hw
      rw [hb2]
      obtain ⟨ht3, hw⟩ := hw
      obtain ⟨h4, h5, hw⟩ := hw
      refine gx_aastN hE ht3 (by decide) h4 h5 dJ5_circularClear_20 ?_ hok
      intro hok
      have hw := hw _ rfl
      generalize uR R_12 b1 x1_12 none = R6 at hw hok ⊢
      refine g_iinc1 hE1 dJ5_circularClear_21 (by decide) rfl ?_
      refine g_goto hE1 (tgt := 12) dJ5_circularClear_24 (by decide) ?_
      simpa only [hb2] using hk_12 _ _ _ hw hok
    · have hw := hN14 q
      refine g_ildn3 hE1 dJ5_circularClear_27 ?_
      refine g_ildn2 hE1 dJ5_circularClear_28 ?_
      obtain ⟨h7, h8, hT9, hN10⟩ := hw
      refine g_icmp_ne hE1 (tgt := 35) dJ5_circularClear_29 (by decide) h7 h8 (fun q => ?_) (fun q => ?_)
      · have hw := hT9 q
        refine g_goto hE1 (tgt := 42) dJ5_circularClear_32 (by decide) ?_
        exact gx_vret hE hR dJ5_circularClear_42 (by decide) (by decide) ⟨rfl, rfl, rfl, rfl, hw⟩ hok
      · have hw := hN10 q
        refine g_iconst hE1 dJ5_circularClear_35 ?_
        refine g_istn1 hE1 dJ5_circularClear_36 (by decide) rfl ?_
        refine g_ildn2 hE1 dJ5_circularClear_37 ?_
        refine g_istn3 hE1 dJ5_circularClear_38 (by decide) rfl ?_
        refine g_goto hE1 (tgt := 12) dJ5_circularClear_39 (by decide) ?_
        exact hk_12 _ _ _ hw hok
  · skip
    obtain ⟨h18, h19, hT20, hN21⟩ := hw
    refine g_icmp_gt hE1 (tgt := 9) dJ5_circularClear_2 (by decide) h19 h18 (fun q => ?_) (fun q => ?_)
    · have hw := hT20 q
      refine g_aldn0 hE1 dJ5_circularClear_9 ?_
      obtain ⟨b15, hb16, hw⟩ := hw
      rw [hb16]
      obtain ⟨ht17, hw⟩ := hw
      refine gx_alen hE ht17 (by decide) dJ5_circularClear_10 ?_ hok
      intro hok
      simpa only [hb16] using hj_11 _ hw hok
    · have hw := hN21 q
      refine g_ildn2 hE1 dJ5_circularClear_5 ?_
      refine g_goto hE1 (tgt := 11) dJ5_circularClear_6 (by decide) ?_
      exact hj_11 _ hw hok

/-- java/util/ArrayDeque.clear()V -/
def wx_J5_clear (X : XT) (o : Nat)  (T : xT) (I : xI) (R : xR) (L : xL) (Q : xI → xR → Prop) : Prop :=
  xtag T o = 5 ∧
  wx_J5_circularClear X (R o 0) (I o 1) (I o 2) T I R L (fun (R2 : xR) => 
  ∀ I4 : xI, I4 = uI I o 2 0 →
  ∀ I5 : xI, I5 = uI I4 o 1 0 →
  Q I5 R2)
theorem hx_J5_clear : yJ5_clear.cls = RJ5 ∧ yJ5_clear.cls ≠ "java/lang/invoke/MethodHandle" ∧ yJ5_clear.cls ≠ "java/lang/invoke/VarHandle" ∧ (parseMethodDescriptor yJ5_clear.desc).map (fun d => d.parameters.length) = some 0 := by decide +kernel
set_option maxHeartbeats 4000000 in
theorem tx_J5_clear (X : XT) {o : Nat}  {T : xT} {I : xI} {R : xR} {L : xL} {Q : xI → xR → Prop} (hw : wx_J5_clear X o T I R L Q) : CtX X yJ5_clear cJ5_clear 1 none (rmX 1 0 0 23) [aR (some o)] T I R L (PXvIR T I R L Q) := by
  refine CtX.intro (by decide) (Nat.le_of_ble_eq_true rfl) (fun E hE hR hN => ?_)
  have hRm := hR.rm
  have hE : OkX E X RJ5 cJ5_clear 1 none := hE
  have hE1 := hE.1
  show GX E X T I R L 0 0 0 [some (aR (some o))] []
  unfold wx_J5_clear at hw
  intro hok
  refine g_aldn0 hE1 dJ5_clear_0 ?_
  obtain ⟨ht1, hw⟩ := hw
  refine gx_getr hE in_J5 (t := 5) rfl (by decide) 0 0 rfl (by decide) rfl (by decide) rfl q258 (Or.inl rfl) ht1 dJ5_clear_1 ?_ hok
  intro hok
  refine g_aldn0 hE1 dJ5_clear_4 ?_
  refine gx_geti hE in_J5 (t := 5) rfl (by decide) 1 1 rfl (by decide) rfl (by decide) rfl q259 (Or.inl rfl) ht1 dJ5_clear_5 ?_ hok
  intro hok
  refine g_aldn0 hE1 dJ5_clear_8 ?_
  refine gx_geti hE in_J5 (t := 5) rfl (by decide) 2 2 rfl (by decide) rfl (by decide) rfl q260 (Or.inl rfl) ht1 dJ5_clear_9 ?_ hok
  intro hok
  refine gx_callS hE hRm (As := [aR (R o 0), aI (I o 1), aI (I o 2)]) hx_J5_circularClear (tx_J5_circularClear X hw) (lw_S q2131 q2132 q101 q2133) ⟨by decide, by decide⟩ ⟨(by decide), (by decide)⟩ rfl (Nat.le_of_ble_eq_true rfl) dJ5_clear_12 rfl (fun r9 Tz Iz R2 Lz hΦ => ?_) hok
  obtain ⟨rfl, rfl, rfl, rfl, hw⟩ := hΦ
  show GX E X T I R2 L 0 0 15 [some (aR (some o))] []
  intro hok
  refine g_aldn0 hE1 dJ5_clear_15 ?_
  refine g_aldn0 hE1 dJ5_clear_16 ?_
  refine g_iconst hE1 dJ5_clear_17 ?_
  refine g_dup_x1 hE1 dJ5_clear_18 rfl rfl ?_
  refine gx_puti hE in_J5 (t := 5) rfl (by decide) 2 2 rfl (by decide) rfl (by decide) (ty := tyJ5 2) tyJ5 tyJ5_ok nmJ5 rfl q260 (Or.inl rfl) rfl (tyJ5_ok 2 (by decide)) rfl rfl ht1 dJ5_clear_19 ?_ hok
  intro hok
  have hw := hw _ rfl
  generalize uI I o 2 0 = I4 at hw hok ⊢
  refine gx_puti hE in_J5 (t := 5) rfl (by decide) 1 1 rfl (by decide) rfl (by decide) (ty := tyJ5 1) tyJ5 tyJ5_ok nmJ5 rfl q259 (Or.inl rfl) rfl (tyJ5_ok 1 (by decide)) rfl rfl ht1 dJ5_clear_22 ?_ hok
  intro hok
  have hw := hw _ rfl
  generalize uI I4 o 1 0 = I5 at hw hok ⊢
  exact gx_vret hE hR dJ5_clear_25 (by decide) (by decide) ⟨rfl, rfl, rfl, hw⟩ hok

/-- WhalingLogs.restore()I -/
def wx_X0_restore (X : XT) (o : Nat)  (T : xT) (I : xI) (R : xR) (L : xL) (Q : Int → xT → xI → xR → xL → Prop) : Prop :=
  xtag T o = 1 ∧
  (R o 1 = none →
    Q (-5) T I R L) ∧
  (∀ b2 : Nat, R o 1 = some b2 →
    ∃ b4 : Nat, R o 1 = some b4 ∧ xtag T b4 = 2 ∧ wx_X1_copy X b4 T I R L (fun (r7 : Option Nat) (T8 : xT) (I9 : xI) (R10 : xR) (L11 : xL) => tle T T8 → 
    ∀ R14 : xR, R14 = uR R10 o 0 r7 →
    ∃ b15 : Nat, R14 o 2 = some b15 ∧ xtag T8 b15 = 5 ∧ wx_J5_clear X b15 T8 I9 R14 L11 (fun (I18 : xI) (R19 : xR) => 
    ∃ b21 : Nat, R19 o 0 = some b21 ∧ xtag T8 b21 = 2 ∧
    ∃ b24 : Nat, R19 b21 1 = some b24 ∧ xtag T8 b24 = 4 ∧ wx_J4_size X b24 T8 I18 R19 L11 (fun (r27 : Int) => 
    Q r27 T8 I18 R19 L11))))
theorem hx_X0_restore : yX0_restore.cls = RX0 ∧ yX0_restore.cls ≠ "java/lang/invoke/MethodHandle" ∧ yX0_restore.cls ≠ "java/lang/invoke/VarHandle" ∧ (parseMethodDescriptor yX0_restore.desc).map (fun d => d.parameters.length) = some 0 := by decide +kernel
set_option maxHeartbeats 4000000 in
theorem tx_X0_restore (X : XT) {o : Nat}  {T : xT} {I : xI} {R : xR} {L : xL} {Q : Int → xT → xI → xR → xL → Prop} (hw : wx_X0_restore X o T I R L Q) : CtX X yX0_restore cX0_restore 1 (some .int) (rmX 7 160 1400 147) [aR (some o)] T I R L (PXiTIRL T I R L Q) := by
  refine CtX.intro (by decide) (Nat.le_of_ble_eq_true rfl) (fun E hE hR hN => ?_)
  have hRm := hR.rm
  have hE : OkX E X RX0 cX0_restore 1 (some .int) := hE
  have hE1 := hE.1
  show GX E X T I R L 0 0 0 [some (aR (some o))] []
  unfold wx_X0_restore at hw
  intro hok
  refine g_aldn0 hE1 dX0_restore_0 ?_
  obtain ⟨ht1, hw⟩ := hw
  refine gx_getr hE in_X0 (t := 1) rfl (by decide) 1 1 rfl (by decide) rfl (by decide) rfl q354 (Or.inl rfl) ht1 dX0_restore_1 ?_ hok
  intro hok
  refine g_ifnonnull hE1 (tgt := 10) dX0_restore_4 (by decide) (fun q => ?_) (fun b2 hb3 => ?_)
  · have hw := hw.1 q
    refine g_bipush hE1 dX0_restore_7 (by decide) ?_
    exact gx_iret hE hR dX0_restore_9 (by decide) (by decide) rfl ⟨_, rfl, tle.rf, hw⟩ hok
  · have hw := hw.2 b2 hb3
    refine g_aldn0 hE1 dX0_restore_10 ?_
    refine g_aldn0 hE1 dX0_restore_11 ?_
    refine gx_getr hE in_X0 (t := 1) rfl (by decide) 1 1 rfl (by decide) rfl (by decide) rfl q354 (Or.inl rfl) ht1 dX0_restore_12 ?_ hok
    intro hok
    obtain ⟨b4, hb5, hw⟩ := hw
    rw [hb5]
    obtain ⟨ht6, hw⟩ := hw
    refine gx_callV hE hRm (As := []) ht6 (by decide) (by decide) rfl hx_X1_copy (tx_X1_copy X hw) (lw_V q395 q396 q397 q95 q398) ⟨by decide, by decide⟩ ⟨(by decide), (by decide)⟩ rfl (Nat.le_of_ble_eq_true rfl) dX0_restore_15 rfl (fun r9 T8 I9 R10 L11 hΦ => ?_) hok
    obtain ⟨r7, rfl, hl12, hw⟩ := hΦ
    have hw := hw hl12
    show GX E X T8 I9 R10 L11 160 1400 18 [some (aR (some o))] [aR r7, aR (some o)]
    intro hok
    have ht13 := hl12.tag ht1 (by decide)
    refine gx_putr hE in_X0 (t := 1) rfl (by decide) 0 0 rfl (by decide) rfl (by decide) (ty := tyX0 0) tyX0 tyX0_ok nmX0 rfl q353 (Or.inl rfl) rfl (tyX0_ok 0 (by decide)) nar_o fit_o ht13 dX0_restore_18 ?_ hok
    intro hok
    have hw := hw _ rfl
    generalize uR R10 o 0 r7 = R14 at hw hok ⊢
    refine g_aldn0 hE1 dX0_restore_21 ?_
    refine gx_getr hE in_X0 (t := 1) rfl (by decide) 2 2 rfl (by decide) rfl (by decide) rfl q355 (Or.inl rfl) ht13 dX0_restore_22 ?_ hok
    intro hok
    obtain ⟨b15, hb16, hw⟩ := hw
    rw [hb16]
    obtain ⟨ht17, hw⟩ := hw
    refine gx_callV hE hRm (As := []) ht17 (by decide) (by decide) rfl hx_J5_clear (tx_J5_clear X hw) (lw_V q2127 q2128 q2129 q101 q2130) ⟨by decide, by decide⟩ ⟨(by decide), (by decide)⟩ rfl (Nat.le_of_ble_eq_true rfl) dX0_restore_25 rfl (fun r9 Tz I18 R19 Lz hΦ => ?_) hok
    obtain ⟨rfl, rfl, rfl, hw⟩ := hΦ
    show GX E X T8 I18 R19 L11 160 1400 28 [some (aR (some o))] []
    intro hok
    refine g_aldn0 hE1 dX0_restore_28 ?_
    refine gx_getr hE in_X0 (t := 1) rfl (by decide) 0 0 rfl (by decide) rfl (by decide) rfl q353 (Or.inl rfl) ht13 dX0_restore_29 ?_ hok
    intro hok
    obtain ⟨b21, hb22, hw⟩ := hw
    rw [hb22]
    obtain ⟨ht23, hw⟩ := hw
    refine gx_getrN hE in_X1 (t := 2) rfl (by decide) 1 1 rfl (by decide) rfl (by decide) rfl q225 (Or.inl rfl) ht23 dX0_restore_32 ?_ hok
    intro hok
    obtain ⟨b24, hb25, hw⟩ := hw
    rw [hb25]
    obtain ⟨ht26, hw⟩ := hw
    refine gx_callV hE hRm (As := []) ht26 (by decide) (by decide) rfl hx_J4_size (tx_J4_size X hw) (lw_V q1312 q541 q2594 q100 q542) ⟨by decide, by decide⟩ ⟨(by decide), (by decide)⟩ rfl (Nat.le_of_ble_eq_true rfl) dX0_restore_35 rfl (fun r9 Tz Iz Rz Lz hΦ => ?_) hok
    obtain ⟨r27, rfl, rfl, rfl, rfl, rfl, hw⟩ := hΦ
    show GX E X T8 I18 R19 L11 160 1400 38 [some (aR (some o))] [aI r27]
    intro hok
    exact gx_iret hE hR dX0_restore_38 (by decide) (by decide) rfl ⟨_, rfl, hl12, hw⟩ hok

/-- WhalingLogsModel.<init>()V -/
def wx_X4_init (X : XT) (o : Nat)  (T : xT) (I : xI) (R : xR) (L : xL) (Q : xT → xI → xR → Prop) : Prop :=
  ∀ q1 : Nat, xtag T q1 = 0 → bsX X ≤ q1 → ∀ T4 : xT, T4 = xnew T q1 100 354 →
  xtag T4 o = 26 ∧ ∀ R8 : xR, R8 = uR R o 0 (some q1) →
  ∀ q9 : Nat, xtag T4 q9 = 0 → bsX X ≤ q9 → ∀ T12 : xT, T12 = xnew T4 q9 100 354 →
  ∀ R16 : xR, R16 = uR R8 o 1 (some q9) →
  ∀ q17 : Nat, xtag T12 q17 = 0 → bsX X ≤ q17 → ∀ T20 : xT, T20 = xnew T12 q17 100 354 →
  ∀ R24 : xR, R24 = uR R16 o 2 (some q17) →
  ∀ q25 : Nat, xtag T20 q25 = 0 → bsX X ≤ q25 → ∀ T28 : xT, T28 = xnew T20 q25 100 2832 →
  ∀ R32 : xR, R32 = uR R24 o 3 (some q25) →
  ∀ q33 : Nat, xtag T28 q33 = 0 → bsX X ≤ q33 → ∀ T36 : xT, T36 = xnew T28 q33 100 30 →
  ∀ R40 : xR, R40 = uR R32 o 4 (some q33) →
  ∀ q41 : Nat, xtag T36 q41 = 0 → bsX X ≤ q41 → ∀ T44 : xT, T44 = xnew T36 q41 100 30 →
  ∀ R48 : xR, R48 = uR R40 o 5 (some q41) →
  ∀ q49 : Nat, xtag T44 q49 = 0 → bsX X ≤ q49 → ∀ T52 : xT, T52 = xnew T44 q49 100 900 →
  ∀ R56 : xR, R56 = uR R48 o 6 (some q49) →
  ∀ q57 : Nat, xtag T52 q57 = 0 → bsX X ≤ q57 → ∀ T60 : xT, T60 = xnew T52 q57 100 30 →
  ∀ R64 : xR, R64 = uR R56 o 7 (some q57) →
  ∀ q65 : Nat, xtag T60 q65 = 0 → bsX X ≤ q65 → ∀ T68 : xT, T68 = xnew T60 q65 100 30 →
  ∀ R72 : xR, R72 = uR R64 o 8 (some q65) →
  ∀ q73 : Nat, xtag T68 q73 = 0 → bsX X ≤ q73 → ∀ T76 : xT, T76 = xnew T68 q73 100 30 →
  ∀ R80 : xR, R80 = uR R72 o 9 (some q73) →
  ∀ q81 : Nat, xtag T76 q81 = 0 → bsX X ≤ q81 → ∀ T84 : xT, T84 = xnew T76 q81 100 30 →
  ∀ R88 : xR, R88 = uR R80 o 10 (some q81) →
  ∀ q89 : Nat, xtag T84 q89 = 0 → bsX X ≤ q89 → ∀ T92 : xT, T92 = xnew T84 q89 100 192 →
  ∀ R96 : xR, R96 = uR R88 o 11 (some q89) →
  ∀ q97 : Nat, xtag T92 q97 = 0 → bsX X ≤ q97 → ∀ T100 : xT, T100 = xnew T92 q97 100 192 →
  ∀ R104 : xR, R104 = uR R96 o 12 (some q97) →
  ∀ q105 : Nat, xtag T100 q105 = 0 → bsX X ≤ q105 → ∀ T108 : xT, T108 = xnew T100 q105 100 15 →
  ∀ R112 : xR, R112 = uR R104 o 13 (some q105) →
  ∀ q113 : Nat, xtag T108 q113 = 0 → bsX X ≤ q113 → ∀ T116 : xT, T116 = xnew T108 q113 100 192 →
  ∀ R120 : xR, R120 = uR R112 o 21 (some q113) →
  ∀ q121 : Nat, xtag T116 q121 = 0 → bsX X ≤ q121 → ∀ T124 : xT, T124 = xnew T116 q121 100 192 →
  ∀ R128 : xR, R128 = uR R120 o 22 (some q121) →
  ∀ q129 : Nat, xtag T124 q129 = 0 → bsX X ≤ q129 → ∀ T132 : xT, T132 = xnew T124 q129 100 70 →
  ∀ R136 : xR, R136 = uR R128 o 23 (some q129) →
  ∀ q137 : Nat, xtag T132 q137 = 0 → bsX X ≤ q137 → ∀ T140 : xT, T140 = xnew T132 q137 100 5 →
  ∀ R144 : xR, R144 = uR R136 o 24 (some q137) →
  ∀ q145 : Nat, xtag T140 q145 = 0 → bsX X ≤ q145 → ∀ T148 : xT, T148 = xnew T140 q145 100 48 →
  ib 0 (xlen T148 q145) ∧ xlen T148 q145 < 2147483648 ∧ ∀ I153 : xI, I153 = uI I q145 0 108 →
  ib 1 (xlen T148 q145) ∧ xlen T148 q145 < 2147483648 ∧ ∀ I156 : xI, I156 = uI I153 q145 1 97 →
  ib 2 (xlen T148 q145) ∧ xlen T148 q145 < 2147483648 ∧ ∀ I159 : xI, I159 = uI I156 q145 2 110 →
  ib 3 (xlen T148 q145) ∧ xlen T148 q145 < 2147483648 ∧ ∀ I162 : xI, I162 = uI I159 q145 3 100 →
  ib 4 (xlen T148 q145) ∧ xlen T148 q145 < 2147483648 ∧ ∀ I165 : xI, I165 = uI I162 q145 4 32 →
  ib 5 (xlen T148 q145) ∧ xlen T148 q145 < 2147483648 ∧ ∀ I168 : xI, I168 = uI I165 q145 5 32 →
  ib 6 (xlen T148 q145) ∧ xlen T148 q145 < 2147483648 ∧ ∀ I171 : xI, I171 = uI I168 q145 6 115 →
  ib 7 (xlen T148 q145) ∧ xlen T148 q145 < 2147483648 ∧ ∀ I174 : xI, I174 = uI I171 q145 7 101 →
  ib 8 (xlen T148 q145) ∧ xlen T148 q145 < 2147483648 ∧ ∀ I177 : xI, I177 = uI I174 q145 8 97 →
  ib 9 (xlen T148 q145) ∧ xlen T148 q145 < 2147483648 ∧ ∀ I180 : xI, I180 = uI I177 q145 9 32 →
  ib 10 (xlen T148 q145) ∧ xlen T148 q145 < 2147483648 ∧ ∀ I183 : xI, I183 = uI I180 q145 10 32 →
  ib 11 (xlen T148 q145) ∧ xlen T148 q145 < 2147483648 ∧ ∀ I186 : xI, I186 = uI I183 q145 11 32 →
  ib 12 (xlen T148 q145) ∧ xlen T148 q145 < 2147483648 ∧ ∀ I189 : xI, I189 = uI I186 q145 12 115 →
  ib 13 (xlen T148 q145) ∧ xlen T148 q145 < 2147483648 ∧ ∀ I192 : xI, I192 = uI I189 q145 13 112 →
  ib 14 (xlen T148 q145) ∧ xlen T148 q145 < 2147483648 ∧ ∀ I195 : xI, I195 = uI I192 q145 14 101 →
  ib 15 (xlen T148 q145) ∧ xlen T148 q145 < 2147483648 ∧ ∀ I198 : xI, I198 = uI I195 q145 15 101 →
  ib 16 (xlen T148 q145) ∧ xlen T148 q145 < 2147483648 ∧ ∀ I201 : xI, I201 = uI I198 q145 16 100 →
  ib 17 (xlen T148 q145) ∧ xlen T148 q145 < 2147483648 ∧ ∀ I204 : xI, I204 = uI I201 q145 17 32 →
  ib 18 (xlen T148 q145) ∧ xlen T148 q145 < 2147483648 ∧ ∀ I207 : xI, I207 = uI I204 q145 18 112 →
  ib 19 (xlen T148 q145) ∧ xlen T148 q145 < 2147483648 ∧ ∀ I210 : xI, I210 = uI I207 q145 19 97 →
  ib 20 (xlen T148 q145) ∧ xlen T148 q145 < 2147483648 ∧ ∀ I213 : xI, I213 = uI I210 q145 20 103 →
  ib 21 (xlen T148 q145) ∧ xlen T148 q145 < 2147483648 ∧ ∀ I216 : xI, I216 = uI I213 q145 21 101 →
  ib 22 (xlen T148 q145) ∧ xlen T148 q145 < 2147483648 ∧ ∀ I219 : xI, I219 = uI I216 q145 22 32 →
  ib 23 (xlen T148 q145) ∧ xlen T148 q145 < 2147483648 ∧ ∀ I222 : xI, I222 = uI I219 q145 23 32 →
  ib 24 (xlen T148 q145) ∧ xlen T148 q145 < 2147483648 ∧ ∀ I225 : xI, I225 = uI I222 q145 24 101 →
  ib 25 (xlen T148 q145) ∧ xlen T148 q145 < 2147483648 ∧ ∀ I228 : xI, I228 = uI I225 q145 25 110 →
  ib 26 (xlen T148 q145) ∧ xlen T148 q145 < 2147483648 ∧ ∀ I231 : xI, I231 = uI I228 q145 26 116 →
  ib 27 (xlen T148 q145) ∧ xlen T148 q145 < 2147483648 ∧ ∀ I234 : xI, I234 = uI I231 q145 27 114 →
  ib 28 (xlen T148 q145) ∧ xlen T148 q145 < 2147483648 ∧ ∀ I237 : xI, I237 = uI I234 q145 28 121 →
  ib 29 (xlen T148 q145) ∧ xlen T148 q145 < 2147483648 ∧ ∀ I240 : xI, I240 = uI I237 q145 29 32 →
  ib 30 (xlen T148 q145) ∧ xlen T148 q145 < 2147483648 ∧ ∀ I243 : xI, I243 = uI I240 q145 30 114 →
  ib 31 (xlen T148 q145) ∧ xlen T148 q145 < 2147483648 ∧ ∀ I246 : xI, I246 = uI I243 q145 31 101 →
  ib 32 (xlen T148 q145) ∧ xlen T148 q145 < 2147483648 ∧ ∀ I249 : xI, I249 = uI I246 q145 32 97 →
  ib 33 (xlen T148 q145) ∧ xlen T148 q145 < 2147483648 ∧ ∀ I252 : xI, I252 = uI I249 q145 33 100 →
  ib 34 (xlen T148 q145) ∧ xlen T148 q145 < 2147483648 ∧ ∀ I255 : xI, I255 = uI I252 q145 34 32 →
  ib 35 (xlen T148 q145) ∧ xlen T148 q145 < 2147483648 ∧ ∀ I258 : xI, I258 = uI I255 q145 35 32 →
  ib 36 (xlen T148 q145) ∧ xlen T148 q145 < 2147483648 ∧ ∀ I261 : xI, I261 = uI I258 q145 36 115 →
  ib 37 (xlen T148 q145) ∧ xlen T148 q145 < 2147483648 ∧ ∀ I264 : xI, I264 = uI I261 q145 37 116 →
  ib 38 (xlen T148 q145) ∧ xlen T148 q145 < 2147483648 ∧ ∀ I267 : xI, I267 = uI I264 q145 38 114 →
  ib 39 (xlen T148 q145) ∧ xlen T148 q145 < 2147483648 ∧ ∀ I270 : xI, I270 = uI I267 q145 39 105 →
  ib 40 (xlen T148 q145) ∧ xlen T148 q145 < 2147483648 ∧ ∀ I273 : xI, I273 = uI I270 q145 40 107 →
  ib 41 (xlen T148 q145) ∧ xlen T148 q145 < 2147483648 ∧ ∀ I276 : xI, I276 = uI I273 q145 41 101 →
  ib 42 (xlen T148 q145) ∧ xlen T148 q145 < 2147483648 ∧ ∀ I279 : xI, I279 = uI I276 q145 42 98 →
  ib 43 (xlen T148 q145) ∧ xlen T148 q145 < 2147483648 ∧ ∀ I282 : xI, I282 = uI I279 q145 43 108 →
  ib 44 (xlen T148 q145) ∧ xlen T148 q145 < 2147483648 ∧ ∀ I285 : xI, I285 = uI I282 q145 44 97 →
  ib 45 (xlen T148 q145) ∧ xlen T148 q145 < 2147483648 ∧ ∀ I288 : xI, I288 = uI I285 q145 45 109 →
  ib 46 (xlen T148 q145) ∧ xlen T148 q145 < 2147483648 ∧ ∀ I291 : xI, I291 = uI I288 q145 46 101 →
  ib 47 (xlen T148 q145) ∧ xlen T148 q145 < 2147483648 ∧ ∀ I294 : xI, I294 = uI I291 q145 47 32 →
  ∀ R296 : xR, R296 = uR R144 o 25 (some q145) →
  ∀ q297 : Nat, xtag T148 q297 = 0 → bsX X ≤ q297 → ∀ T300 : xT, T300 = xnew T148 q297 100 32 →
  ib 0 (xlen T300 q297) ∧ xlen T300 q297 < 2147483648 ∧ ∀ I305 : xI, I305 = uI I294 q297 0 99 →
  ib 1 (xlen T300 q297) ∧ xlen T300 q297 < 2147483648 ∧ ∀ I308 : xI, I308 = uI I305 q297 1 32 →
  ib 2 (xlen T300 q297) ∧ xlen T300 q297 < 2147483648 ∧ ∀ I311 : xI, I311 = uI I308 q297 2 32 →
  ib 3 (xlen T300 q297) ∧ xlen T300 q297 < 2147483648 ∧ ∀ I314 : xI, I314 = uI I311 q297 3 32 →
  ib 4 (xlen T300 q297) ∧ xlen T300 q297 < 2147483648 ∧ ∀ I317 : xI, I317 = uI I314 q297 4 99 →
  ib 5 (xlen T300 q297) ∧ xlen T300 q297 < 2147483648 ∧ ∀ I320 : xI, I320 = uI I317 q297 5 32 →
  ib 6 (xlen T300 q297) ∧ xlen T300 q297 < 2147483648 ∧ ∀ I323 : xI, I323 = uI I320 q297 6 32 →
  ib 7 (xlen T300 q297) ∧ xlen T300 q297 < 2147483648 ∧ ∀ I326 : xI, I326 = uI I323 q297 7 32 →
  ib 8 (xlen T300 q297) ∧ xlen T300 q297 < 2147483648 ∧ ∀ I329 : xI, I329 = uI I326 q297 8 110 →
  ib 9 (xlen T300 q297) ∧ xlen T300 q297 < 2147483648 ∧ ∀ I332 : xI, I332 = uI I329 q297 9 32 →
  ib 10 (xlen T300 q297) ∧ xlen T300 q297 < 2147483648 ∧ ∀ I335 : xI, I335 = uI I332 q297 10 32 →
  ib 11 (xlen T300 q297) ∧ xlen T300 q297 < 2147483648 ∧ ∀ I338 : xI, I338 = uI I335 q297 11 32 →
  ib 12 (xlen T300 q297) ∧ xlen T300 q297 < 2147483648 ∧ ∀ I341 : xI, I341 = uI I338 q297 12 110 →
  ib 13 (xlen T300 q297) ∧ xlen T300 q297 < 2147483648 ∧ ∀ I344 : xI, I344 = uI I341 q297 13 110 →
  ib 14 (xlen T300 q297) ∧ xlen T300 q297 < 2147483648 ∧ ∀ I347 : xI, I347 = uI I344 q297 14 32 →
  ib 15 (xlen T300 q297) ∧ xlen T300 q297 < 2147483648 ∧ ∀ I350 : xI, I350 = uI I347 q297 15 32 →
  ib 16 (xlen T300 q297) ∧ xlen T300 q297 < 2147483648 ∧ ∀ I353 : xI, I353 = uI I350 q297 16 100 →
  ib 17 (xlen T300 q297) ∧ xlen T300 q297 < 2147483648 ∧ ∀ I356 : xI, I356 = uI I353 q297 17 110 →
  ib 18 (xlen T300 q297) ∧ xlen T300 q297 < 2147483648 ∧ ∀ I359 : xI, I359 = uI I356 q297 18 99 →
  ib 19 (xlen T300 q297) ∧ xlen T300 q297 < 2147483648 ∧ ∀ I362 : xI, I362 = uI I359 q297 19 100 →
  ib 20 (xlen T300 q297) ∧ xlen T300 q297 < 2147483648 ∧ ∀ I365 : xI, I365 = uI I362 q297 20 100 →
  ib 21 (xlen T300 q297) ∧ xlen T300 q297 < 2147483648 ∧ ∀ I368 : xI, I368 = uI I365 q297 21 100 →
  ib 22 (xlen T300 q297) ∧ xlen T300 q297 < 2147483648 ∧ ∀ I371 : xI, I371 = uI I368 q297 22 32 →
  ib 23 (xlen T300 q297) ∧ xlen T300 q297 < 2147483648 ∧ ∀ I374 : xI, I374 = uI I371 q297 23 32 →
  ib 24 (xlen T300 q297) ∧ xlen T300 q297 < 2147483648 ∧ ∀ I377 : xI, I377 = uI I374 q297 24 100 →
  ib 25 (xlen T300 q297) ∧ xlen T300 q297 < 2147483648 ∧ ∀ I380 : xI, I380 = uI I377 q297 25 100 →
  ib 26 (xlen T300 q297) ∧ xlen T300 q297 < 2147483648 ∧ ∀ I383 : xI, I383 = uI I380 q297 26 32 →
  ib 27 (xlen T300 q297) ∧ xlen T300 q297 < 2147483648 ∧ ∀ I386 : xI, I386 = uI I383 q297 27 32 →
  ib 28 (xlen T300 q297) ∧ xlen T300 q297 < 2147483648 ∧ ∀ I389 : xI, I389 = uI I386 q297 28 100 →
  ib 29 (xlen T300 q297) ∧ xlen T300 q297 < 2147483648 ∧ ∀ I392 : xI, I392 = uI I389 q297 29 32 →
  ib 30 (xlen T300 q297) ∧ xlen T300 q297 < 2147483648 ∧ ∀ I395 : xI, I395 = uI I392 q297 30 32 →
  ib 31 (xlen T300 q297) ∧ xlen T300 q297 < 2147483648 ∧ ∀ I398 : xI, I398 = uI I395 q297 31 32 →
  ∀ R400 : xR, R400 = uR R296 o 26 (some q297) →
  ∀ q401 : Nat, xtag T300 q401 = 0 → bsX X ≤ q401 → ∀ T404 : xT, T404 = xnew T300 q401 100 40 →
  ∀ R408 : xR, R408 = uR R400 o 32 (some q401) →
  ∃ b409 : Nat, R408 o 0 = some b409 ∧ xtag T404 b409 = 100 ∧ ib 0 (xlen T404 b409) ∧ xlen T404 b409 < 2147483648 ∧ ∀ I414 : xI, I414 = uI I398 b409 0 3 →
  ∃ b415 : Nat, R408 o 0 = some b415 ∧ xtag T404 b415 = 100 ∧ ib 1 (xlen T404 b415) ∧ xlen T404 b415 < 2147483648 ∧ ∀ I420 : xI, I420 = uI I414 b415 1 30 →
  ∃ b421 : Nat, R408 o 0 = some b421 ∧ xtag T404 b421 = 100 ∧ ib 2 (xlen T404 b421) ∧ xlen T404 b421 < 2147483648 ∧ ∀ I426 : xI, I426 = uI I420 b421 2 50 →
  ∃ b427 : Nat, R408 o 0 = some b427 ∧ xtag T404 b427 = 100 ∧ ib 3 (xlen T404 b427) ∧ xlen T404 b427 < 2147483648 ∧ ∀ I432 : xI, I432 = uI I426 b427 3 70 →
  Q T404 I432 R408
theorem hx_X4_init : yX4_init.cls ≠ "java/lang/invoke/MethodHandle" ∧ yX4_init.cls ≠ "java/lang/invoke/VarHandle" ∧ (parseMethodDescriptor yX4_init.desc).map (fun d => d.parameters.length) = some 0 := by decide +kernel
set_option maxHeartbeats 4000000 in
theorem tx_X4_init (X : XT) {o : Nat}  {T : xT} {I : xI} {R : xR} {L : xL} {Q : xT → xI → xR → Prop} (hw : wx_X4_init X o T I R L Q) : CtX X yX4_init cX4_init 1 none (rmX 1 21 5952 20) [aR (some o)] T I R L (PXvTIR T I R L Q) := by
  refine CtX.intro (by decide) (Nat.le_of_ble_eq_true rfl) (fun E hE hR hN => ?_)
  have hRm := hR.rm
  have hE : OkX E X RX4 cX4_init 1 none := hE
  have hE1 := hE.1
  have hI : isInit E := hN
  show GX E X T I R L 0 0 0 [some (aR (some o))] []
  unfold wx_X4_init at hw
  intro hok
  refine g_aldn0 hE1 dX4_init_0 ?_
  refine gx_objInit hE hRm rfl q2139 q151 q152 (by decide) (by decide) (Nat.le_of_ble_eq_true rfl) dX4_init_1 ?_ hok
  intro hok
  refine g_aldn0 hE1 dX4_init_4 ?_
  refine g_sipush hE1 dX4_init_5 (by decide) ?_
  refine gx_newa_int hE hRm (N := 354) q249 rfl (by decide) (by decide) (by decide) dX4_init_8 (fun q1 hq2 hbs3 => ?_) hok
  intro hok
  have hw := hw q1 hq2 hbs3 _ rfl
  have hl5 := tle.new (T := T) (q := q1) (t := 100) (n := 354) hq2
  have hT6 : xtag (xnew T q1 100 354) q1 = 100 := if_pos rfl
  generalize xnew T q1 100 354 = T4 at hw hl5 hok hT6 ⊢
  obtain ⟨ht7, hw⟩ := hw
  refine gx_putrF hE in_X4 (t := 26) rfl (by decide) 0 0 rfl (by decide) rfl (by decide) (ty := tyX4 0) tyX4 tyX4_ok nmX4 rfl q2140 (Or.inl rfl) rfl hI rfl (tyX4_ok 0 (by decide)) nar_a fit_a ht7 dX4_init_10 ?_ hok
  intro hok
  have hw := hw _ rfl
  generalize uR R o 0 (some q1) = R8 at hw hok ⊢
  refine g_aldn0 hE1 dX4_init_13 ?_
  refine g_sipush hE1 dX4_init_14 (by decide) ?_
  refine gx_newa_int hE hRm (N := 354) q249 rfl (by decide) (by decide) (by decide) dX4_init_17 (fun q9 hq10 hbs11 => ?_) hok
  intro hok
  have hw := hw q9 hq10 hbs11 _ rfl
  have hl13 := tle.new (T := T4) (q := q9) (t := 100) (n := 354) hq10
  have hT14 : xtag (xnew T4 q9 100 354) q9 = 100 := if_pos rfl
  generalize xnew T4 q9 100 354 = T12 at hw hl13 hok hT14 ⊢
  have ht15 := hl13.tag ht7 (by decide)
  refine gx_putrF hE in_X4 (t := 26) rfl (by decide) 1 1 rfl (by decide) rfl (by decide) (ty := tyX4 1) tyX4 tyX4_ok nmX4 rfl q2141 (Or.inl rfl) rfl hI rfl (tyX4_ok 1 (by decide)) nar_a fit_a ht15 dX4_init_19 ?_ hok
  intro hok
  have hw := hw _ rfl
  generalize uR R8 o 1 (some q9) = R16 at hw hok ⊢
  refine g_aldn0 hE1 dX4_init_22 ?_
  refine g_sipush hE1 dX4_init_23 (by decide) ?_
  refine gx_newa_int hE hRm (N := 354) q249 rfl (by decide) (by decide) (by decide) dX4_init_26 (fun q17 hq18 hbs19 => ?_) hok
  intro hok
  have hw := hw q17 hq18 hbs19 _ rfl
  have hl21 := tle.new (T := T12) (q := q17) (t := 100) (n := 354) hq18
  have hT22 : xtag (xnew T12 q17 100 354) q17 = 100 := if_pos rfl
  generalize xnew T12 q17 100 354 = T20 at hw hl21 hok hT22 ⊢
  have ht23 := (hl13.tr hl21).tag ht7 (by decide)
  refine gx_putrF hE in_X4 (t := 26) rfl (by decide) 2 2 rfl (by decide) rfl (by decide) (ty := tyX4 2) tyX4 tyX4_ok nmX4 rfl q2142 (Or.inl rfl) rfl hI rfl (tyX4_ok 2 (by decide)) nar_a fit_a ht23 dX4_init_28 ?_ hok
  intro hok
  have hw := hw _ rfl
  generalize uR R16 o 2 (some q17) = R24 at hw hok ⊢
  refine g_aldn0 hE1 dX4_init_31 ?_
  refine g_sipush hE1 dX4_init_32 (by decide) ?_
  refine gx_newa_int hE hRm (N := 2832) q249 rfl (by decide) (by decide) (by decide) dX4_init_35 (fun q25 hq26 hbs27 => ?_) hok
  intro hok
  have hw := hw q25 hq26 hbs27 _ rfl
  have hl29 := tle.new (T := T20) (q := q25) (t := 100) (n := 2832) hq26
  have hT30 : xtag (xnew T20 q25 100 2832) q25 = 100 := if_pos rfl
  generalize xnew T20 q25 100 2832 = T28 at hw hl29 hok hT30 ⊢
  have ht31 := ((hl13.tr hl21).tr hl29).tag ht7 (by decide)
  refine gx_putrF hE in_X4 (t := 26) rfl (by decide) 3 3 rfl (by decide) rfl (by decide) (ty := tyX4 3) tyX4 tyX4_ok nmX4 rfl q2143 (Or.inl rfl) rfl hI rfl (tyX4_ok 3 (by decide)) nar_a fit_a ht31 dX4_init_37 ?_ hok
  intro hok
  have hw := hw _ rfl
  generalize uR R24 o 3 (some q25) = R32 at hw hok ⊢
  refine g_aldn0 hE1 dX4_init_40 ?_
  refine g_bipush hE1 dX4_init_41 (by decide) ?_
  refine gx_newa_int hE hRm (N := 30) q249 rfl (by decide) (by decide) (by decide) dX4_init_43 (fun q33 hq34 hbs35 => ?_) hok
  intro hok
  have hw := hw q33 hq34 hbs35 _ rfl
  have hl37 := tle.new (T := T28) (q := q33) (t := 100) (n := 30) hq34
  have hT38 : xtag (xnew T28 q33 100 30) q33 = 100 := if_pos rfl
  generalize xnew T28 q33 100 30 = T36 at hw hl37 hok hT38 ⊢
  have ht39 := (((hl13.tr hl21).tr hl29).tr hl37).tag ht7 (by decide)
  refine gx_putrF hE in_X4 (t := 26) rfl (by decide) 4 4 rfl (by decide) rfl (by decide) (ty := tyX4 4) tyX4 tyX4_ok nmX4 rfl q2144 (Or.inl rfl) rfl hI rfl (tyX4_ok 4 (by decide)) nar_a fit_a ht39 dX4_init_45 ?_ hok
  intro hok
  have hw := hw _ rfl
  generalize uR R32 o 4 (some q33) = R40 at hw hok ⊢
  refine g_aldn0 hE1 dX4_init_48 ?_
  refine g_bipush hE1 dX4_init_49 (by decide) ?_
  refine gx_newa_int hE hRm (N := 30) q249 rfl (by decide) (by decide) (by decide) dX4_init_51 (fun q41 hq42 hbs43 => ?_) hok
  intro hok
  have hw := hw q41 hq42 hbs43 _ rfl
  have hl45 := tle.new (T := T36) (q := q41) (t := 100) (n := 30) hq42
  have hT46 : xtag (xnew T36 q41 100 30) q41 = 100 := if_pos rfl
  generalize xnew T36 q41 100 30 = T44 at hw hl45 hok hT46 ⊢
  have ht47 := ((((hl13.tr hl21).tr hl29).tr hl37).tr hl45).tag ht7 (by decide)
  refine gx_putrF hE in_X4 (t := 26) rfl (by decide) 5 5 rfl (by decide) rfl (by decide) (ty := tyX4 5) tyX4 tyX4_ok nmX4 rfl q2145 (Or.inl rfl) rfl hI rfl (tyX4_ok 5 (by decide)) nar_a fit_a ht47 dX4_init_53 ?_ hok
  intro hok
  have hw := hw _ rfl
  generalize uR R40 o 5 (some q41) = R48 at hw hok ⊢
  refine g_aldn0 hE1 dX4_init_56 ?_
  refine g_sipush hE1 dX4_init_57 (by decide) ?_
  refine gx_newa_int hE hRm (N := 900) q249 rfl (by decide) (by decide) (by decide) dX4_init_60 (fun q49 hq50 hbs51 => ?_) hok
  intro hok
  have hw := hw q49 hq50 hbs51 _ rfl
  have hl53 := tle.new (T := T44) (q := q49) (t := 100) (n := 900) hq50
  have hT54 : xtag (xnew T44 q49 100 900) q49 = 100 := if_pos rfl
  generalize xnew T44 q49 100 900 = T52 at hw hl53 hok hT54 ⊢
  have ht55 := (((((hl13.tr hl21).tr hl29).tr hl37).tr hl45).tr hl53).tag ht7 (by decide)
  refine gx_putrF hE in_X4 (t := 26) rfl (by decide) 6 6 rfl (by decide) rfl (by decide) (ty := tyX4 6) tyX4 tyX4_ok nmX4 rfl q2146 (Or.inl rfl) rfl hI rfl (tyX4_ok 6 (by decide)) nar_a fit_a ht55 dX4_init_62 ?_ hok
  intro hok
  have hw := hw _ rfl
  generalize uR R48 o 6 (some q49) = R56 at hw hok ⊢
  refine g_aldn0 hE1 dX4_init_65 ?_
  refine g_bipush hE1 dX4_init_66 (by decide) ?_
  refine gx_newa_int hE hRm (N := 30) q249 rfl (by decide) (by decide) (by decide) dX4_init_68 (fun q57 hq58 hbs59 => ?_) hok
  intro hok
  have hw := hw q57 hq58 hbs59 _ rfl
  have hl61 := tle.new (T := T52) (q := q57) (t := 100) (n := 30) hq58
  have hT62 : xtag (xnew T52 q57 100 30) q57 = 100 := if_pos rfl
  generalize xnew T52 q57 100 30 = T60 at hw hl61 hok hT62 ⊢
  have ht63 := ((((((hl13.tr hl21).tr hl29).tr hl37).tr hl45).tr hl53).tr hl61).tag ht7 (by decide)
  refine gx_putrF hE in_X4 (t := 26) rfl (by decide) 7 7 rfl (by decide) rfl (by decide) (ty := tyX4 7) tyX4 tyX4_ok nmX4 rfl q2147 (Or.inl rfl) rfl hI rfl (tyX4_ok 7 (by decide)) nar_a fit_a ht63 dX4_init_70 ?_ hok
  intro hok
  have hw := hw _ rfl
  generalize uR R56 o 7 (some q57) = R64 at hw hok ⊢
  refine g_aldn0 hE1 dX4_init_73 ?_
  refine g_bipush hE1 dX4_init_74 (by decide) ?_
  refine gx_newa_int hE hRm (N := 30) q249 rfl (by decide) (by decide) (by decide) dX4_init_76 (fun q65 hq66 hbs67 => ?_) hok
  intro hok
  have hw := hw q65 hq66 hbs67 _ rfl
  have hl69 := tle.new (T := T60) (q := q65) (t := 100) (n := 30) hq66
  have hT70 : xtag (xnew T60 q65 100 30) q65 = 100 := if_pos rfl
  generalize xnew T60 q65 100 30 = T68 at hw hl69 hok hT70 ⊢
  have ht71 := (((((((hl13.tr hl21).tr hl29).tr hl37).tr hl45).tr hl53).tr hl61).tr hl69).tag ht7 (by decide)
  refine gx_putrF hE in_X4 (t := 26) rfl (by decide) 8 8 rfl (by decide) rfl (by decide) (ty := tyX4 8) tyX4 tyX4_ok nmX4 rfl q2148 (Or.inl rfl) rfl hI rfl (tyX4_ok 8 (by decide)) nar_a fit_a ht71 dX4_init_78 ?_ hok
  intro hok
  have hw := hw _ rfl
  generalize uR R64 o 8 (some q65) = R72 at hw hok ⊢
  refine g_aldn0 hE1 dX4_init_81 ?_
  refine g_bipush hE1 dX4_init_82 (by decide) ?_
  refine gx_newa_int hE hRm (N := 30) q249 rfl (by decide) (by decide) (by decide) dX4_init_84 (fun q73 hq74 hbs75 => ?_) hok
  intro hok
  have hw := hw q73 hq74 hbs75 _ rfl
  have hl77 := tle.new (T := T68) (q := q73) (t := 100) (n := 30) hq74
  have hT78 : xtag (xnew T68 q73 100 30) q73 = 100 := if_pos rfl
  generalize xnew T68 q73 100 30 = T76 at hw hl77 hok hT78 ⊢
  have ht79 := ((((((((hl13.tr hl21).tr hl29).tr hl37).tr hl45).tr hl53).tr hl61).tr hl69).tr hl77).tag ht7 (by decide)
  refine gx_putrF hE in_X4 (t := 26) rfl (by decide) 9 9 rfl (by decide) rfl (by decide) (ty := tyX4 9) tyX4 tyX4_ok nmX4 rfl q2149 (Or.inl rfl) rfl hI rfl (tyX4_ok 9 (by decide)) nar_a fit_a ht79 dX4_init_86 ?_ hok
  intro hok
  have hw := hw _ rfl
  generalize uR R72 o 9 (some q73) = R80 at hw hok ⊢
  refine g_aldn0 hE1 dX4_init_89 ?_
  refine g_bipush hE1 dX4_init_90 (by decide) ?_
  refine gx_newa_int hE hRm (N := 30) q249 rfl (by decide) (by decide) (by decide) dX4_init_92 (fun q81 hq82 hbs83 => ?_) hok
  intro hok
  have hw := hw q81 hq82 hbs83 _ rfl
  have hl85 := tle.new (T := T76) (q := q81) (t := 100) (n := 30) hq82
  have hT86 : xtag (xnew T76 q81 100 30) q81 = 100 := if_pos rfl
  generalize xnew T76 q81 100 30 = T84 at hw hl85 hok hT86 ⊢
  have ht87 := (((((((((hl13.tr hl21).tr hl29).tr hl37).tr hl45).tr hl53).tr hl61).tr hl69).tr hl77).tr hl85).tag ht7 (by decide)
  refine gx_putrF hE in_X4 (t := 26) rfl (by decide) 10 10 rfl (by decide) rfl (by decide) (ty := tyX4 10) tyX4 tyX4_ok nmX4 rfl q2150 (Or.inl rfl) rfl hI rfl (tyX4_ok 10 (by decide)) nar_a fit_a ht87 dX4_init_94 ?_ hok
  intro hok
  have hw := hw _ rfl
  generalize uR R80 o 10 (some q81) = R88 at hw hok ⊢
  refine g_aldn0 hE1 dX4_init_97 ?_
  refine g_sipush hE1 dX4_init_98 (by decide) ?_
  refine gx_newa_int hE hRm (N := 192) q249 rfl (by decide) (by decide) (by decide) dX4_init_101 (fun q89 hq90 hbs91 => ?_) hok
  intro hok
  have hw := hw q89 hq90 hbs91 _ rfl
  have hl93 := tle.new (T := T84) (q := q89) (t := 100) (n := 192) hq90
  have hT94 : xtag (xnew T84 q89 100 192) q89 = 100 := if_pos rfl
  generalize xnew T84 q89 100 192 = T92 at hw hl93 hok hT94 ⊢
  have ht95 := ((((((((((hl13.tr hl21).tr hl29).tr hl37).tr hl45).tr hl53).tr hl61).tr hl69).tr hl77).tr hl85).tr hl93).tag ht7 (by decide)
  refine gx_putrF hE in_X4 (t := 26) rfl (by decide) 11 11 rfl (by decide) rfl (by decide) (ty := tyX4 11) tyX4 tyX4_ok nmX4 rfl q2151 (Or.inl rfl) rfl hI rfl (tyX4_ok 11 (by decide)) nar_a fit_a ht95 dX4_init_103 ?_ hok
  intro hok
  have hw := hw _ rfl
  generalize uR R88 o 11 (some q89) = R96 at hw hok ⊢
  refine g_aldn0 hE1 dX4_init_106 ?_
  refine g_sipush hE1 dX4_init_107 (by decide) ?_
  refine gx_newa_int hE hRm (N := 192) q249 rfl (by decide) (by decide) (by decide) dX4_init_110 (fun q97 hq98 hbs99 => ?_) hok
  intro hok
  have hw := hw q97 hq98 hbs99 _ rfl
  have hl101 := tle.new (T := T92) (q := q97) (t := 100) (n := 192) hq98
  have hT102 : xtag (xnew T92 q97 100 192) q97 = 100 := if_pos rfl
  generalize xnew T92 q97 100 192 = T100 at hw hl101 hok hT102 ⊢
  have ht103 := (((((((((((hl13.tr hl21).tr hl29).tr hl37).tr hl45).tr hl53).tr hl61).tr hl69).tr hl77).tr hl85).tr hl93).tr hl101).tag ht7 (by decide)
  refine gx_putrF hE in_X4 (t := 26) rfl (by decide) 12 12 rfl (by decide) rfl (by decide) (ty := tyX4 12) tyX4 tyX4_ok nmX4 rfl q2152 (Or.inl rfl) rfl hI rfl (tyX4_ok 12 (by decide)) nar_a fit_a ht103 dX4_init_112 ?_ hok
  intro hok
  have hw := hw _ rfl
  generalize uR R96 o 12 (some q97) = R104 at hw hok ⊢
  refine g_aldn0 hE1 dX4_init_115 ?_
  refine g_bipush hE1 dX4_init_116 (by decide) ?_
  refine gx_newa_int hE hRm (N := 15) q249 rfl (by decide) (by decide) (by decide) dX4_init_118 (fun q105 hq106 hbs107 => ?_) hok
  intro hok
  have hw := hw q105 hq106 hbs107 _ rfl
  have hl109 := tle.new (T := T100) (q := q105) (t := 100) (n := 15) hq106
  have hT110 : xtag (xnew T100 q105 100 15) q105 = 100 := if_pos rfl
  generalize xnew T100 q105 100 15 = T108 at hw hl109 hok hT110 ⊢
  have ht111 := ((((((((((((hl13.tr hl21).tr hl29).tr hl37).tr hl45).tr hl53).tr hl61).tr hl69).tr hl77).tr hl85).tr hl93).tr hl101).tr hl109).tag ht7 (by decide)
  refine gx_putrF hE in_X4 (t := 26) rfl (by decide) 13 13 rfl (by decide) rfl (by decide) (ty := tyX4 13) tyX4 tyX4_ok nmX4 rfl q2153 (Or.inl rfl) rfl hI rfl (tyX4_ok 13 (by decide)) nar_a fit_a ht111 dX4_init_120 ?_ hok
  intro hok
  have hw := hw _ rfl
  generalize uR R104 o 13 (some q105) = R112 at hw hok ⊢
  refine g_aldn0 hE1 dX4_init_123 ?_
  refine g_sipush hE1 dX4_init_124 (by decide) ?_
  refine gx_newa_int hE hRm (N := 192) q249 rfl (by decide) (by decide) (by decide) dX4_init_127 (fun q113 hq114 hbs115 => ?_) hok
  intro hok
  have hw := hw q113 hq114 hbs115 _ rfl
  have hl117 := tle.new (T := T108) (q := q113) (t := 100) (n := 192) hq114
  have hT118 : xtag (xnew T108 q113 100 192) q113 = 100 := if_pos rfl
  generalize xnew T108 q113 100 192 = T116 at hw hl117 hok hT118 ⊢
  have ht119 := (((((((((((((hl13.tr hl21).tr hl29).tr hl37).tr hl45).tr hl53).tr hl61).tr hl69).tr hl77).tr hl85).tr hl93).tr hl101).tr hl109).tr hl117).tag ht7 (by decide)
  refine gx_putrF hE in_X4 (t := 26) rfl (by decide) 21 21 rfl (by decide) rfl (by decide) (ty := tyX4 21) tyX4 tyX4_ok nmX4 rfl q2161 (Or.inl rfl) rfl hI rfl (tyX4_ok 21 (by decide)) nar_a fit_a ht119 dX4_init_129 ?_ hok
  intro hok
  have hw := hw _ rfl
  generalize uR R112 o 21 (some q113) = R120 at hw hok ⊢
  refine g_aldn0 hE1 dX4_init_132 ?_
  refine g_sipush hE1 dX4_init_133 (by decide) ?_
  refine gx_newa_int hE hRm (N := 192) q249 rfl (by decide) (by decide) (by decide) dX4_init_136 (fun q121 hq122 hbs123 => ?_) hok
  intro hok
  have hw := hw q121 hq122 hbs123 _ rfl
  have hl125 := tle.new (T := T116) (q := q121) (t := 100) (n := 192) hq122
  have hT126 : xtag (xnew T116 q121 100 192) q121 = 100 := if_pos rfl
  generalize xnew T116 q121 100 192 = T124 at hw hl125 hok hT126 ⊢
  have ht127 := ((((((((((((((hl13.tr hl21).tr hl29).tr hl37).tr hl45).tr hl53).tr hl61).tr hl69).tr hl77).tr hl85).tr hl93).tr hl101).tr hl109).tr hl117).tr hl125).tag ht7 (by decide)
  refine gx_putrF hE in_X4 (t := 26) rfl (by decide) 22 22 rfl (by decide) rfl (by decide) (ty := tyX4 22) tyX4 tyX4_ok nmX4 rfl q2162 (Or.inl rfl) rfl hI rfl (tyX4_ok 22 (by decide)) nar_a fit_a ht127 dX4_init_138 ?_ hok
  intro hok
  have hw := hw _ rfl
  generalize uR R120 o 22 (some q121) = R128 at hw hok ⊢
  refine g_aldn0 hE1 dX4_init_141 ?_
  refine g_bipush hE1 dX4_init_142 (by decide) ?_
  refine gx_newa_int hE hRm (N := 70) q249 rfl (by decide) (by decide) (by decide) dX4_init_144 (fun q129 hq130 hbs131 => ?_) hok
  intro hok
  have hw := hw q129 hq130 hbs131 _ rfl
  have hl133 := tle.new (T := T124) (q := q129) (t := 100) (n := 70) hq130
  have hT134 : xtag (xnew T124 q129 100 70) q129 = 100 := if_pos rfl
  generalize xnew T124 q129 100 70 = T132 at hw hl133 hok hT134 ⊢
  have ht135 := (((((((((((((((hl13.tr hl21).tr hl29).tr hl37).tr hl45).tr hl53).tr hl61).tr hl69).tr hl77).tr hl85).tr hl93).tr hl101).tr hl109).tr hl117).tr hl125).tr hl133).tag ht7 (by decide)
  refine gx_putrF hE in_X4 (t := 26) rfl (by decide) 23 23 rfl (by decide) rfl (by decide) (ty := tyX4 23) tyX4 tyX4_ok nmX4 rfl q2163 (Or.inl rfl) rfl hI rfl (tyX4_ok 23 (by decide)) nar_a fit_a ht135 dX4_init_146 ?_ hok
  intro hok
  have hw := hw _ rfl
  generalize uR R128 o 23 (some q129) = R136 at hw hok ⊢
  refine g_aldn0 hE1 dX4_init_149 ?_
  refine g_iconst hE1 dX4_init_150 ?_
  refine gx_newa_int hE hRm (N := 5) q249 rfl (by decide) (by decide) (by decide) dX4_init_151 (fun q137 hq138 hbs139 => ?_) hok
  intro hok
  have hw := hw q137 hq138 hbs139 _ rfl
  have hl141 := tle.new (T := T132) (q := q137) (t := 100) (n := 5) hq138
  have hT142 : xtag (xnew T132 q137 100 5) q137 = 100 := if_pos rfl
  generalize xnew T132 q137 100 5 = T140 at hw hl141 hok hT142 ⊢
  have ht143 := ((((((((((((((((hl13.tr hl21).tr hl29).tr hl37).tr hl45).tr hl53).tr hl61).tr hl69).tr hl77).tr hl85).tr hl93).tr hl101).tr hl109).tr hl117).tr hl125).tr hl133).tr hl141).tag ht7 (by decide)
  refine gx_putrF hE in_X4 (t := 26) rfl (by decide) 24 24 rfl (by decide) rfl (by decide) (ty := tyX4 24) tyX4 tyX4_ok nmX4 rfl q2164 (Or.inl rfl) rfl hI rfl (tyX4_ok 24 (by decide)) nar_a fit_a ht143 dX4_init_153 ?_ hok
  intro hok
  have hw := hw _ rfl
  generalize uR R136 o 24 (some q137) = R144 at hw hok ⊢
  refine g_aldn0 hE1 dX4_init_156 ?_
  refine g_bipush hE1 dX4_init_157 (by decide) ?_
  refine gx_newa_int hE hRm (N := 48) q249 rfl (by decide) (by decide) (by decide) dX4_init_159 (fun q145 hq146 hbs147 => ?_) hok
  intro hok
  have hw := hw q145 hq146 hbs147 _ rfl
  have hl149 := tle.new (T := T140) (q := q145) (t := 100) (n := 48) hq146
  have hT150 : xtag (xnew T140 q145 100 48) q145 = 100 := if_pos rfl
  generalize xnew T140 q145 100 48 = T148 at hw hl149 hok hT150 ⊢
  refine g_dup hE1 dX4_init_161 rfl ?_
  refine g_iconst hE1 dX4_init_162 ?_
  refine g_bipush hE1 dX4_init_163 (by decide) ?_
  obtain ⟨h151, h152, hw⟩ := hw
  refine gx_iast hE hT150 h151 h152 dX4_init_165 ?_ hok
  intro hok
  have hw := hw _ rfl
  generalize uI I q145 0 108 = I153 at hw hok ⊢
  refine g_dup hE1 dX4_init_166 rfl ?_
  refine g_iconst hE1 dX4_init_167 ?_
  refine g_bipush hE1 dX4_init_168 (by decide) ?_
  obtain ⟨h154, h155, hw⟩ := hw
  refine gx_iast hE hT150 h154 h155 dX4_init_170 ?_ hok
  intro hok
  have hw := hw _ rfl
  generalize uI I153 q145 1 97 = I156 at hw hok ⊢
  refine g_dup hE1 dX4_init_171 rfl ?_
  refine g_iconst hE1 dX4_init_172 ?_
  refine g_bipush hE1 dX4_init_173 (by decide) ?_
  obtain ⟨h157, h158, hw⟩ := hw
  refine gx_iast hE hT150 h157 h158 dX4_init_175 ?_ hok
  intro hok
  have hw := hw _ rfl
  generalize uI I156 q145 2 110 = I159 at hw hok ⊢
  refine g_dup hE1 dX4_init_176 rfl ?_
  refine g_iconst hE1 dX4_init_177 ?_
  refine g_bipush hE1 dX4_init_178 (by decide) ?_
  obtain ⟨h160, h161, hw⟩ := hw
  refine gx_iast hE hT150 h160 h161 dX4_init_180 ?_ hok
  intro hok
  have hw := hw _ rfl
  generalize uI I159 q145 3 100 = I162 at hw hok ⊢
  refine g_dup hE1 dX4_init_181 rfl ?_
  refine g_iconst hE1 dX4_init_182 ?_
  refine g_bipush hE1 dX4_init_183 (by decide) ?_
  obtain ⟨h163, h164, hw⟩ := hw
  refine gx_iast hE hT150 h163 h164 dX4_init_185 ?_ hok
  intro hok
  have hw := hw _ rfl
  generalize uI I162 q145 4 32 = I165 at hw hok ⊢
  refine g_dup hE1 dX4_init_186 rfl ?_
  refine g_iconst hE1 dX4_init_187 ?_
  refine g_bipush hE1 dX4_init_188 (by decide) ?_
  obtain ⟨h166, h167, hw⟩ := hw
  refine gx_iast hE hT150 h166 h167 dX4_init_190 ?_ hok
  intro hok
  have hw := hw _ rfl
  generalize uI I165 q145 5 32 = I168 at hw hok ⊢
  refine g_dup hE1 dX4_init_191 rfl ?_
  refine g_bipush hE1 dX4_init_192 (by decide) ?_
  refine g_bipush hE1 dX4_init_194 (by decide) ?_
  obtain ⟨h169, h170, hw⟩ := hw
  refine gx_iast hE hT150 h169 h170 dX4_init_196 ?_ hok
  intro hok
  have hw := hw _ rfl
  generalize uI I168 q145 6 115 = I171 at hw hok ⊢
  refine g_dup hE1 dX4_init_197 rfl ?_
  refine g_bipush hE1 dX4_init_198 (by decide) ?_
  refine g_bipush hE1 dX4_init_200 (by decide) ?_
  obtain ⟨h172, h173, hw⟩ := hw
  refine gx_iast hE hT150 h172 h173 dX4_init_202 ?_ hok
  intro hok
  have hw := hw _ rfl
  generalize uI I171 q145 7 101 = I174 at hw hok ⊢
  refine g_dup hE1 dX4_init_203 rfl ?_
  refine g_bipush hE1 dX4_init_204 (by decide) ?_
  refine g_bipush hE1 dX4_init_206 (by decide) ?_
  obtain ⟨h175, h176, hw⟩ := hw
  refine gx_iast hE hT150 h175 h176 dX4_init_208 ?_ hok
  intro hok
  have hw := hw _ rfl
  generalize uI I174 q145 8 97 = I177 at hw hok ⊢
  refine g_dup hE1 dX4_init_209 rfl ?_
  refine g_bipush hE1 dX4_init_210 (by decide) ?_
  refine g_bipush hE1 dX4_init_212 (by decide) ?_
  obtain ⟨h178, h179, hw⟩ := hw
  refine gx_iast hE hT150 h178 h179 dX4_init_214 ?_ hok
  intro hok
  have hw := hw _ rfl
  generalize uI I177 q145 9 32 = I180 at hw hok ⊢
  refine g_dup hE1 dX4_init_215 rfl ?_
  refine g_bipush hE1 dX4_init_216 (by decide) ?_
  refine g_bipush hE1 dX4_init_218 (by decide) ?_
  obtain ⟨h181, h182, hw⟩ := hw
  refine gx_iast hE hT150 h181 h182 dX4_init_220 ?_ hok
  intro hok
  have hw := hw _ rfl
  generalize uI I180 q145 10 32 = I183 at hw hok ⊢
  refine g_dup hE1 dX4_init_221 rfl ?_
  refine g_bipush hE1 dX4_init_222 (by decide) ?_
  refine g_bipush hE1 dX4_init_224 (by decide) ?_
  obtain ⟨h184, h185, hw⟩ := hw
  refine gx_iast hE hT150 h184 h185 dX4_init_226 ?_ hok
  intro hok
  have hw := hw _ rfl
  generalize uI I183 q145 11 32 = I186 at hw hok ⊢
  refine g_dup hE1 dX4_init_227 rfl ?_
  refine g_bipush hE1 dX4_init_228 (by decide) ?_
  refine g_bipush hE1 dX4_init_230 (by decide) ?_
  obtain ⟨h187, h188, hw⟩ := hw
  refine gx_iast hE hT150 h187 h188 dX4_init_232 ?_ hok
  intro hok
  have hw := hw _ rfl
  generalize uI I186 q145 12 115 = I189 at hw hok ⊢
  refine g_dup hE1 dX4_init_233 rfl ?_
  refine g_bipush hE1 dX4_init_234 (by decide) ?_
  refine g_bipush hE1 dX4_init_236 (by decide) ?_
  obtain ⟨h190, h191, hw⟩ := hw
  refine gx_iast hE hT150 h190 h191 dX4_init_238 ?_ hok
  intro hok
  have hw := hw _ rfl
  generalize uI I189 q145 13 112 = I192 at hw hok ⊢
  refine g_dup hE1 dX4_init_239 rfl ?_
  refine g_bipush hE1 dX4_init_240 (by decide) ?_
  refine g_bipush hE1 dX4_init_242 (by decide) ?_
  obtain ⟨h193, h194, hw⟩ := hw
  refine gx_iast hE hT150 h193 h194 dX4_init_244 ?_ hok
  intro hok
  have hw := hw _ rfl
  generalize uI I192 q145 14 101 = I195 at hw hok ⊢
  refine g_dup hE1 dX4_init_245 rfl ?_
  refine g_bipush hE1 dX4_init_246 (by decide) ?_
  refine g_bipush hE1 dX4_init_248 (by decide) ?_
  obtain ⟨h196, h197, hw⟩ := hw
  refine gx_iast hE hT150 h196 h197 dX4_init_250 ?_ hok
  intro hok
  have hw := hw _ rfl
  generalize uI I195 q145 15 101 = I198 at hw hok ⊢
  refine g_dup hE1 dX4_init_251 rfl ?_
  refine g_bipush hE1 dX4_init_252 (by decide) ?_
  refine g_bipush hE1 dX4_init_254 (by decide) ?_
  obtain ⟨h199, h200, hw⟩ := hw
  refine gx_iast hE hT150 h199 h200 dX4_init_256 ?_ hok
  intro hok
  have hw := hw _ rfl
  generalize uI I198 q145 16 100 = I201 at hw hok ⊢
  refine g_dup hE1 dX4_init_257 rfl ?_
  refine g_bipush hE1 dX4_init_258 (by decide) ?_
  refine g_bipush hE1 dX4_init_260 (by decide) ?_
  obtain ⟨h202, h203, hw⟩ := hw
  refine gx_iast hE hT150 h202 h203 dX4_init_262 ?_ hok
  intro hok
  have hw := hw _ rfl
  generalize uI I201 q145 17 32 = I204 at hw hok ⊢
  refine g_dup hE1 dX4_init_263 rfl ?_
  refine g_bipush hE1 dX4_init_264 (by decide) ?_
  refine g_bipush hE1 dX4_init_266 (by decide) ?_
  obtain ⟨h205, h206, hw⟩ := hw
  refine gx_iast hE hT150 h205 h206 dX4_init_268 ?_ hok
  intro hok
  have hw := hw _ rfl
  generalize uI I204 q145 18 112 = I207 at hw hok ⊢
  refine g_dup hE1 dX4_init_269 rfl ?_
  refine g_bipush hE1 dX4_init_270 (by decide) ?_
  refine g_bipush hE1 dX4_init_272 (by decide) ?_
  obtain ⟨h208, h209, hw⟩ := hw
  refine gx_iast hE hT150 h208 h209 dX4_init_274 ?_ hok
  intro hok
  have hw := hw _ rfl
  generalize uI I207 q145 19 97 = I210 at hw hok ⊢
  refine g_dup hE1 dX4_init_275 rfl ?_
  refine g_bipush hE1 dX4_init_276 (by decide) ?_
  refine g_bipush hE1 dX4_init_278 (by decide) ?_
  obtain ⟨h211, h212, hw⟩ := hw
  refine gx_iast hE hT150 h211 h212 dX4_init_280 ?_ hok
  intro hok
  have hw := hw _ rfl
  generalize uI I210 q145 20 103 = I213 at hw hok ⊢
  refine g_dup hE1 dX4_init_281 rfl ?_
  refine g_bipush hE1 dX4_init_282 (by decide) ?_
  refine g_bipush hE1 dX4_init_284 (by decide) ?_
  obtain ⟨h214, h215, hw⟩ := hw
  refine gx_iast hE hT150 h214 h215 dX4_init_286 ?_ hok
  intro hok
  have hw := hw _ rfl
  generalize uI I213 q145 21 101 = I216 at hw hok ⊢
  refine g_dup hE1 dX4_init_287 rfl ?_
  refine g_bipush hE1 dX4_init_288 (by decide) ?_
  refine g_bipush hE1 dX4_init_290 (by decide) ?_
  obtain ⟨h217, h218, hw⟩ := hw
  refine gx_iast hE hT150 h217 h218 dX4_init_292 ?_ hok
  intro hok
  have hw := hw _ rfl
  generalize uI I216 q145 22 32 = I219 at hw hok ⊢
  refine g_dup hE1 dX4_init_293 rfl ?_
  refine g_bipush hE1 dX4_init_294 (by decide) ?_
  refine g_bipush hE1 dX4_init_296 (by decide) ?_
  obtain ⟨h220, h221, hw⟩ := hw
  refine gx_iast hE hT150 h220 h221 dX4_init_298 ?_ hok
  intro hok
  have hw := hw _ rfl
  generalize uI I219 q145 23 32 = I222 at hw hok ⊢
  refine g_dup hE1 dX4_init_299 rfl ?_
  refine g_bipush hE1 dX4_init_300 (by decide) ?_
  refine g_bipush hE1 dX4_init_302 (by decide) ?_
  obtain ⟨h223, h224, hw⟩ := hw
  refine gx_iast hE hT150 h223 h224 dX4_init_304 ?_ hok
  intro hok
  have hw := hw _ rfl
  generalize uI I222 q145 24 101 = I225 at hw hok ⊢
  refine g_dup hE1 dX4_init_305 rfl ?_
  refine g_bipush hE1 dX4_init_306 (by decide) ?_
  refine g_bipush hE1 dX4_init_308 (by decide) ?_
  obtain ⟨h226, h227, hw⟩ := hw
  refine gx_iast hE hT150 h226 h227 dX4_init_310 ?_ hok
  intro hok
  have hw := hw _ rfl
  generalize uI I225 q145 25 110 = I228 at hw hok ⊢
  refine g_dup hE1 dX4_init_311 rfl ?_
  refine g_bipush hE1 dX4_init_312 (by decide) ?_
  refine g_bipush hE1 dX4_init_314 (by decide) ?_
  obtain ⟨h229, h230, hw⟩ := hw
  refine gx_iast hE hT150 h229 h230 dX4_init_316 ?_ hok
  intro hok
  have hw := hw _ rfl
  generalize uI I228 q145 26 116 = I231 at hw hok ⊢
  refine g_dup hE1 dX4_init_317 rfl ?_
  refine g_bipush hE1 dX4_init_318 (by decide) ?_
  refine g_bipush hE1 dX4_init_320 (by decide) ?_
  obtain ⟨h232, h233, hw⟩ := hw
  refine gx_iast hE hT150 h232 h233 dX4_init_322 ?_ hok
  intro hok
  have hw := hw _ rfl
  generalize uI I231 q145 27 114 = I234 at hw hok ⊢
  refine g_dup hE1 dX4_init_323 rfl ?_
  refine g_bipush hE1 dX4_init_324 (by decide) ?_
  refine g_bipush hE1 dX4_init_326 (by decide) ?_
  obtain ⟨h235, h236, hw⟩ := hw
  refine gx_iast hE hT150 h235 h236 dX4_init_328 ?_ hok
  intro hok
  have hw := hw _ rfl
  generalize uI I234 q145 28 121 = I237 at hw hok ⊢
  refine g_dup hE1 dX4_init_329 rfl ?_
  refine g_bipush hE1 dX4_init_330 (by decide) ?_
  refine g_bipush hE1 dX4_init_332 (by decide) ?_
  obtain ⟨h238, h239, hw⟩ := hw
  refine gx_iast hE hT150 h238 h239 dX4_init_334 ?_ hok
  intro hok
  have hw := hw _ rfl
  generalize uI I237 q145 29 32 = I240 at hw hok ⊢
  refine g_dup hE1 dX4_init_335 rfl ?_
  refine g_bipush hE1 dX4_init_336 (by decide) ?_
  refine g_bipush hE1 dX4_init_338 (by decide) ?_
  obtain ⟨h241, h242, hw⟩ := hw
  refine gx_iast hE hT150 h241 h242 dX4_init_340 ?_ hok
  intro hok
  have hw := hw _ rfl
  generalize uI I240 q145 30 114 = I243 at hw hok ⊢
  refine g_dup hE1 dX4_init_341 rfl ?_
  refine g_bipush hE1 dX4_init_342 (by decide) ?_
  refine g_bipush hE1 dX4_init_344 (by decide) ?_
  obtain ⟨h244, h245, hw⟩ := hw
  refine gx_iast hE hT150 h244 h245 dX4_init_346 ?_ hok
  intro hok
  have hw := hw _ rfl
  generalize uI I243 q145 31 101 = I246 at hw hok ⊢
  refine g_dup hE1 dX4_init_347 rfl ?_
  refine g_bipush hE1 dX4_init_348 (by decide) ?_
  refine g_bipush hE1 dX4_init_350 (by decide) ?_
  obtain ⟨h247, h248, hw⟩ := hw
  refine gx_iast hE hT150 h247 h248 dX4_init_352 ?_ hok
  intro hok
  have hw := hw _ rfl
  generalize uI I246 q145 32 97 = I249 at hw hok ⊢
  refine g_dup hE1 dX4_init_353 rfl ?_
  refine g_bipush hE1 dX4_init_354 (by decide) ?_
  refine g_bipush hE1 dX4_init_356 (by decide) ?_
  obtain ⟨h250, h251, hw⟩ := hw
  refine gx_iast hE hT150 h250 h251 dX4_init_358 ?_ hok
  intro hok
  have hw := hw _ rfl
  generalize uI I249 q145 33 100 = I252 at hw hok ⊢
  refine g_dup hE1 dX4_init_359 rfl ?_
  refine g_bipush hE1 dX4_init_360 (by decide) ?_
  refine g_bipush hE1 dX4_init_362 (by decide) ?_
  obtain ⟨h253, h254, hw⟩ := hw
  refine gx_iast hE hT150 h253 h254 dX4_init_364 ?_ hok
  intro hok
  have hw := hw _ rfl
  generalize uI I252 q145 34 32 = I255 at hw hok ⊢
  refine g_dup hE1 dX4_init_365 rfl ?_
  refine g_bipush hE1 dX4_init_366 (by decide) ?_
  refine g_bipush hE1 dX4_init_368 (by decide) ?_
  obtain ⟨h256, h257, hw⟩ := hw
  refine gx_iast hE hT150 h256 h257 dX4_init_370 ?_ hok
  intro hok
  have hw := hw _ rfl
  generalize uI I255 q145 35 32 = I258 at hw hok ⊢
  refine g_dup hE1 dX4_init_371 rfl ?_
  refine g_bipush hE1 dX4_init_372 (by decide) ?_
  refine g_bipush hE1 dX4_init_374 (by decide) ?_
  obtain ⟨h259, h260, hw⟩ := hw
  refine gx_iast hE hT150 h259 h260 dX4_init_376 ?_ hok
  intro hok
  have hw := hw _ rfl
  generalize uI I258 q145 36 115 = I261 at hw hok ⊢
  refine g_dup hE1 dX4_init_377 rfl ?_
  refine g_bipush hE1 dX4_init_378 (by decide) ?_
  refine g_bipush hE1 dX4_init_380 (by decide) ?_
  obtain ⟨h262, h263, hw⟩ := hw
  refine gx_iast hE hT150 h262 h263 dX4_init_382 ?_ hok
  intro hok
  have hw := hw _ rfl
  generalize uI I261 q145 37 116 = I264 at hw hok ⊢
  refine g_dup hE1 dX4_init_383 rfl ?_
  refine g_bipush hE1 dX4_init_384 (by decide) ?_
  refine g_bipush hE1 dX4_init_386 (by decide) ?_
  obtain ⟨h265, h266, hw⟩ := hw
  refine gx_iast hE hT150 h265 h266 dX4_init_388 ?_ hok
  intro hok
  have hw := hw _ rfl
  generalize uI I264 q145 38 114 = I267 at hw hok ⊢
  refine g_dup hE1 dX4_init_389 rfl ?_
  refine g_bipush hE1 dX4_init_390 (by decide) ?_
  refine g_bipush hE1 dX4_init_392 (by decide) ?_
  obtain ⟨h268, h269, hw⟩ := hw
  refine gx_iast hE hT150 h268 h269 dX4_init_394 ?_ hok
  intro hok
  have hw := hw _ rfl
  generalize uI I267 q145 39 105 = I270 at hw hok ⊢
  refine g_dup hE1 dX4_init_395 rfl ?_
  refine g_bipush hE1 dX4_init_396 (by decide) ?_
  refine g_bipush hE1 dX4_init_398 (by decide) ?_
  obtain ⟨h271, h272, hw⟩ := hw
  refine gx_iast hE hT150 h271 h272 dX4_init_400 ?_ hok
  intro hok
  have hw := hw _ rfl
  generalize uI I270 q145 40 107 = I273 at hw hok ⊢
  refine g_dup hE1 dX4_init_401 rfl ?_
  refine g_bipush hE1 dX4_init_402 (by decide) ?_
  refine g_bipush hE1 dX4_init_404 (by decide) ?_
  obtain ⟨h274, h275, hw⟩ := hw
  refine gx_iast hE hT150 h274 h275 dX4_init_406 ?_ hok
  intro hok
  have hw := hw _ rfl
  generalize uI I273 q145 41 101 = I276 at hw hok ⊢
  refine g_dup hE1 dX4_init_407 rfl ?_
  refine g_bipush hE1 dX4_init_408 (by decide) ?_
  refine g_bipush hE1 dX4_init_410 (by decide) ?_
  obtain ⟨h277, h278, hw⟩ := hw
  refine gx_iast hE hT150 h277 h278 dX4_init_412 ?_ hok
  intro hok
  have hw := hw _ rfl
  generalize uI I276 q145 42 98 = I279 at hw hok ⊢
  refine g_dup hE1 dX4_init_413 rfl ?_
  refine g_bipush hE1 dX4_init_414 (by decide) ?_
  refine g_bipush hE1 dX4_init_416 (by decide) ?_
  obtain ⟨h280, h281, hw⟩ := hw
  refine gx_iast hE hT150 h280 h281 dX4_init_418 ?_ hok
  intro hok
  have hw := hw _ rfl
  generalize uI I279 q145 43 108 = I282 at hw hok ⊢
  refine g_dup hE1 dX4_init_419 rfl ?_
  refine g_bipush hE1 dX4_init_420 (by decide) ?_
  refine g_bipush hE1 dX4_init_422 (by decide) ?_
  obtain ⟨h283, h284, hw⟩ := hw
  refine gx_iast hE hT150 h283 h284 dX4_init_424 ?_ hok
  intro hok
  have hw := hw _ rfl
  generalize uI I282 q145 44 97 = I285 at hw hok ⊢
  refine g_dup hE1 dX4_init_425 rfl ?_
  refine g_bipush hE1 dX4_init_426 (by decide) ?_
  refine g_bipush hE1 dX4_init_428 (by decide) ?_
  obtain ⟨h286, h287, hw⟩ := hw
  refine gx_iast hE hT150 h286 h287 dX4_init_430 ?_ hok
  intro hok
  have hw := hw _ rfl
  generalize uI I285 q145 45 109 = I288 at hw hok ⊢
  refine g_dup hE1 dX4_init_431 rfl ?_
  refine g_bipush hE1 dX4_init_432 (by decide) ?_
  refine g_bipush hE1 dX4_init_434 (by decide) ?_
  obtain ⟨h289, h290, hw⟩ := hw
  refine gx_iast hE hT150 h289 h290 dX4_init_436 ?_ hok
  intro hok
  have hw := hw _ rfl
  generalize uI I288 q145 46 101 = I291 at hw hok ⊢
  refine g_dup hE1 dX4_init_437 rfl ?_
  refine g_bipush hE1 dX4_init_438 (by decide) ?_
  refine g_bipush hE1 dX4_init_440 (by decide) ?_
  obtain ⟨h292, h293, hw⟩ := hw
  refine gx_iast hE hT150 h292 h293 dX4_init_442 ?_ hok
  intro hok
  have hw := hw _ rfl
  generalize uI I291 q145 47 32 = I294 at hw hok ⊢
  have ht295 := (((((((((((((((((hl13.tr hl21).tr hl29).tr hl37).tr hl45).tr hl53).tr hl61).tr hl69).tr hl77).tr hl85).tr hl93).tr hl101).tr hl109).tr hl117).tr hl125).tr hl133).tr hl141).tr hl149).tag ht7 (by decide)
  refine gx_putrF hE in_X4 (t := 26) rfl (by decide) 25 25 rfl (by decide) rfl (by decide) (ty := tyX4 25) tyX4 tyX4_ok nmX4 rfl q2165 (Or.inl rfl) rfl hI rfl (tyX4_ok 25 (by decide)) nar_a fit_a ht295 dX4_init_443 ?_ hok
  intro hok
  have hw := hw _ rfl
  generalize uR R144 o 25 (some q145) = R296 at hw hok ⊢
  refine g_aldn0 hE1 dX4_init_446 ?_
  refine g_bipush hE1 dX4_init_447 (by decide) ?_
  refine gx_newa_int hE hRm (N := 32) q249 rfl (by decide) (by decide) (by decide) dX4_init_449 (fun q297 hq298 hbs299 => ?_) hok
  intro hok
  have hw := hw q297 hq298 hbs299 _ rfl
  have hl301 := tle.new (T := T148) (q := q297) (t := 100) (n := 32) hq298
  have hT302 : xtag (xnew T148 q297 100 32) q297 = 100 := if_pos rfl
  generalize xnew T148 q297 100 32 = T300 at hw hl301 hok hT302 ⊢
  refine g_dup hE1 dX4_init_451 rfl ?_
  refine g_iconst hE1 dX4_init_452 ?_
  refine g_bipush hE1 dX4_init_453 (by decide) ?_
  obtain ⟨h303, h304, hw⟩ := hw
  refine gx_iast hE hT302 h303 h304 dX4_init_455 ?_ hok
  intro hok
  have hw := hw _ rfl
  generalize uI I294 q297 0 99 = I305 at hw hok ⊢
  refine g_dup hE1 dX4_init_456 rfl ?_
  refine g_iconst hE1 dX4_init_457 ?_
  refine g_bipush hE1 dX4_init_458 (by decide) ?_
  obtain ⟨h306, h307, hw⟩ := hw
  refine gx_iast hE hT302 h306 h307 dX4_init_460 ?_ hok
  intro hok
  have hw := hw _ rfl
  generalize uI I305 q297 1 32 = I308 at hw hok ⊢
  refine g_dup hE1 dX4_init_461 rfl ?_
  refine g_iconst hE1 dX4_init_462 ?_
  refine g_bipush hE1 dX4_init_463 (by decide) ?_
  obtain ⟨h309, h310, hw⟩ := hw
  refine gx_iast hE hT302 h309 h310 dX4_init_465 ?_ hok
  intro hok
  have hw := hw _ rfl
  generalize uI I308 q297 2 32 = I311 at hw hok ⊢
  refine g_dup hE1 dX4_init_466 rfl ?_
  refine g_iconst hE1 dX4_init_467 ?_
  refine g_bipush hE1 dX4_init_468 (by decide) ?_
  obtain ⟨h312, h313, hw⟩ := hw
  refine gx_iast hE hT302 h312 h313 dX4_init_470 ?_ hok
  intro hok
  have hw := hw _ rfl
  generalize uI I311 q297 3 32 = I314 at hw hok ⊢
  refine g_dup hE1 dX4_init_471 rfl ?_
  refine g_iconst hE1 dX4_init_472 ?_
  refine g_bipush hE1 dX4_init_473 (by decide) ?_
  obtain ⟨h315, h316, hw⟩ := hw
  refine gx_iast hE hT302 h315 h316 dX4_init_475 ?_ hok
  intro hok
  have hw := hw _ rfl
  generalize uI I314 q297 4 99 = I317 at hw hok ⊢
  refine g_dup hE1 dX4_init_476 rfl ?_
  refine g_iconst hE1 dX4_init_477 ?_
  refine g_bipush hE1 dX4_init_478 (by decide) ?_
  obtain ⟨h318, h319, hw⟩ := hw
  refine gx_iast hE hT302 h318 h319 dX4_init_480 ?_ hok
  intro hok
  have hw := hw _ rfl
  generalize uI I317 q297 5 32 = I320 at hw hok ⊢
  refine g_dup hE1 dX4_init_481 rfl ?_
  refine g_bipush hE1 dX4_init_482 (by decide) ?_
  refine g_bipush hE1 dX4_init_484 (by decide) ?_
  obtain ⟨h321, h322, hw⟩ := hw
  refine gx_iast hE hT302 h321 h322 dX4_init_486 ?_ hok
  intro hok
  have hw := hw _ rfl
  generalize uI I320 q297 6 32 = I323 at hw hok ⊢
  refine g_dup hE1 dX4_init_487 rfl ?_
  refine g_bipush hE1 dX4_init_488 (by decide) ?_
  refine g_bipush hE1 dX4_init_490 (by decide) ?_
  obtain ⟨h324, h325, hw⟩ := hw
  refine gx_iast hE hT302 h324 h325 dX4_init_492 ?_ hok
  intro hok
  have hw := hw _ rfl
  generalize uI I323 q297 7 32 = I326 at hw hok ⊢
  refine g_dup hE1 dX4_init_493 rfl ?_
  refine g_bipush hE1 dX4_init_494 (by decide) ?_
  refine g_bipush hE1 dX4_init_496 (by decide) ?_
  obtain ⟨h327, h328, hw⟩ := hw
  refine gx_iast hE hT302 h327 h328 dX4_init_498 ?_ hok
  intro hok
  have hw := hw _ rfl
  generalize uI I326 q297 8 110 = I329 at hw hok ⊢
  refine g_dup hE1 dX4_init_499 rfl ?_
  refine g_bipush hE1 dX4_init_500 (by decide) ?_
  refine g_bipush hE1 dX4_init_502 (by decide) ?_
  obtain ⟨h330, h331, hw⟩ := hw
  refine gx_iast hE hT302 h330 h331 dX4_init_504 ?_ hok
  intro hok
  have hw := hw _ rfl
  generalize uI I329 q297 9 32 = I332 at hw hok ⊢
  refine g_dup hE1 dX4_init_505 rfl ?_
  refine g_bipush hE1 dX4_init_506 (by decide) ?_
  refine g_bipush hE1 dX4_init_508 (by decide) ?_
  obtain ⟨h333, h334, hw⟩ := hw
  refine gx_iast hE hT302 h333 h334 dX4_init_510 ?_ hok
  intro hok
  have hw := hw _ rfl
  generalize uI I332 q297 10 32 = I335 at hw hok ⊢
  refine g_dup hE1 dX4_init_511 rfl ?_
  refine g_bipush hE1 dX4_init_512 (by decide) ?_
  refine g_bipush hE1 dX4_init_514 (by decide) ?_
  obtain ⟨h336, h337, hw⟩ := hw
  refine gx_iast hE hT302 h336 h337 dX4_init_516 ?_ hok
  intro hok
  have hw := hw _ rfl
  generalize uI I335 q297 11 32 = I338 at hw hok ⊢
  refine g_dup hE1 dX4_init_517 rfl ?_
  refine g_bipush hE1 dX4_init_518 (by decide) ?_
  refine g_bipush hE1 dX4_init_520 (by decide) ?_
  obtain ⟨h339, h340, hw⟩ := hw
  refine gx_iast hE hT302 h339 h340 dX4_init_522 ?_ hok
  intro hok
  have hw := hw _ rfl
  generalize uI I338 q297 12 110 = I341 at hw hok ⊢
  refine g_dup hE1 dX4_init_523 rfl ?_
  refine g_bipush hE1 dX4_init_524 (by decide) ?_
  refine g_bipush hE1 dX4_init_526 (by decide) ?_
  obtain ⟨h342, h343, hw⟩ := hw
  refine gx_iast hE hT302 h342 h343 dX4_init_528 ?_ hok
  intro hok
  have hw := hw _ rfl
  generalize uI I341 q297 13 110 = I344 at hw hok ⊢
  refine g_dup hE1 dX4_init_529 rfl ?_
  refine g_bipush hE1 dX4_init_530 (by decide) ?_
  refine g_bipush hE1 dX4_init_532 (by decide) ?_
  obtain ⟨h345, h346, hw⟩ := hw
  refine gx_iast hE hT302 h345 h346 dX4_init_534 ?_ hok
  intro hok
  have hw := hw _ rfl
  generalize uI I344 q297 14 32 = I347 at hw hok ⊢
  refine g_dup hE1 dX4_init_535 rfl ?_
  refine g_bipush hE1 dX4_init_536 (by decide) ?_
  refine g_bipush hE1 dX4_init_538 (by decide) ?_
  obtain ⟨h348, h349, hw⟩ := hw
  refine gx_iast hE hT302 h348 h349 dX4_init_540 ?_ hok
  intro hok
  have hw := hw _ rfl
  generalize uI I347 q297 15 32 = I350 at hw hok ⊢
  refine g_dup hE1 dX4_init_541 rfl ?_
  refine g_bipush hE1 dX4_init_542 (by decide) ?_
  refine g_bipush hE1 dX4_init_544 (by decide) ?_
  obtain ⟨h351, h352, hw⟩ := hw
  refine gx_iast hE hT302 h351 h352 dX4_init_546 ?_ hok
  intro hok
  have hw := hw _ rfl
  generalize uI I350 q297 16 100 = I353 at hw hok ⊢
  refine g_dup hE1 dX4_init_547 rfl ?_
  refine g_bipush hE1 dX4_init_548 (by decide) ?_
  refine g_bipush hE1 dX4_init_550 (by decide) ?_
  obtain ⟨h354, h355, hw⟩ := hw
  refine gx_iast hE hT302 h354 h355 dX4_init_552 ?_ hok
  intro hok
  have hw := hw _ rfl
  generalize uI I353 q297 17 110 = I356 at hw hok ⊢
  refine g_dup hE1 dX4_init_553 rfl ?_
  refine g_bipush hE1 dX4_init_554 (by decide) ?_
  refine g_bipush hE1 dX4_init_556 (by decide) ?_
  obtain ⟨h357, h358, hw⟩ := hw
  refine gx_iast hE hT302 h357 h358 dX4_init_558 ?_ hok
  intro hok
  have hw := hw _ rfl
  generalize uI I356 q297 18 99 = I359 at hw hok ⊢
  refine g_dup hE1 dX4_init_559 rfl ?_
  refine g_bipush hE1 dX4_init_560 (by decide) ?_
  refine g_bipush hE1 dX4_init_562 (by decide) ?_
  obtain ⟨h360, h361, hw⟩ := hw
  refine gx_iast hE hT302 h360 h361 dX4_init_564 ?_ hok
  intro hok
  have hw := hw _ rfl
  generalize uI I359 q297 19 100 = I362 at hw hok ⊢
  refine g_dup hE1 dX4_init_565 rfl ?_
  refine g_bipush hE1 dX4_init_566 (by decide) ?_
  refine g_bipush hE1 dX4_init_568 (by decide) ?_
  obtain ⟨h363, h364, hw⟩ := hw
  refine gx_iast hE hT302 h363 h364 dX4_init_570 ?_ hok
  intro hok
  have hw := hw _ rfl
  generalize uI I362 q297 20 100 = I365 at hw hok ⊢
  refine g_dup hE1 dX4_init_571 rfl ?_
  refine g_bipush hE1 dX4_init_572 (by decide) ?_
  refine g_bipush hE1 dX4_init_574 (by decide) ?_
  obtain ⟨h366, h367, hw⟩ := hw
  refine gx_iast hE hT302 h366 h367 dX4_init_576 ?_ hok
  intro hok
  have hw := hw _ rfl
  generalize uI I365 q297 21 100 = I368 at hw hok ⊢
  refine g_dup hE1 dX4_init_577 rfl ?_
  refine g_bipush hE1 dX4_init_578 (by decide) ?_
  refine g_bipush hE1 dX4_init_580 (by decide) ?_
  obtain ⟨h369, h370, hw⟩ := hw
  refine gx_iast hE hT302 h369 h370 dX4_init_582 ?_ hok
  intro hok
  have hw := hw _ rfl
  generalize uI I368 q297 22 32 = I371 at hw hok ⊢
  refine g_dup hE1 dX4_init_583 rfl ?_
  refine g_bipush hE1 dX4_init_584 (by decide) ?_
  refine g_bipush hE1 dX4_init_586 (by decide) ?_
  obtain ⟨h372, h373, hw⟩ := hw
  refine gx_iast hE hT302 h372 h373 dX4_init_588 ?_ hok
  intro hok
  have hw := hw _ rfl
  generalize uI I371 q297 23 32 = I374 at hw hok ⊢
  refine g_dup hE1 dX4_init_589 rfl ?_
  refine g_bipush hE1 dX4_init_590 (by decide) ?_
  refine g_bipush hE1 dX4_init_592 (by decide) ?_
  obtain ⟨h375, h376, hw⟩ := hw
  refine gx_iast hE hT302 h375 h376 dX4_init_594 ?_ hok
  intro hok
  have hw := hw _ rfl
  generalize uI I374 q297 24 100 = I377 at hw hok ⊢
  refine g_dup hE1 dX4_init_595 rfl ?_
  refine g_bipush hE1 dX4_init_596 (by decide) ?_
  refine g_bipush hE1 dX4_init_598 (by decide) ?_
  obtain ⟨h378, h379, hw⟩ := hw
  refine gx_iast hE hT302 h378 h379 dX4_init_600 ?_ hok
  intro hok
  have hw := hw _ rfl
  generalize uI I377 q297 25 100 = I380 at hw hok ⊢
  refine g_dup hE1 dX4_init_601 rfl ?_
  refine g_bipush hE1 dX4_init_602 (by decide) ?_
  refine g_bipush hE1 dX4_init_604 (by decide) ?_
  obtain ⟨h381, h382, hw⟩ := hw
  refine gx_iast hE hT302 h381 h382 dX4_init_606 ?_ hok
  intro hok
  have hw := hw _ rfl
  generalize uI I380 q297 26 32 = I383 at hw hok ⊢
  refine g_dup hE1 dX4_init_607 rfl ?_
  refine g_bipush hE1 dX4_init_608 (by decide) ?_
  refine g_bipush hE1 dX4_init_610 (by decide) ?_
  obtain ⟨h384, h385, hw⟩ := hw
  refine gx_iast hE hT302 h384 h385 dX4_init_612 ?_ hok
  intro hok
  have hw := hw _ rfl
  generalize uI I383 q297 27 32 = I386 at hw hok ⊢
  refine g_dup hE1 dX4_init_613 rfl ?_
  refine g_bipush hE1 dX4_init_614 (by decide) ?_
  refine g_bipush hE1 dX4_init_616 (by decide) ?_
  obtain ⟨h387, h388, hw⟩ := hw
  refine gx_iast hE hT302 h387 h388 dX4_init_618 ?_ hok
  intro hok
  have hw := hw _ rfl
  generalize uI I386 q297 28 100 = I389 at hw hok ⊢
  refine g_dup hE1 dX4_init_619 rfl ?_
  refine g_bipush hE1 dX4_init_620 (by decide) ?_
  refine g_bipush hE1 dX4_init_622 (by decide) ?_
  obtain ⟨h390, h391, hw⟩ := hw
  refine gx_iast hE hT302 h390 h391 dX4_init_624 ?_ hok
  intro hok
  have hw := hw _ rfl
  generalize uI I389 q297 29 32 = I392 at hw hok ⊢
  refine g_dup hE1 dX4_init_625 rfl ?_
  refine g_bipush hE1 dX4_init_626 (by decide) ?_
  refine g_bipush hE1 dX4_init_628 (by decide) ?_
  obtain ⟨h393, h394, hw⟩ := hw
  refine gx_iast hE hT302 h393 h394 dX4_init_630 ?_ hok
  intro hok
  have hw := hw _ rfl
  generalize uI I392 q297 30 32 = I395 at hw hok ⊢
  refine g_dup hE1 dX4_init_631 rfl ?_
  refine g_bipush hE1 dX4_init_632 (by decide) ?_
  refine g_bipush hE1 dX4_init_634 (by decide) ?_
  obtain ⟨h396, h397, hw⟩ := hw
  refine gx_iast hE hT302 h396 h397 dX4_init_636 ?_ hok
  intro hok
  have hw := hw _ rfl
  generalize uI I395 q297 31 32 = I398 at hw hok ⊢
  have ht399 := ((((((((((((((((((hl13.tr hl21).tr hl29).tr hl37).tr hl45).tr hl53).tr hl61).tr hl69).tr hl77).tr hl85).tr hl93).tr hl101).tr hl109).tr hl117).tr hl125).tr hl133).tr hl141).tr hl149).tr hl301).tag ht7 (by decide)
  refine gx_putrF hE in_X4 (t := 26) rfl (by decide) 26 26 rfl (by decide) rfl (by decide) (ty := tyX4 26) tyX4 tyX4_ok nmX4 rfl q2166 (Or.inl rfl) rfl hI rfl (tyX4_ok 26 (by decide)) nar_a fit_a ht399 dX4_init_637 ?_ hok
  intro hok
  have hw := hw _ rfl
  generalize uR R296 o 26 (some q297) = R400 at hw hok ⊢
  refine g_aldn0 hE1 dX4_init_640 ?_
  refine g_bipush hE1 dX4_init_641 (by decide) ?_
  refine gx_newa_int hE hRm (N := 40) q249 rfl (by decide) (by decide) (by decide) dX4_init_643 (fun q401 hq402 hbs403 => ?_) hok
  intro hok
  have hw := hw q401 hq402 hbs403 _ rfl
  have hl405 := tle.new (T := T300) (q := q401) (t := 100) (n := 40) hq402
  have hT406 : xtag (xnew T300 q401 100 40) q401 = 100 := if_pos rfl
  generalize xnew T300 q401 100 40 = T404 at hw hl405 hok hT406 ⊢
  have ht407 := (((((((((((((((((((hl13.tr hl21).tr hl29).tr hl37).tr hl45).tr hl53).tr hl61).tr hl69).tr hl77).tr hl85).tr hl93).tr hl101).tr hl109).tr hl117).tr hl125).tr hl133).tr hl141).tr hl149).tr hl301).tr hl405).tag ht7 (by decide)
  refine gx_putrF hE in_X4 (t := 26) rfl (by decide) 32 32 rfl (by decide) rfl (by decide) (ty := tyX4 32) tyX4 tyX4_ok nmX4 rfl q2172 (Or.inl rfl) rfl hI rfl (tyX4_ok 32 (by decide)) nar_a fit_a ht407 dX4_init_645 ?_ hok
  intro hok
  have hw := hw _ rfl
  generalize uR R400 o 32 (some q401) = R408 at hw hok ⊢
  refine g_aldn0 hE1 dX4_init_648 ?_
  refine gx_getr hE in_X4 (t := 26) rfl (by decide) 0 0 rfl (by decide) rfl (by decide) rfl q2140 (Or.inl rfl) ht407 dX4_init_649 ?_ hok
  intro hok
  refine g_iconst hE1 dX4_init_652 ?_
  refine g_iconst hE1 dX4_init_653 ?_
  obtain ⟨b409, hb410, hw⟩ := hw
  rw [hb410]
  obtain ⟨ht411, hw⟩ := hw
  obtain ⟨h412, h413, hw⟩ := hw
  refine gx_iast hE ht411 h412 h413 dX4_init_654 ?_ hok
  intro hok
  have hw := hw _ rfl
  generalize uI I398 b409 0 3 = I414 at hw hok ⊢
  refine g_aldn0 hE1 dX4_init_655 ?_
  refine gx_getr hE in_X4 (t := 26) rfl (by decide) 0 0 rfl (by decide) rfl (by decide) rfl q2140 (Or.inl rfl) ht407 dX4_init_656 ?_ hok
  intro hok
  refine g_iconst hE1 dX4_init_659 ?_
  refine g_bipush hE1 dX4_init_660 (by decide) ?_
  obtain ⟨b415, hb416, hw⟩ := hw
  rw [hb416]
  obtain ⟨ht417, hw⟩ := hw
  obtain ⟨h418, h419, hw⟩ := hw
  refine gx_iast hE ht417 h418 h419 dX4_init_662 ?_ hok
  intro hok
  have hw := hw _ rfl
  generalize uI I414 b415 1 30 = I420 at hw hok ⊢
  refine g_aldn0 hE1 dX4_init_663 ?_
  refine gx_getr hE in_X4 (t := 26) rfl (by decide) 0 0 rfl (by decide) rfl (by decide) rfl q2140 (Or.inl rfl) ht407 dX4_init_664 ?_ hok
  intro hok
  refine g_iconst hE1 dX4_init_667 ?_
  refine g_bipush hE1 dX4_init_668 (by decide) ?_
  obtain ⟨b421, hb422, hw⟩ := hw
  rw [hb422]
  obtain ⟨ht423, hw⟩ := hw
  obtain ⟨h424, h425, hw⟩ := hw
  refine gx_iast hE ht423 h424 h425 dX4_init_670 ?_ hok
  intro hok
  have hw := hw _ rfl
  generalize uI I420 b421 2 50 = I426 at hw hok ⊢
  refine g_aldn0 hE1 dX4_init_671 ?_
  refine gx_getr hE in_X4 (t := 26) rfl (by decide) 0 0 rfl (by decide) rfl (by decide) rfl q2140 (Or.inl rfl) ht407 dX4_init_672 ?_ hok
  intro hok
  refine g_iconst hE1 dX4_init_675 ?_
  refine g_bipush hE1 dX4_init_676 (by decide) ?_
  obtain ⟨b427, hb428, hw⟩ := hw
  rw [hb428]
  obtain ⟨ht429, hw⟩ := hw
  obtain ⟨h430, h431, hw⟩ := hw
  refine gx_iast hE ht429 h430 h431 dX4_init_678 ?_ hok
  intro hok
  have hw := hw _ rfl
  generalize uI I426 b427 3 70 = I432 at hw hok ⊢
  exact gx_vret hE hR dX4_init_679 (by decide) (by decide) ⟨rfl, rfl, ((((((((((((((((((((hl5.tr hl13).tr hl21).tr hl29).tr hl37).tr hl45).tr hl53).tr hl61).tr hl69).tr hl77).tr hl85).tr hl93).tr hl101).tr hl109).tr hl117).tr hl125).tr hl133).tr hl141).tr hl149).tr hl301).tr hl405), hw⟩ hok

