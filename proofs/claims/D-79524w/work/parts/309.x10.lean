set_option maxRecDepth 100000
/-- java/lang/String.<init>(Ljava/lang/StringBuilder;)V -/
def wx_J8_init (X : XT) (o : Nat) (x1 : Option Nat) (T : xT) (I : xI) (R : xR) (L : xL) (Q : xT → xI → xR → Prop) : Prop :=
  wx_J8_init_2 X o x1 none T I R L (fun (T1 : xT) (I2 : xI) (R3 : xR) => tle T T1 → 
  Q T1 I2 R3)
theorem hx_J8_init : yJ8_init.cls ≠ "java/lang/invoke/MethodHandle" ∧ yJ8_init.cls ≠ "java/lang/invoke/VarHandle" ∧ (parseMethodDescriptor yJ8_init.desc).map (fun d => d.parameters.length) = some 1 := by decide +kernel
set_option maxHeartbeats 4000000 in
theorem tx_J8_init (X : XT) {o : Nat} {x1 : Option Nat} {T : xT} {I : xI} {R : xR} {L : xL} {Q : xT → xI → xR → Prop} (hw : wx_J8_init X o x1 T I R L Q) : CtX X yJ8_init cJ8_init 2 none (rmX 3 2 300 110) [aR (some o), aR x1] T I R L (PXvTIR T I R L Q) := by
  refine CtX.intro (by decide) (Nat.le_of_ble_eq_true rfl) (fun E hE hR hN => ?_)
  have hRm := hR.rm
  have hE : OkX E X RJ8 cJ8_init 2 none := hE
  have hE1 := hE.1
  have hI : isInit E := hN
  show GX E X T I R L 0 0 0 [some (aR (some o)), some (aR x1)] []
  unfold wx_J8_init at hw
  intro hok
  refine g_aldn0 hE1 dJ8_init_0 ?_
  refine g_aldn1 hE1 dJ8_init_1 ?_
  refine g_null hE1 dJ8_init_2 ?_
  refine gx_callI hE hRm (As := [aR x1, aR none]) (b := o) hx_J8_init_2 (lw_meth q839) q837 q106 q838 rfl (tx_J8_init_2 X hw) ⟨by decide, by decide⟩ ⟨(by decide), (by decide)⟩ rfl (Nat.le_of_ble_eq_true rfl) dJ8_init_3 rfl (fun r9 T1 I2 R3 Lz hΦ => ?_) hok
  obtain ⟨rfl, rfl, hl4, hw⟩ := hΦ
  have hw := hw hl4
  show GX E X T1 I2 R3 L 2 300 6 [some (aR (some o)), some (aR x1)] []
  intro hok
  exact gx_vret hE hR dJ8_init_6 (by decide) (by decide) ⟨rfl, rfl, hl4, hw⟩ hok

/-- java/lang/StringBuilder.toString()Ljava/lang/String; -/
def wx_J7_toString (X : XT) (o : Nat)  (T : xT) (I : xI) (R : xR) (L : xL) (Q : Option Nat → xT → xI → xR → Prop) : Prop :=
  ∀ q1 : Nat, xtag T q1 = 0 → bsX X ≤ q1 → ∀ T4 : xT, T4 = xnew T q1 25 0 →
  wx_J8_init X q1 (some o) T4 I R L (fun (T7 : xT) (I8 : xI) (R9 : xR) => tle T4 T7 → 
  Q (some q1) T7 I8 R9)
theorem hx_J7_toString : yJ7_toString.cls = RJ7 ∧ yJ7_toString.cls ≠ "java/lang/invoke/MethodHandle" ∧ yJ7_toString.cls ≠ "java/lang/invoke/VarHandle" ∧ (parseMethodDescriptor yJ7_toString.desc).map (fun d => d.parameters.length) = some 0 := by decide +kernel
set_option maxHeartbeats 4000000 in
theorem tx_J7_toString (X : XT) {o : Nat}  {T : xT} {I : xI} {R : xR} {L : xL} {Q : Option Nat → xT → xI → xR → Prop} (hw : wx_J7_toString X o T I R L Q) : CtX X yJ7_toString cJ7_toString 1 (some (.object "java/lang/String")) (rmX 4 3 304 131) [aR (some o)] T I R L (PXqTIR T I R L Q) := by
  refine CtX.intro (by decide) (Nat.le_of_ble_eq_true rfl) (fun E hE hR hN => ?_)
  have hRm := hR.rm
  have hE : OkX E X RJ7 cJ7_toString 1 (some (.object "java/lang/String")) := hE
  have hE1 := hE.1
  show GX E X T I R L 0 0 0 [some (aR (some o))] []
  unfold wx_J7_toString at hw
  intro hok
  refine gx_new hE hRm in_J8 tyJ8 tyJ8_ok (t := 25) rfl (by decide) (by decide) rfl (by decide) q832 q833 q106 (by decide) (by decide) dJ7_toString_0 (fun q1 hq2 hbs3 => ?_) hok
  intro hok
  have hw := hw q1 hq2 hbs3 _ rfl
  have hl5 := tle.new (T := T) (q := q1) (t := 25) (n := 0) hq2
  have hT6 : xtag (xnew T q1 25 0) q1 = 25 := if_pos rfl
  generalize xnew T q1 25 0 = T4 at hw hl5 hok hT6 ⊢
  refine g_dup hE1 dJ7_toString_3 rfl ?_
  refine g_aldn0 hE1 dJ7_toString_4 ?_
  refine gx_callI hE hRm (As := [aR (some o)]) (b := q1) hx_J8_init (lw_meth q836) q834 q106 q835 rfl (tx_J8_init X hw) ⟨by decide, by decide⟩ ⟨(by decide), (by decide)⟩ rfl (Nat.le_of_ble_eq_true rfl) dJ7_toString_5 rfl (fun r9 T7 I8 R9 Lz hΦ => ?_) hok
  obtain ⟨rfl, rfl, hl10, hw⟩ := hΦ
  have hw := hw hl10
  show GX E X T7 I8 R9 L 3 304 8 [some (aR (some o))] [aR (some q1)]
  intro hok
  exact gx_aret hE hR dJ7_toString_8 (by decide) (by decide) (Or.inl ⟨_, rfl⟩) ⟨_, rfl, rfl, (hl5.tr hl10), hw⟩ hok

/-- WhalingLogs$Reader.word()Ljava/lang/String; -/
def wx_X8_word (X : XT) (o : Nat)  (T : xT) (I : xI) (R : xR) (L : xL) (Q : Option Nat → xT → xI → xR → Prop) : Prop :=
  ∀ q1 : Nat, xtag T q1 = 0 → bsX X ≤ q1 → ∀ T4 : xT, T4 = xnew T q1 8 0 →
  wx_J7_init X q1 T4 I R L (fun (T7 : xT) (I8 : xI) (R9 : xR) => tle T4 T7 → 
  lq5 (fun (T_8 : xT) (I_8 : xI) (R_8 : xR) (k_8 : Nat) (n_8 : Nat) (K_8 : xT → xI → xR → Nat → Nat → Prop) =>
    xtag T_8 o = 16 ∧ wx_X8_here X o T_8 I_8 R_8 L (fun (r12 : Int) => 
    wx_X0_isIn X r12 97 122 T_8 I_8 R_8 L (fun (r14 : Int) => 
    cEq r14 0
      (
      k_8 + 3 ≤ 30 ∧ n_8 + 304 ≤ 4500 ∧ wx_J7_toString X q1 T_8 I_8 R_8 L (fun (r19 : Option Nat) (T20 : xT) (I21 : xI) (R22 : xR) => tle T_8 T20 → 
      Q r19 T20 I21 R22))
      (
      wx_X8_here X o T_8 I_8 R_8 L (fun (r24 : Int) => 
      k_8 + 1 ≤ 30 ∧ n_8 + 150 ≤ 4500 ∧ wx_J7_append_2 X q1 (bC r24) T_8 I_8 R_8 L (fun (r29 : Option Nat) (T30 : xT) (I31 : xI) (R32 : xR) => tle T_8 T30 → 
      ∀ I35 : xI, I35 = uI I31 o 1 ((I31 o 1) + 1) →
      K_8 T30 I35 R32 (k_8 + 1) (n_8 + 150))))))) T7 I8 R9 2 20)
theorem hx_X8_word : yX8_word.cls = RX8 ∧ yX8_word.cls ≠ "java/lang/invoke/MethodHandle" ∧ yX8_word.cls ≠ "java/lang/invoke/VarHandle" ∧ (parseMethodDescriptor yX8_word.desc).map (fun d => d.parameters.length) = some 0 := by decide +kernel
set_option maxHeartbeats 4000000 in
theorem tx_X8_word (X : XT) {o : Nat}  {T : xT} {I : xI} {R : xR} {L : xL} {Q : Option Nat → xT → xI → xR → Prop} (hw : wx_X8_word X o T I R L Q) : CtX X yX8_word cX8_word 2 (some (.object "java/lang/String")) (rmX 6 30 4500 176) [aR (some o)] T I R L (PXqTIR T I R L Q) := by
  refine CtX.intro (by decide) (Nat.le_of_ble_eq_true rfl) (fun E hE hR hN => ?_)
  have hRm := hR.rm
  have hE : OkX E X RX8 cX8_word 2 (some (.object "java/lang/String")) := hE
  have hE1 := hE.1
  show GX E X T I R L 0 0 0 [some (aR (some o)), none] []
  unfold wx_X8_word at hw
  intro hok
  refine gx_new hE hRm in_J7 tyJ7 tyJ7_ok (t := 8) rfl (by decide) (by decide) rfl (by decide) q1648 q321 q105 (by decide) (by decide) dX8_word_0 (fun q1 hq2 hbs3 => ?_) hok
  intro hok
  have hw := hw q1 hq2 hbs3 _ rfl
  have hl5 := tle.new (T := T) (q := q1) (t := 8) (n := 0) hq2
  have hT6 : xtag (xnew T q1 8 0) q1 = 8 := if_pos rfl
  generalize xnew T q1 8 0 = T4 at hw hl5 hok hT6 ⊢
  refine g_dup hE1 dX8_word_3 rfl ?_
  refine gx_callI hE hRm (As := []) (b := q1) hx_J7_init (lw_meth q324) q1649 q105 q323 rfl (tx_J7_init X hw) ⟨by decide, by decide⟩ ⟨(by decide), (by decide)⟩ rfl (Nat.le_of_ble_eq_true rfl) dX8_word_4 rfl (fun r9 T7 I8 R9 Lz hΦ => ?_) hok
  obtain ⟨rfl, rfl, hl10, hw⟩ := hΦ
  have hw := hw hl10
  show GX E X T7 I8 R9 L 2 20 7 [some (aR (some o)), none] [aR (some q1)]
  intro hok
  refine g_astn1 hE1 dX8_word_7 (by decide) rfl ?_
  refine lq5_walk (fun (T_8 : xT) (I_8 : xI) (R_8 : xR) (k_8 : Nat) (n_8 : Nat) => tle T7 T_8 → k_8 ≤ 30 → n_8 ≤ 4500 → GX E X T_8 I_8 R_8 L k_8 n_8 8 [some (aR (some o)), some (aR (some q1))] []) (fun K_8 hk_8 T_8 I_8 R_8 k_8 n_8 hw => ?_) _ _ _ _ _ hw tle.rf (by omega) (by omega) hok
  intro hl_8 hkc_8 hnc_8
  intro hok
  refine g_aldn0 hE1 dX8_word_8 ?_
  obtain ⟨ht11, hw⟩ := hw
  refine gx_callV hE hRm (As := []) ht11 (by decide) (by decide) rfl hx_X8_here (tx_X8_here X hw) (lw_V q1650 q1652 qs34 q133 q1653) ⟨by decide, by decide⟩ ⟨(show k_8 + 0 ≤ 30 by omega), (show n_8 + 0 ≤ 4500 by omega)⟩ rfl (Nat.le_of_ble_eq_true rfl) dX8_word_9 rfl (fun r9 Tz Iz Rz Lz hΦ => ?_) hok
  obtain ⟨r12, rfl, rfl, rfl, rfl, rfl, hw⟩ := hΦ
  show GX E X T_8 I_8 R_8 L k_8 n_8 12 [some (aR (some o)), some (aR (some q1))] [aI r12]
  intro hok
  refine g_bipush hE1 dX8_word_12 (by decide) ?_
  refine g_bipush hE1 dX8_word_14 (by decide) ?_
  refine gx_callSN hE hRm (As := [aI r12, aI 97, aI 122]) hx_X0_isIn (tx_X0_isIn X hw) (lw_meth q394) q1697 q94 q393 ⟨by decide, by decide⟩ ⟨(show k_8 + 0 ≤ 30 by omega), (show n_8 + 0 ≤ 4500 by omega)⟩ rfl (Nat.le_of_ble_eq_true rfl) dX8_word_16 rfl (fun r9 Tz Iz Rz Lz hΦ => ?_) hok
  obtain ⟨r14, rfl, rfl, rfl, rfl, rfl, hw⟩ := hΦ
  show GX E X T_8 I_8 R_8 L k_8 n_8 19 [some (aR (some o)), some (aR (some q1))] [aI r14]
  intro hok
  obtain ⟨h36, h37, hT38, hN39⟩ := hw
  refine g_if_eq hE1 (tgt := 45) dX8_word_19 (by decide) h36 (fun q => ?_) (fun q => ?_)
  · have hw := hT38 q
    refine g_aldn1 hE1 dX8_word_45 ?_
    have ht16 := (hl10.tr hl_8).tag hT6 (by decide)
    obtain ⟨hc17, hw⟩ := hw
    obtain ⟨hc18, hw⟩ := hw
    refine gx_callV hE hRm (As := []) ht16 (by decide) (by decide) rfl hx_J7_toString (tx_J7_toString X hw) (lw_V q1699 q829 q830 q105 q831) ⟨by decide, by decide⟩ ⟨hc17, hc18⟩ rfl (Nat.le_of_ble_eq_true rfl) dX8_word_46 rfl (fun r9 T20 I21 R22 Lz hΦ => ?_) hok
    obtain ⟨r19, rfl, rfl, hl23, hw⟩ := hΦ
    have hw := hw hl23
    show GX E X T20 I21 R22 L (k_8 + 3) (n_8 + 304) 49 [some (aR (some o)), some (aR (some q1))] [aR r19]
    intro hok
    exact gx_aret hE hR dX8_word_49 (show k_8 + 3 ≤ 30 by omega) (show n_8 + 304 ≤ 4500 by omega) (Or.inl ⟨_, rfl⟩) ⟨_, rfl, rfl, (((hl5.tr hl10).tr hl_8).tr hl23), hw⟩ hok
  · have hw := hN39 q
    refine g_aldn1 hE1 dX8_word_22 ?_
    refine g_aldn0 hE1 dX8_word_23 ?_
    refine gx_callV hE hRm (As := []) ht11 (by decide) (by decide) rfl hx_X8_here (tx_X8_here X hw) (lw_V q1650 q1652 qs34 q133 q1653) ⟨by decide, by decide⟩ ⟨(show k_8 + 0 ≤ 30 by omega), (show n_8 + 0 ≤ 4500 by omega)⟩ rfl (Nat.le_of_ble_eq_true rfl) dX8_word_24 rfl (fun r9 Tz Iz Rz Lz hΦ => ?_) hok
    obtain ⟨r24, rfl, rfl, rfl, rfl, rfl, hw⟩ := hΦ
    show GX E X T_8 I_8 R_8 L k_8 n_8 27 [some (aR (some o)), some (aR (some q1))] [aI r24, aR (some q1)]
    intro hok
    refine g_i2c hE1 dX8_word_27 ?_
    have ht26 := (hl10.tr hl_8).tag hT6 (by decide)
    obtain ⟨hc27, hw⟩ := hw
    obtain ⟨hc28, hw⟩ := hw
    refine gx_callV hE hRm (As := [aI (bC r24)]) ht26 (by decide) (by decide) rfl hx_J7_append_2 (tx_J7_append_2 X hw) (lw_V q1698 q1594 q1595 q105 q1596) ⟨by decide, by decide⟩ ⟨hc27, hc28⟩ rfl (Nat.le_of_ble_eq_true rfl) dX8_word_28 rfl (fun r9 T30 I31 R32 Lz hΦ => ?_) hok
    obtain ⟨r29, rfl, rfl, hl33, hw⟩ := hΦ
    have hw := hw hl33
    show GX E X T30 I31 R32 L (k_8 + 1) (n_8 + 150) 31 [some (aR (some o)), some (aR (some q1))] [aR r29]
    intro hok
    refine g_pop hE1 dX8_word_31 rfl ?_
    refine g_aldn0 hE1 dX8_word_32 ?_
    refine g_dup hE1 dX8_word_33 rfl ?_
    have ht34 := hl33.tag ht11 (by decide)
    refine gx_geti hE in_X8 (t := 16) rfl (by decide) 1 1 rfl (by decide) rfl (by decide) rfl q1625 (Or.inl rfl) ht34 dX8_word_34 ?_ hok
    intro hok
    refine g_iconst hE1 dX8_word_37 ?_
    refine g_iadd hE1 dX8_word_38 ?_
    refine gx_puti hE in_X8 (t := 16) rfl (by decide) 1 1 rfl (by decide) rfl (by decide) (ty := tyX8 1) tyX8 tyX8_ok nmX8 rfl q1625 (Or.inl rfl) rfl (tyX8_ok 1 (by decide)) rfl rfl ht34 dX8_word_39 ?_ hok
    intro hok
    have hw := hw _ rfl
    generalize uI I31 o 1 ((I31 o 1) + 1) = I35 at hw hok ⊢
    refine g_goto hE1 (tgt := 8) dX8_word_42 (by decide) ?_
    exact hk_8 _ _ _ _ _ hw (hl_8.tr hl33) (by omega) (by omega) hok

/-- java/lang/String.isLatin1()Z -/
def wx_J8_isLatin1 (X : XT) (o : Nat)  (T : xT) (I : xI) (R : xR) (L : xL) (Q : Int → Prop) : Prop :=
  jn1 (fun (y0_18 : Int) => 
      bl y0_18 ∧ Q y0_18)
    (fun (J_18 : Int → Prop) =>
    jn0 (
        J_18 0)
      (fun (J_17 : Prop) =>
      xtag T o = 25 ∧
      cEq (I o 1) 0
        (
        J_18 1)
        (
        J_17)))
theorem hx_J8_isLatin1 : yJ8_isLatin1.cls = RJ8 ∧ yJ8_isLatin1.cls ≠ "java/lang/invoke/MethodHandle" ∧ yJ8_isLatin1.cls ≠ "java/lang/invoke/VarHandle" ∧ (parseMethodDescriptor yJ8_isLatin1.desc).map (fun d => d.parameters.length) = some 0 := by decide +kernel
set_option maxHeartbeats 4000000 in
theorem tx_J8_isLatin1 (X : XT) {o : Nat}  {T : xT} {I : xI} {R : xR} {L : xL} {Q : Int → Prop} (hw : wx_J8_isLatin1 X o T I R L Q) : CtX X yJ8_isLatin1 cJ8_isLatin1 1 (some .boolean) (rmX 0 0 0 0) [aR (some o)] T I R L (PXi T I R L Q) := by
  refine CtX.intro (by decide) (Nat.le_of_ble_eq_true rfl) (fun E hE hR hN => ?_)
  have hRm := hR.rm
  have hE : OkX E X RJ8 cJ8_isLatin1 1 (some .boolean) := hE
  have hE1 := hE.1
  show GX E X T I R L 0 0 0 [some (aR (some o))] []
  unfold wx_J8_isLatin1 at hw
  intro hok
  refine gx_gets_i hE (List.mem_of_getElem? (i := 1) rfl : ("java/lang/String", "COMPACT_STRINGS", "Z", Sum.inl (1 : Int)) ∈ stL) q792 dJ8_isLatin1_0 ?_ hok
  intro hok
  refine jn1_walk (fun (y0_18 : Int) => GX E X T I R L 0 0 18 [some (aR (some o))] [aI y0_18]) hw (fun y0_18 hw => ?_) (fun J_18 hj_18 hw => ?_)
  · intro hok
    obtain ⟨h1, hw⟩ := hw
    exact gx_iret hE hR dJ8_isLatin1_18 (by decide) (by decide) (narrow_bl h1) ⟨_, rfl, rfl, rfl, rfl, rfl, hw⟩ hok
  · skip
    refine jn0_walk (GX E X T I R L 0 0 17 [some (aR (some o))] []) hw (fun  hw => ?_) (fun J_17 hj_17 hw => ?_)
    · intro hok
      refine g_iconst hE1 dJ8_isLatin1_17 ?_
      exact hj_18 _ hw hok
    · skip
      refine g_if_eq hE1 (tgt := 17) dJ8_isLatin1_3 (by decide) (by decide) (fun q => absurd q (by decide)) (fun _ => ?_)
      refine g_aldn0 hE1 dJ8_isLatin1_6 ?_
      obtain ⟨ht2, hw⟩ := hw
      refine gx_getiS hE in_J8 (t := 25) rfl (by decide) 1 1 rfl (by decide) rfl rfl rfl q878 (Or.inl rfl) ht2 dJ8_isLatin1_7 ?_ hok
      intro hok
      obtain ⟨h3, h4, hT5, hN6⟩ := hw
      refine g_if_ne hE1 (tgt := 17) dJ8_isLatin1_10 (by decide) h3 (fun q => ?_) (fun q => ?_)
      · have hw := hT5 q
        refine g_iconst hE1 dJ8_isLatin1_13 ?_
        refine g_goto hE1 (tgt := 18) dJ8_isLatin1_14 (by decide) ?_
        exact hj_18 _ hw hok
      · have hw := hN6 q
        exact hj_17  hw hok

/-- jdk/internal/util/ArraysSupport.signedHashCode(I[BII)I -/
def wx_J22_signedHashCode (X : XT) (x0 : Int) (x1 : Option Nat) (x2 : Int) (x3 : Int) (T : xT) (I : xI) (R : xR) (L : xL) (Q : Int → Prop) : Prop :=
  lq2 (fun (x0_8 : Int) (x5_8 : Int) (K_8 : Int → Int → Prop) =>
    cLt x5_8 (x2 + x3)
      (
      ∃ b1 : Nat, x1 = some b1 ∧ xtag T b1 = 101 ∧ ib x5_8 (xlen T b1) ∧ xlen T b1 < 2147483648 ∧
      K_8 ((31 * x0_8) + (bAnd (I b1 x5_8) 255)) (x5_8 + 1))
      (
      Q x0_8)) x0 x2
theorem hx_J22_signedHashCode : yJ22_signedHashCode.cls ≠ "java/lang/invoke/MethodHandle" ∧ yJ22_signedHashCode.cls ≠ "java/lang/invoke/VarHandle" ∧ (parseMethodDescriptor yJ22_signedHashCode.desc).map (fun d => d.parameters.length) = some 4 := by decide +kernel
set_option maxHeartbeats 4000000 in
theorem tx_J22_signedHashCode (X : XT) {x0 : Int} {x1 : Option Nat} {x2 : Int} {x3 : Int} {T : xT} {I : xI} {R : xR} {L : xL} {Q : Int → Prop} (hw : wx_J22_signedHashCode X x0 x1 x2 x3 T I R L Q) : CtX X yJ22_signedHashCode cJ22_signedHashCode 6 (some .int) (rmX 0 0 0 0) [aI x0, aR x1, aI x2, aI x3] T I R L (PXi T I R L Q) := by
  refine CtX.intro (by decide) (Nat.le_of_ble_eq_true rfl) (fun E hE hR hN => ?_)
  have hRm := hR.rm
  have hE : OkX E X RJ22 cJ22_signedHashCode 6 (some .int) := hE
  have hE1 := hE.1
  show GX E X T I R L 0 0 0 [some (aI x0), some (aR x1), some (aI x2), some (aI x3), none, none] []
  unfold wx_J22_signedHashCode at hw
  intro hok
  refine g_ildn2 hE1 dJ22_signedHashCode_0 ?_
  refine g_ildn3 hE1 dJ22_signedHashCode_1 ?_
  refine g_iadd hE1 dJ22_signedHashCode_2 ?_
  refine g_ist4 hE1 dJ22_signedHashCode_3 (by decide) rfl ?_
  refine g_ildn2 hE1 dJ22_signedHashCode_5 ?_
  refine g_ist5 hE1 dJ22_signedHashCode_6 (by decide) rfl ?_
  refine lq2_walk (fun (x0_8 : Int) (x5_8 : Int) => GX E X T I R L 0 0 8 [some (aI x0_8), some (aR x1), some (aI x2), some (aI x3), some (aI (x2 + x3)), some (aI x5_8)] []) (fun K_8 hk_8 x0_8 x5_8 hw => ?_) _ _ hw hok
  intro hok
  refine g_ild5 hE1 dJ22_signedHashCode_8 ?_
  refine g_ild4 hE1 dJ22_signedHashCode_10 ?_
  obtain ⟨h6, h7, hT8, hN9⟩ := hw
  refine g_icmp_ge hE1 (tgt := 35) dJ22_signedHashCode_12 (by decide) h6 h7 (fun q => ?_) (fun q => ?_)
  · have hw := hT8 q
    refine g_bipush hE1 dJ22_signedHashCode_15 (by decide) ?_
    refine g_ildn0 hE1 dJ22_signedHashCode_17 ?_
    refine g_imul hE1 dJ22_signedHashCode_18 ?_
    refine g_aldn1 hE1 dJ22_signedHashCode_19 ?_
    refine g_ild5 hE1 dJ22_signedHashCode_20 ?_
    obtain ⟨b1, hb2, hw⟩ := hw
    rw [hb2]
    obtain ⟨ht3, hw⟩ := hw
    obtain ⟨h4, h5, hw⟩ := hw
    refine gx_bald hE ht3 h4 h5 dJ22_signedHashCode_22 ?_ hok
    intro hok
    refine g_sipush hE1 dJ22_signedHashCode_23 (by decide) ?_
    refine g_iand hE1 dJ22_signedHashCode_26 ?_
    refine g_iadd hE1 dJ22_signedHashCode_27 ?_
    refine g_istn0 hE1 dJ22_signedHashCode_28 (by decide) rfl ?_
    refine g_iinc5 hE1 dJ22_signedHashCode_29 (by decide) rfl ?_
    refine g_goto hE1 (tgt := 8) dJ22_signedHashCode_32 (by decide) ?_
    simpa only [hb2] using hk_8 _ _ hw hok
  · have hw := hN9 q
    refine g_ildn0 hE1 dJ22_signedHashCode_35 ?_
    exact gx_iret hE hR dJ22_signedHashCode_36 (by decide) (by decide) rfl ⟨_, rfl, rfl, rfl, rfl, rfl, hw⟩ hok

/-- jdk/internal/util/ArraysSupport.vectorizedHashCode(Ljava/lang/Object;IIII)I -/
def wx_J22_vectorizedHashCode (X : XT) (x0 : Option Nat) (x1 : Int) (x2 : Int) (x3 : Int) (x4 : Int) (T : xT) (I : xI) (R : xR) (L : xL) (Q : Int → Prop) : Prop :=
  jn0 (
      False)
    (fun (J_129 : Prop) =>
    inR x4 ∧ ((x4 < 4 ∨ 10 < x4) →
      J_129) ∧
    (x4 = 4 →
      ∃ b3 : Nat, x0 = some b3 ∧ xtag T b3 = 101 ∧
      wx_J22_signedHashCode X x3 (some b3) x1 x2 T I R L (fun (r6 : Int) => 
      Q r6)) ∧
    (x4 = 5 →
      False) ∧
    (x4 = 6 →
      J_129) ∧
    (x4 = 7 →
      J_129) ∧
    (x4 = 8 →
      False) ∧
    (x4 = 9 →
      False) ∧
    (x4 = 10 →
      False))
theorem hx_J22_vectorizedHashCode : yJ22_vectorizedHashCode.cls ≠ "java/lang/invoke/MethodHandle" ∧ yJ22_vectorizedHashCode.cls ≠ "java/lang/invoke/VarHandle" ∧ (parseMethodDescriptor yJ22_vectorizedHashCode.desc).map (fun d => d.parameters.length) = some 5 := by decide +kernel
set_option maxHeartbeats 4000000 in
theorem tx_J22_vectorizedHashCode (X : XT) {x0 : Option Nat} {x1 : Int} {x2 : Int} {x3 : Int} {x4 : Int} {T : xT} {I : xI} {R : xR} {L : xL} {Q : Int → Prop} (hw : wx_J22_vectorizedHashCode X x0 x1 x2 x3 x4 T I R L Q) : CtX X yJ22_vectorizedHashCode cJ22_vectorizedHashCode 5 (some .int) (rmX 1 0 0 25) [aR x0, aI x1, aI x2, aI x3, aI x4] T I R L (PXi T I R L Q) := by
  refine CtX.intro (by decide) (Nat.le_of_ble_eq_true rfl) (fun E hE hR hN => ?_)
  have hRm := hR.rm
  have hE : OkX E X RJ22 cJ22_vectorizedHashCode 5 (some .int) := hE
  have hE1 := hE.1
  show GX E X T I R L 0 0 0 [some (aR x0), some (aI x1), some (aI x2), some (aI x3), some (aI x4)] []
  unfold wx_J22_vectorizedHashCode at hw
  intro hok
  refine g_ild4 hE1 dJ22_vectorizedHashCode_0 ?_
  refine jn0_walk (GX E X T I R L 0 0 129 [some (aR x0), some (aI x1), some (aI x2), some (aI x3), some (aI x4)] []) hw (fun  hw => ?_) (fun J_129 hj_129 hw => ?_)
  · intro hok
    exact hw.elim
  · skip
    obtain ⟨h1, h2, h8, h9, h10, h11, h12, h13, h14⟩ := hw
    refine g_table hE1 dJ22_vectorizedHashCode_2 h1 129 (by decide) [44, 57, 129, 129, 90, 103, 116] (by decide) (by decide) (fun q => ?_) (fun i t hi he => ?_)
    · have hw := h2 q
      exact hj_129  hw hok
    rcases i with _ | i
    · obtain rfl : 44 = t := Option.some.inj hi
      have hw := h8 (by omega)
      refine g_ildn3 hE1 dJ22_vectorizedHashCode_44 ?_
      refine g_aldn0 hE1 dJ22_vectorizedHashCode_45 ?_
      obtain ⟨b3, hb4, hw⟩ := hw
      rw [hb4]
      obtain ⟨ht5, hw⟩ := hw
      refine gx_castB hE ht5 q1710 dJ22_vectorizedHashCode_46 ?_ hok
      intro hok
      refine g_ildn1 hE1 dJ22_vectorizedHashCode_49 ?_
      refine g_ildn2 hE1 dJ22_vectorizedHashCode_50 ?_
      refine gx_callS hE hRm (As := [aI x3, aR (some b3), aI x1, aI x2]) hx_J22_signedHashCode (tx_J22_signedHashCode X hw) (lw_S q1711 q1712 q123 q1713) ⟨by decide, by decide⟩ ⟨(by decide), (by decide)⟩ rfl (Nat.le_of_ble_eq_true rfl) dJ22_vectorizedHashCode_51 rfl (fun r9 Tz Iz Rz Lz hΦ => ?_) hok
      obtain ⟨r6, rfl, rfl, rfl, rfl, rfl, hw⟩ := hΦ
      show GX E X T I R L 0 0 54 [some (aR (some b3)), some (aI x1), some (aI x2), some (aI x3), some (aI x4)] [aI r6]
      intro hok
      refine g_goto hE1 (tgt := 157) dJ22_vectorizedHashCode_54 (by decide) ?_
      exact gx_iret hE hR dJ22_vectorizedHashCode_157 (by decide) (by decide) rfl ⟨_, rfl, rfl, rfl, rfl, rfl, hw⟩ hok
    rcases i with _ | i
    · obtain rfl : 57 = t := Option.some.inj hi
      have hw := h9 (by omega)
      exact hw.elim
    rcases i with _ | i
    · obtain rfl : 129 = t := Option.some.inj hi
      have hw := h10 (by omega)
      exact hj_129  hw hok
    rcases i with _ | i
    · obtain rfl : 129 = t := Option.some.inj hi
      have hw := h11 (by omega)
      exact hj_129  hw hok
    rcases i with _ | i
    · obtain rfl : 90 = t := Option.some.inj hi
      have hw := h12 (by omega)
      exact hw.elim
    rcases i with _ | i
    · obtain rfl : 103 = t := Option.some.inj hi
      have hw := h13 (by omega)
      exact hw.elim
    rcases i with _ | i
    · obtain rfl : 116 = t := Option.some.inj hi
      have hw := h14 (by omega)
      exact hw.elim
    exact absurd hi (by simp)

/-- java/lang/StringLatin1.hashCode([B)I -/
def wx_J23_hashCode (X : XT) (x0 : Option Nat) (T : xT) (I : xI) (R : xR) (L : xL) (Q : Int → Prop) : Prop :=
  ∃ b1 : Nat, x0 = some b1 ∧ xtag T b1 = 101 ∧
  jn1 (fun (y0_51 : Int) => 
      Q y0_51)
    (fun (J_51 : Int → Prop) =>
    inR (xlen T b1 : Int) ∧ (((xlen T b1 : Int) ≠ 0 ∧ (xlen T b1 : Int) ≠ 1) →
      wx_J22_vectorizedHashCode X (some b1) 0 (xlen T b1 : Int) 0 4 T I R L (fun (r4 : Int) => 
      J_51 r4)) ∧
    ((xlen T b1 : Int) = 0 →
      J_51 0) ∧
    ((xlen T b1 : Int) = 1 →
      ib 0 (xlen T b1) ∧ xlen T b1 < 2147483648 ∧
      J_51 (bAnd (I b1 0) 255)))
theorem hx_J23_hashCode : yJ23_hashCode.cls ≠ "java/lang/invoke/MethodHandle" ∧ yJ23_hashCode.cls ≠ "java/lang/invoke/VarHandle" ∧ (parseMethodDescriptor yJ23_hashCode.desc).map (fun d => d.parameters.length) = some 1 := by decide +kernel
set_option maxHeartbeats 4000000 in
theorem tx_J23_hashCode (X : XT) {x0 : Option Nat} {T : xT} {I : xI} {R : xR} {L : xL} {Q : Int → Prop} (hw : wx_J23_hashCode X x0 T I R L Q) : CtX X yJ23_hashCode cJ23_hashCode 1 (some .int) (rmX 2 0 0 49) [aR x0] T I R L (PXi T I R L Q) := by
  refine CtX.intro (by decide) (Nat.le_of_ble_eq_true rfl) (fun E hE hR hN => ?_)
  have hRm := hR.rm
  have hE : OkX E X RJ23 cJ23_hashCode 1 (some .int) := hE
  have hE1 := hE.1
  show GX E X T I R L 0 0 0 [some (aR x0)] []
  unfold wx_J23_hashCode at hw
  intro hok
  refine g_aldn0 hE1 dJ23_hashCode_0 ?_
  obtain ⟨b1, hb2, hw⟩ := hw
  rw [hb2]
  obtain ⟨ht3, hw⟩ := hw
  refine gx_alenB hE ht3 dJ23_hashCode_1 ?_ hok
  intro hok
  refine jn1_walk (fun (y0_51 : Int) => GX E X T I R L 0 0 51 [some (aR (some b1))] [aI y0_51]) hw (fun y0_51 hw => ?_) (fun J_51 hj_51 hw => ?_)
  · intro hok
    exact gx_iret hE hR dJ23_hashCode_51 (by decide) (by decide) rfl ⟨_, rfl, rfl, rfl, rfl, rfl, hw⟩ hok
  · skip
    obtain ⟨h6, h7, h8, h11⟩ := hw
    refine g_lookup hE1 dJ23_hashCode_2 h6 (by decide) 42 (by decide) [28, 32] (by decide) (fun q => ?_) (fun i t q hq hi he => ?_)
    · have hw := h7 ⟨q (0, 26) (by decide), q (1, 30) (by decide)⟩
      refine g_aldn0 hE1 dJ23_hashCode_42 ?_
      refine g_iconst hE1 dJ23_hashCode_43 ?_
      refine g_aldn0 hE1 dJ23_hashCode_44 ?_
      refine gx_alenB hE ht3 dJ23_hashCode_45 ?_ hok
      intro hok
      refine g_iconst hE1 dJ23_hashCode_46 ?_
      refine g_iconst hE1 dJ23_hashCode_47 ?_
      refine gx_callS hE hRm (As := [aR (some b1), aI 0, aI (xlen T b1 : Int), aI 0, aI 4]) hx_J22_vectorizedHashCode (tx_J22_vectorizedHashCode X hw) (lw_S q1707 q1708 q123 q1709) ⟨by decide, by decide⟩ ⟨(by decide), (by decide)⟩ rfl (Nat.le_of_ble_eq_true rfl) dJ23_hashCode_48 rfl (fun r9 Tz Iz Rz Lz hΦ => ?_) hok
      obtain ⟨r4, rfl, rfl, rfl, rfl, rfl, hw⟩ := hΦ
      show GX E X T I R L 0 0 51 [some (aR (some b1))] [aI r4]
      intro hok
      exact hj_51 _ hw hok
    rcases i with _ | i
    · obtain rfl : 28 = t := Option.some.inj hi
      obtain rfl : ((0 : Int), (26 : Int)) = q := Option.some.inj hq
      have hw := h8 he
      refine g_iconst hE1 dJ23_hashCode_28 ?_
      refine g_goto hE1 (tgt := 51) dJ23_hashCode_29 (by decide) ?_
      exact hj_51 _ hw hok
    rcases i with _ | i
    · obtain rfl : 32 = t := Option.some.inj hi
      obtain rfl : ((1 : Int), (30 : Int)) = q := Option.some.inj hq
      have hw := h11 he
      refine g_aldn0 hE1 dJ23_hashCode_32 ?_
      refine g_iconst hE1 dJ23_hashCode_33 ?_
      obtain ⟨h9, h10, hw⟩ := hw
      refine gx_bald hE ht3 h9 h10 dJ23_hashCode_34 ?_ hok
      intro hok
      refine g_sipush hE1 dJ23_hashCode_35 (by decide) ?_
      refine g_iand hE1 dJ23_hashCode_38 ?_
      refine g_goto hE1 (tgt := 51) dJ23_hashCode_39 (by decide) ?_
      exact hj_51 _ hw hok
    exact absurd hi (by simp)

/-- java/lang/String.hashCode()I -/
def wx_J8_hashCode (X : XT) (o : Nat)  (T : xT) (I : xI) (R : xR) (L : xL) (Q : Int → xI → Prop) : Prop :=
  xtag T o = 25 ∧
  jn2 (fun (x1_58 : Int) (I_58 : xI) => 
      Q x1_58 I_58)
    (fun (J_58 : Int → xI → Prop) =>
    cEq (wr (I o 2)) 0
      (
      cEq (I o 3) 0
        (
        wx_J8_isLatin1 X o T I R L (fun (r2 : Int) => 
        cEq r2 0
          (
          False)
          (
          wx_J23_hashCode X (R o 0) T I R L (fun (r4 : Int) => 
          cEq (wr r4) 0
            (
            bsX X ≤ o ∧ ∀ I7 : xI, I7 = uI I o 3 1 →
            J_58 r4 I7)
            (
            bsX X ≤ o ∧ ∀ I9 : xI, I9 = uI I o 2 r4 →
            J_58 r4 I9)))))
        (
        J_58 (I o 2) I))
      (
      J_58 (I o 2) I))
theorem hx_J8_hashCode : yJ8_hashCode.cls = RJ8 ∧ yJ8_hashCode.cls ≠ "java/lang/invoke/MethodHandle" ∧ yJ8_hashCode.cls ≠ "java/lang/invoke/VarHandle" ∧ (parseMethodDescriptor yJ8_hashCode.desc).map (fun d => d.parameters.length) = some 0 := by decide +kernel
set_option maxHeartbeats 4000000 in
theorem tx_J8_hashCode (X : XT) {o : Nat}  {T : xT} {I : xI} {R : xR} {L : xL} {Q : Int → xI → Prop} (hw : wx_J8_hashCode X o T I R L Q) : CtX X yJ8_hashCode cJ8_hashCode 2 (some .int) (rmX 3 0 0 69) [aR (some o)] T I R L (PXiI T I R L Q) := by
  refine CtX.intro (by decide) (Nat.le_of_ble_eq_true rfl) (fun E hE hR hN => ?_)
  have hRm := hR.rm
  have hE : OkX E X RJ8 cJ8_hashCode 2 (some .int) := hE
  have hE1 := hE.1
  show GX E X T I R L 0 0 0 [some (aR (some o)), none] []
  unfold wx_J8_hashCode at hw
  intro hok
  refine g_aldn0 hE1 dJ8_hashCode_0 ?_
  obtain ⟨ht1, hw⟩ := hw
  refine gx_getiS hE in_J8 (t := 25) rfl (by decide) 2 2 rfl (by decide) rfl rfl rfl q879 (Or.inl rfl) ht1 dJ8_hashCode_1 ?_ hok
  intro hok
  refine g_istn1 hE1 dJ8_hashCode_4 (by decide) rfl ?_
  refine g_ildn1 hE1 dJ8_hashCode_5 ?_
  refine jn2_walk (fun (x1_58 : Int) (I_58 : xI) => GX E X T I_58 R L 0 0 58 [some (aR (some o)), some (aI x1_58)] []) hw (fun x1_58 I_58 hw => ?_) (fun J_58 hj_58 hw => ?_)
  · intro hok
    refine g_ildn1 hE1 dJ8_hashCode_58 ?_
    exact gx_iret hE hR dJ8_hashCode_59 (by decide) (by decide) rfl ⟨_, rfl, rfl, rfl, rfl, hw⟩ hok
  · skip
    refine g_wr ?_
    obtain ⟨h22, h23, hT24, hN25⟩ := hw
    refine g_if_ne hE1 (tgt := 58) dJ8_hashCode_6 (by decide) h22 (fun q => ?_) (fun q => ?_)
    · have hw := hT24 q
      refine g_aldn0 hE1 dJ8_hashCode_9 ?_
      refine gx_getiS hE in_J8 (t := 25) rfl (by decide) 3 3 rfl (by decide) rfl rfl rfl q880 (Or.inl rfl) ht1 dJ8_hashCode_10 ?_ hok
      intro hok
      obtain ⟨h18, h19, hT20, hN21⟩ := hw
      refine g_if_ne hE1 (tgt := 58) dJ8_hashCode_13 (by decide) h18 (fun q => ?_) (fun q => ?_)
      · have hw := hT20 q
        refine g_aldn0 hE1 dJ8_hashCode_16 ?_
        refine gx_callV hE hRm (As := []) ht1 (by decide) (by decide) rfl hx_J8_isLatin1 (tx_J8_isLatin1 X hw) (lw_V q1675 q1676 q1677 q106 q1678) ⟨by decide, by decide⟩ ⟨(by decide), (by decide)⟩ rfl (Nat.le_of_ble_eq_true rfl) dJ8_hashCode_17 rfl (fun r9 Tz Iz Rz Lz hΦ => ?_) hok
        obtain ⟨r2, rfl, rfl, rfl, rfl, rfl, hw⟩ := hΦ
        show GX E X T I R L 0 0 20 [some (aR (some o)), some (aI (I o 2))] [aI r2]
        intro hok
        obtain ⟨h14, h15, hT16, hN17⟩ := hw
        refine g_if_eq hE1 (tgt := 33) dJ8_hashCode_20 (by decide) h14 (fun q => ?_) (fun q => ?_)
        · have hw := hT16 q
          refine g_aldn0 hE1 dJ8_hashCode_33 ?_
          refine gx_getrS hE in_J8 (t := 25) rfl (by decide) 0 0 rfl (by decide) rfl rfl rfl q877 (Or.inl rfl) ht1 dJ8_hashCode_34 ?_ hok
          intro hok
          exact hw.elim
        · have hw := hN17 q
          refine g_aldn0 hE1 dJ8_hashCode_23 ?_
          refine gx_getrS hE in_J8 (t := 25) rfl (by decide) 0 0 rfl (by decide) rfl rfl rfl q877 (Or.inl rfl) ht1 dJ8_hashCode_24 ?_ hok
          intro hok
          refine gx_callS hE hRm (As := [aR (R o 0)]) hx_J23_hashCode (tx_J23_hashCode X hw) (lw_S q1704 q1705 q124 q1706) ⟨by decide, by decide⟩ ⟨(by decide), (by decide)⟩ rfl (Nat.le_of_ble_eq_true rfl) dJ8_hashCode_27 rfl (fun r9 Tz Iz Rz Lz hΦ => ?_) hok
          obtain ⟨r4, rfl, rfl, rfl, rfl, rfl, hw⟩ := hΦ
          show GX E X T I R L 0 0 30 [some (aR (some o)), some (aI (I o 2))] [aI r4]
          intro hok
          refine g_goto hE1 (tgt := 40) dJ8_hashCode_30 (by decide) ?_
          refine g_istn1 hE1 dJ8_hashCode_40 (by decide) rfl ?_
          refine g_ildn1 hE1 dJ8_hashCode_41 ?_
          refine g_wr ?_
          obtain ⟨h10, h11, hT12, hN13⟩ := hw
          refine g_if_ne hE1 (tgt := 53) dJ8_hashCode_42 (by decide) h10 (fun q => ?_) (fun q => ?_)
          · have hw := hT12 q
            refine g_aldn0 hE1 dJ8_hashCode_45 ?_
            refine g_iconst hE1 dJ8_hashCode_46 ?_
            obtain ⟨h6, hw⟩ := hw
            refine gx_putiS hE in_J8 (t := 25) rfl (by decide) 3 3 rfl (by decide) rfl rfl h6 (ty := tyJ8 3) tyJ8 tyJ8_ok nmJ8 rfl q880 (Or.inl rfl) rfl (tyJ8_ok 3 (by decide)) (narrow_bl (by decide)) (fits_bl (by decide)) ht1 dJ8_hashCode_47 ?_ hok
            intro hok
            have hw := hw _ rfl
            generalize uI I o 3 1 = I7 at hw hok ⊢
            refine g_goto hE1 (tgt := 58) dJ8_hashCode_50 (by decide) ?_
            exact hj_58 _ _ hw hok
          · have hw := hN13 q
            refine g_aldn0 hE1 dJ8_hashCode_53 ?_
            refine g_ildn1 hE1 dJ8_hashCode_54 ?_
            obtain ⟨h8, hw⟩ := hw
            refine gx_putiS hE in_J8 (t := 25) rfl (by decide) 2 2 rfl (by decide) rfl rfl h8 (ty := tyJ8 2) tyJ8 tyJ8_ok nmJ8 rfl q879 (Or.inl rfl) rfl (tyJ8_ok 2 (by decide)) rfl rfl ht1 dJ8_hashCode_55 ?_ hok
            intro hok
            have hw := hw _ rfl
            generalize uI I o 2 r4 = I9 at hw hok ⊢
            exact hj_58 _ _ hw hok
      · have hw := hN21 q
        exact hj_58 _ _ hw hok
    · have hw := hN25 q
      exact hj_58 _ _ hw hok

/-- java/lang/StringLatin1.equals([B[B)Z -/
def wx_J23_equals (X : XT) (x0 : Option Nat) (x1 : Option Nat) (T : xT) (I : xI) (R : xR) (L : xL) (Q : Int → Prop) : Prop :=
  ∃ b1 : Nat, x0 = some b1 ∧ xtag T b1 = 101 ∧
  ∃ b4 : Nat, x1 = some b4 ∧ xtag T b4 = 101 ∧
  cEq (xlen T b1 : Int) (xlen T b4 : Int)
    (
    lq1 (fun (x2_9 : Int) (K_9 : Int → Prop) =>
      cLt x2_9 (xlen T b1 : Int)
        (
        ib x2_9 (xlen T b1) ∧ xlen T b1 < 2147483648 ∧
        ib x2_9 (xlen T b4) ∧ xlen T b4 < 2147483648 ∧
        cEq (I b1 x2_9) (I b4 x2_9)
          (
          K_9 (x2_9 + 1))
          (
          Q 0))
        (
        Q 1)) 0)
    (
    Q 0)
theorem hx_J23_equals : yJ23_equals.cls ≠ "java/lang/invoke/MethodHandle" ∧ yJ23_equals.cls ≠ "java/lang/invoke/VarHandle" ∧ (parseMethodDescriptor yJ23_equals.desc).map (fun d => d.parameters.length) = some 2 := by decide +kernel
set_option maxHeartbeats 4000000 in
theorem tx_J23_equals (X : XT) {x0 : Option Nat} {x1 : Option Nat} {T : xT} {I : xI} {R : xR} {L : xL} {Q : Int → Prop} (hw : wx_J23_equals X x0 x1 T I R L Q) : CtX X yJ23_equals cJ23_equals 3 (some .boolean) (rmX 0 0 0 0) [aR x0, aR x1] T I R L (PXi T I R L Q) := by
  refine CtX.intro (by decide) (Nat.le_of_ble_eq_true rfl) (fun E hE hR hN => ?_)
  have hRm := hR.rm
  have hE : OkX E X RJ23 cJ23_equals 3 (some .boolean) := hE
  have hE1 := hE.1
  show GX E X T I R L 0 0 0 [some (aR x0), some (aR x1), none] []
  unfold wx_J23_equals at hw
  intro hok
  refine g_aldn0 hE1 dJ23_equals_0 ?_
  obtain ⟨b1, hb2, hw⟩ := hw
  rw [hb2]
  obtain ⟨ht3, hw⟩ := hw
  refine gx_alenB hE ht3 dJ23_equals_1 ?_ hok
  intro hok
  refine g_aldn1 hE1 dJ23_equals_2 ?_
  obtain ⟨b4, hb5, hw⟩ := hw
  rw [hb5]
  obtain ⟨ht6, hw⟩ := hw
  refine gx_alenB hE ht6 dJ23_equals_3 ?_ hok
  intro hok
  obtain ⟨h19, h20, hT21, hN22⟩ := hw
  refine g_icmp_ne hE1 (tgt := 34) dJ23_equals_4 (by decide) h19 h20 (fun q => ?_) (fun q => ?_)
  · have hw := hT21 q
    refine g_iconst hE1 dJ23_equals_7 ?_
    refine g_istn2 hE1 dJ23_equals_8 (by decide) rfl ?_
    refine lq1_walk (fun (x2_9 : Int) => GX E X T I R L 0 0 9 [some (aR (some b1)), some (aR (some b4)), some (aI x2_9)] []) (fun K_9 hk_9 x2_9 hw => ?_) _ hw hok
    intro hok
    refine g_ildn2 hE1 dJ23_equals_9 ?_
    refine g_aldn0 hE1 dJ23_equals_10 ?_
    refine gx_alenB hE ht3 dJ23_equals_11 ?_ hok
    intro hok
    obtain ⟨h15, h16, hT17, hN18⟩ := hw
    refine g_icmp_ge hE1 (tgt := 32) dJ23_equals_12 (by decide) h15 h16 (fun q => ?_) (fun q => ?_)
    · have hw := hT17 q
      refine g_aldn0 hE1 dJ23_equals_15 ?_
      refine g_ildn2 hE1 dJ23_equals_16 ?_
      obtain ⟨h7, h8, hw⟩ := hw
      refine gx_bald hE ht3 h7 h8 dJ23_equals_17 ?_ hok
      intro hok
      refine g_aldn1 hE1 dJ23_equals_18 ?_
      refine g_ildn2 hE1 dJ23_equals_19 ?_
      obtain ⟨h9, h10, hw⟩ := hw
      refine gx_bald hE ht6 h9 h10 dJ23_equals_20 ?_ hok
      intro hok
      obtain ⟨h11, h12, hT13, hN14⟩ := hw
      refine g_icmp_eq hE1 (tgt := 26) dJ23_equals_21 (by decide) h11 h12 (fun q => ?_) (fun q => ?_)
      · have hw := hT13 q
        refine g_iinc2 hE1 dJ23_equals_26 (by decide) rfl ?_
        refine g_goto hE1 (tgt := 9) dJ23_equals_29 (by decide) ?_
        exact hk_9 _ hw hok
      · have hw := hN14 q
        refine g_iconst hE1 dJ23_equals_24 ?_
        exact gx_iret hE hR dJ23_equals_25 (by decide) (by decide) (narrow_bl (by decide)) ⟨_, rfl, rfl, rfl, rfl, rfl, hw⟩ hok
    · have hw := hN18 q
      refine g_iconst hE1 dJ23_equals_32 ?_
      exact gx_iret hE hR dJ23_equals_33 (by decide) (by decide) (narrow_bl (by decide)) ⟨_, rfl, rfl, rfl, rfl, rfl, hw⟩ hok
  · have hw := hN22 q
    refine g_iconst hE1 dJ23_equals_34 ?_
    exact gx_iret hE hR dJ23_equals_35 (by decide) (by decide) (narrow_bl (by decide)) ⟨_, rfl, rfl, rfl, rfl, rfl, hw⟩ hok

/-- java/lang/String.equals(Ljava/lang/Object;)Z -/
def wx_J8_equals (X : XT) (o : Nat) (x1 : Option Nat) (T : xT) (I : xI) (R : xR) (L : xL) (Q : Int → Prop) : Prop :=
  cIf ((some o) = x1)
    (
    Q 1)
    (
    ∃ b1 : Nat, x1 = some b1 ∧ xtag T b1 = 25 ∧
    jn1 (fun (y0_55 : Int) => 
        bl y0_55 ∧ Q y0_55)
      (fun (J_55 : Int → Prop) =>
      jn0 (
          J_55 0)
        (fun (J_54 : Prop) =>
        jn0 (
            xtag T o = 25 ∧
            wx_J23_equals X (R o 0) (R b1 0) T I R L (fun (r6 : Int) => 
            cEq r6 0
              (
              J_54)
              (
              J_55 1)))
          (fun (J_36 : Prop) =>
          xtag T o = 25 ∧
          cEq (I o 1) (I b1 1)
            (
            J_36)
            (
            J_54)))))
theorem hx_J8_equals : yJ8_equals.cls = RJ8 ∧ yJ8_equals.cls ≠ "java/lang/invoke/MethodHandle" ∧ yJ8_equals.cls ≠ "java/lang/invoke/VarHandle" ∧ (parseMethodDescriptor yJ8_equals.desc).map (fun d => d.parameters.length) = some 1 := by decide +kernel
set_option maxHeartbeats 4000000 in
theorem tx_J8_equals (X : XT) {o : Nat} {x1 : Option Nat} {T : xT} {I : xI} {R : xR} {L : xL} {Q : Int → Prop} (hw : wx_J8_equals X o x1 T I R L Q) : CtX X yJ8_equals cJ8_equals 3 (some .boolean) (rmX 1 0 0 22) [aR (some o), aR x1] T I R L (PXi T I R L Q) := by
  refine CtX.intro (by decide) (Nat.le_of_ble_eq_true rfl) (fun E hE hR hN => ?_)
  have hRm := hR.rm
  have hE : OkX E X RJ8 cJ8_equals 3 (some .boolean) := hE
  have hE1 := hE.1
  show GX E X T I R L 0 0 0 [some (aR (some o)), some (aR x1), none] []
  unfold wx_J8_equals at hw
  intro hok
  refine g_aldn0 hE1 dJ8_equals_0 ?_
  refine g_aldn1 hE1 dJ8_equals_1 ?_
  refine g_acmp_ne hE1 (tgt := 7) dJ8_equals_2 (by decide) (fun q => ?_) (fun q => ?_)
  · have hw := hw.1 q
    refine g_iconst hE1 dJ8_equals_5 ?_
    exact gx_iret hE hR dJ8_equals_6 (by decide) (by decide) (narrow_bl (by decide)) ⟨_, rfl, rfl, rfl, rfl, rfl, hw⟩ hok
  · have hw := hw.2 q
    refine g_aldn1 hE1 dJ8_equals_7 ?_
    obtain ⟨b1, hb2, hw⟩ := hw
    rw [hb2]
    obtain ⟨ht3, hw⟩ := hw
    refine gx_instStr hE ht3 q1754 dJ8_equals_8 ?_ hok
    intro hok
    refine jn1_walk (fun (y0_55 : Int) => GX E X T I R L 0 0 55 [some (aR (some o)), some (aR (some b1)), none] [aI y0_55]) hw (fun y0_55 hw => ?_) (fun J_55 hj_55 hw => ?_)
    · intro hok
      obtain ⟨h4, hw⟩ := hw
      exact gx_iret hE hR dJ8_equals_55 (by decide) (by decide) (narrow_bl h4) ⟨_, rfl, rfl, rfl, rfl, rfl, hw⟩ hok
    · skip
      refine jn0_walk (GX E X T I R L 0 0 54 [some (aR (some o)), some (aR (some b1)), none] []) hw (fun  hw => ?_) (fun J_54 hj_54 hw => ?_)
      · intro hok
        refine g_iconst hE1 dJ8_equals_54 ?_
        exact hj_55 _ hw hok
      · skip
        refine g_if_eq hE1 (tgt := 54) dJ8_equals_11 (by decide) (by decide) (fun q => absurd q (by decide)) (fun _ => ?_)
        refine g_aldn1 hE1 dJ8_equals_14 ?_
        refine gx_castStr hE ht3 q1754 dJ8_equals_15 ?_ hok
        intro hok
        refine g_astn2 hE1 dJ8_equals_18 (by decide) rfl ?_
        refine gx_gets_i hE (List.mem_of_getElem? (i := 1) rfl : ("java/lang/String", "COMPACT_STRINGS", "Z", Sum.inl (1 : Int)) ∈ stL) q792 dJ8_equals_19 ?_ hok
        intro hok
        refine jn0_walk (GX E X T I R L 0 0 36 [some (aR (some o)), some (aR (some b1)), some (aR (some b1))] []) hw (fun  hw => ?_) (fun J_36 hj_36 hw => ?_)
        · intro hok
          refine g_aldn0 hE1 dJ8_equals_36 ?_
          obtain ⟨ht5, hw⟩ := hw
          refine gx_getrS hE in_J8 (t := 25) rfl (by decide) 0 0 rfl (by decide) rfl rfl rfl q877 (Or.inl rfl) ht5 dJ8_equals_37 ?_ hok
          intro hok
          refine g_aldn2 hE1 dJ8_equals_40 ?_
          refine gx_getrS hE in_J8 (t := 25) rfl (by decide) 0 0 rfl (by decide) rfl rfl rfl q877 (Or.inl rfl) ht3 dJ8_equals_41 ?_ hok
          intro hok
          refine gx_callS hE hRm (As := [aR (R o 0), aR (R b1 0)]) hx_J23_equals (tx_J23_equals X hw) (lw_S q1755 q1756 q124 q1757) ⟨by decide, by decide⟩ ⟨(by decide), (by decide)⟩ rfl (Nat.le_of_ble_eq_true rfl) dJ8_equals_44 rfl (fun r9 Tz Iz Rz Lz hΦ => ?_) hok
          obtain ⟨r6, rfl, rfl, rfl, rfl, rfl, hw⟩ := hΦ
          show GX E X T I R L 0 0 47 [some (aR (some o)), some (aR (some b1)), some (aR (some b1))] [aI r6]
          intro hok
          obtain ⟨h8, h9, hT10, hN11⟩ := hw
          refine g_if_eq hE1 (tgt := 54) dJ8_equals_47 (by decide) h8 (fun q => ?_) (fun q => ?_)
          · have hw := hT10 q
            refine g_kl2 ?_
            exact hj_54  hw hok
          · have hw := hN11 q
            refine g_iconst hE1 dJ8_equals_50 ?_
            refine g_goto hE1 (tgt := 55) dJ8_equals_51 (by decide) ?_
            refine g_kl2 ?_
            exact hj_55 _ hw hok
        · skip
          refine g_if_eq hE1 (tgt := 36) dJ8_equals_22 (by decide) (by decide) (fun q => absurd q (by decide)) (fun _ => ?_)
          refine g_aldn0 hE1 dJ8_equals_25 ?_
          obtain ⟨ht12, hw⟩ := hw
          refine gx_getiS hE in_J8 (t := 25) rfl (by decide) 1 1 rfl (by decide) rfl rfl rfl q878 (Or.inl rfl) ht12 dJ8_equals_26 ?_ hok
          intro hok
          refine g_aldn2 hE1 dJ8_equals_29 ?_
          refine gx_getiS hE in_J8 (t := 25) rfl (by decide) 1 1 rfl (by decide) rfl rfl rfl q878 (Or.inl rfl) ht3 dJ8_equals_30 ?_ hok
          intro hok
          obtain ⟨h13, h14, hT15, hN16⟩ := hw
          refine g_icmp_ne hE1 (tgt := 54) dJ8_equals_33 (by decide) h13 h14 (fun q => ?_) (fun q => ?_)
          · have hw := hT15 q
            exact hj_36  hw hok
          · have hw := hN16 q
            refine g_kl2 ?_
            exact hj_54  hw hok

/-- WhalingLogs$Reader.takes(I)Z -/
def wx_X8_takes (X : XT) (o : Nat) (x1 : Int) (T : xT) (I : xI) (R : xR) (L : xL) (Q : Int → xI → Prop) : Prop :=
  xtag T o = 16 ∧ wx_X8_here X o T I R L (fun (r2 : Int) => 
  jn1 (fun (y0_13 : Int) => 
      jn1 (fun (y2_28 : Int) => 
          ∀ I4 : xI, I4 = uI I o 1 ((I o 1) + y2_28) →
          bl y0_13 ∧ Q y0_13 I4)
        (fun (J_28 : Int → Prop) =>
        cEq y0_13 0
          (
          J_28 0)
          (
          J_28 1)))
    (fun (J_13 : Int → Prop) =>
    cEq r2 x1
      (
      J_13 1)
      (
      J_13 0)))
theorem hx_X8_takes : yX8_takes.cls = RX8 ∧ yX8_takes.cls ≠ "java/lang/invoke/MethodHandle" ∧ yX8_takes.cls ≠ "java/lang/invoke/VarHandle" ∧ (parseMethodDescriptor yX8_takes.desc).map (fun d => d.parameters.length) = some 1 := by decide +kernel
set_option maxHeartbeats 4000000 in
theorem tx_X8_takes (X : XT) {o : Nat} {x1 : Int} {T : xT} {I : xI} {R : xR} {L : xL} {Q : Int → xI → Prop} (hw : wx_X8_takes X o x1 T I R L Q) : CtX X yX8_takes cX8_takes 3 (some .boolean) (rmX 5 0 0 129) [aR (some o), aI x1] T I R L (PXiI T I R L Q) := by
  refine CtX.intro (by decide) (Nat.le_of_ble_eq_true rfl) (fun E hE hR hN => ?_)
  have hRm := hR.rm
  have hE : OkX E X RX8 cX8_takes 3 (some .boolean) := hE
  have hE1 := hE.1
  show GX E X T I R L 0 0 0 [some (aR (some o)), some (aI x1), none] []
  unfold wx_X8_takes at hw
  intro hok
  refine g_aldn0 hE1 dX8_takes_0 ?_
  obtain ⟨ht1, hw⟩ := hw
  refine gx_callV hE hRm (As := []) ht1 (by decide) (by decide) rfl hx_X8_here (tx_X8_here X hw) (lw_V q1650 q1652 qs34 q133 q1653) ⟨by decide, by decide⟩ ⟨(by decide), (by decide)⟩ rfl (Nat.le_of_ble_eq_true rfl) dX8_takes_1 rfl (fun r9 Tz Iz Rz Lz hΦ => ?_) hok
  obtain ⟨r2, rfl, rfl, rfl, rfl, rfl, hw⟩ := hΦ
  show GX E X T I R L 0 0 4 [some (aR (some o)), some (aI x1), none] [aI r2]
  intro hok
  refine g_ildn1 hE1 dX8_takes_4 ?_
  refine jn1_walk (fun (y0_13 : Int) => GX E X T I R L 0 0 13 [some (aR (some o)), some (aI x1), none] [aI y0_13]) hw (fun y0_13 hw => ?_) (fun J_13 hj_13 hw => ?_)
  · intro hok
    refine g_istn2 hE1 dX8_takes_13 (by decide) rfl ?_
    refine g_aldn0 hE1 dX8_takes_14 ?_
    refine g_dup hE1 dX8_takes_15 rfl ?_
    refine gx_geti hE in_X8 (t := 16) rfl (by decide) 1 1 rfl (by decide) rfl (by decide) rfl q1625 (Or.inl rfl) ht1 dX8_takes_16 ?_ hok
    intro hok
    refine g_ildn2 hE1 dX8_takes_19 ?_
    refine jn1_walk (fun (y2_28 : Int) => GX E X T I R L 0 0 28 [some (aR (some o)), some (aI x1), some (aI y0_13)] [aI y2_28, aI (I o 1), aR (some o)]) hw (fun y2_28 hw => ?_) (fun J_28 hj_28 hw => ?_)
    · intro hok
      refine g_iadd hE1 dX8_takes_28 ?_
      refine gx_puti hE in_X8 (t := 16) rfl (by decide) 1 1 rfl (by decide) rfl (by decide) (ty := tyX8 1) tyX8 tyX8_ok nmX8 rfl q1625 (Or.inl rfl) rfl (tyX8_ok 1 (by decide)) rfl rfl ht1 dX8_takes_29 ?_ hok
      intro hok
      have hw := hw _ rfl
      generalize uI I o 1 ((I o 1) + y2_28) = I4 at hw hok ⊢
      refine g_ildn2 hE1 dX8_takes_32 ?_
      obtain ⟨h5, hw⟩ := hw
      exact gx_iret hE hR dX8_takes_33 (by decide) (by decide) (narrow_bl h5) ⟨_, rfl, rfl, rfl, rfl, hw⟩ hok
    · skip
      obtain ⟨h6, h7, hT8, hN9⟩ := hw
      refine g_if_eq hE1 (tgt := 27) dX8_takes_20 (by decide) h6 (fun q => ?_) (fun q => ?_)
      · have hw := hT8 q
        refine g_iconst hE1 dX8_takes_27 ?_
        exact hj_28 _ hw hok
      · have hw := hN9 q
        refine g_iconst hE1 dX8_takes_23 ?_
        refine g_goto hE1 (tgt := 28) dX8_takes_24 (by decide) ?_
        exact hj_28 _ hw hok
  · skip
    obtain ⟨h10, h11, hT12, hN13⟩ := hw
    refine g_icmp_ne hE1 (tgt := 12) dX8_takes_5 (by decide) h10 h11 (fun q => ?_) (fun q => ?_)
    · have hw := hT12 q
      refine g_iconst hE1 dX8_takes_8 ?_
      refine g_goto hE1 (tgt := 13) dX8_takes_9 (by decide) ?_
      exact hj_13 _ hw hok
    · have hw := hN13 q
      refine g_iconst hE1 dX8_takes_12 ?_
      exact hj_13 _ hw hok

/-- java/lang/Throwable.<init>(Ljava/lang/String;Ljava/lang/Throwable;ZZ)V -/
def wx_J18_init_3_X9 (X : XT) (o : Nat) (x1 : Option Nat) (x2 : Option Nat) (x3 : Int) (x4 : Int) (T : xT) (I : xI) (R : xR) (L : xL) (Q : xR → Prop) : Prop :=
  xtag T o = 17 ∧ ∀ R2 : xR, R2 = uR R o 0 (some o) →
  ∀ R3 : xR, R3 = uR R2 o 1 (srX X 0) →
  ∀ R4 : xR, R4 = uR R3 o 2 (srX X 1) →
  cEq x4 0
    (
    ∀ R5 : xR, R5 = uR R4 o 1 none →
    ∀ R6 : xR, R6 = uR R5 o 3 x1 →
    ∀ R7 : xR, R7 = uR R6 o 0 x2 →
    jn1 (fun (R_60 : xR) => 
        Q R_60)
      (fun (J_60 : xR → Prop) =>
      cEq x3 0
        (
        ∀ R8 : xR, R8 = uR R7 o 2 none →
        J_60 R8)
        (
        J_60 R7)))
    (
    False)
theorem hx_J18_init_3_X9 : yJ18_init_3.cls ≠ "java/lang/invoke/MethodHandle" ∧ yJ18_init_3.cls ≠ "java/lang/invoke/VarHandle" ∧ (parseMethodDescriptor yJ18_init_3.desc).map (fun d => d.parameters.length) = some 4 := by decide +kernel
set_option maxHeartbeats 4000000 in
theorem tx_J18_init_3_X9 (X : XT) {o : Nat} {x1 : Option Nat} {x2 : Option Nat} {x3 : Int} {x4 : Int} {T : xT} {I : xI} {R : xR} {L : xL} {Q : xR → Prop} (hw : wx_J18_init_3_X9 X o x1 x2 x3 x4 T I R L Q) : CtX X yJ18_init_3 cJ18_init_3 5 none (rmX 1 0 0 20) [aR (some o), aR x1, aR x2, aI x3, aI x4] T I R L (PXvR T I R L Q) := by
  refine CtX.intro (by decide) (Nat.le_of_ble_eq_true rfl) (fun E hE hR hN => ?_)
  have hRm := hR.rm
  have hE : OkX E X RJ18 cJ18_init_3 5 none := hE
  have hE1 := hE.1
  have hI : isInit E := hN
  show GX E X T I R L 0 0 0 [some (aR (some o)), some (aR x1), some (aR x2), some (aI x3), some (aI x4)] []
  unfold wx_J18_init_3_X9 at hw
  intro hok
  refine g_aldn0 hE1 dJ18_init_3_0 ?_
  refine gx_objInit hE hRm rfl q632 q151 q152 (by decide) (by decide) (Nat.le_of_ble_eq_true rfl) dJ18_init_3_1 ?_ hok
  intro hok
  refine g_aldn0 hE1 dJ18_init_3_4 ?_
  refine g_aldn0 hE1 dJ18_init_3_5 ?_
  obtain ⟨ht1, hw⟩ := hw
  refine gx_putr hE in_X9 (t := 17) rfl (by decide) 0 0 rfl (by decide) rfl (by decide) (ty := tyX9 0) tyX9 tyX9_ok nmX9 rfl q892 (Or.inl rfl) rfl (tyX9_ok 0 (by decide)) nar_o fit_o ht1 dJ18_init_3_6 ?_ hok
  intro hok
  have hw := hw _ rfl
  generalize uR R o 0 (some o) = R2 at hw hok ⊢
  refine g_aldn0 hE1 dJ18_init_3_9 ?_
  refine gx_gets_r hE (List.mem_of_getElem? (i := 2) rfl : ("java/lang/Throwable", "UNASSIGNED_STACK", "[Ljava/lang/StackTraceElement;", Sum.inr (0 : Nat)) ∈ stL) q633 dJ18_init_3_10 ?_ hok
  intro hok
  refine gx_putr hE in_X9 (t := 17) rfl (by decide) 1 1 rfl (by decide) rfl (by decide) (ty := tyX9 1) tyX9 tyX9_ok nmX9 rfl q893 (Or.inl rfl) rfl (tyX9_ok 1 (by decide)) nar_a fit_a ht1 dJ18_init_3_13 ?_ hok
  intro hok
  have hw := hw _ rfl
  generalize uR R2 o 1 (srX X 0) = R3 at hw hok ⊢
  refine g_aldn0 hE1 dJ18_init_3_16 ?_
  refine gx_gets_r hE (List.mem_of_getElem? (i := 3) rfl : ("java/lang/Throwable", "SUPPRESSED_SENTINEL", "Ljava/util/List;", Sum.inr (1 : Nat)) ∈ stL) q635 dJ18_init_3_17 ?_ hok
  intro hok
  refine gx_putr hE in_X9 (t := 17) rfl (by decide) 2 2 rfl (by decide) rfl (by decide) (ty := tyX9 2) tyX9 tyX9_ok nmX9 rfl q894 (Or.inl rfl) rfl (tyX9_ok 2 (by decide)) nar_o fit_o ht1 dJ18_init_3_20 ?_ hok
  intro hok
  have hw := hw _ rfl
  generalize uR R3 o 2 (srX X 1) = R4 at hw hok ⊢
  refine g_ild4 hE1 dJ18_init_3_23 ?_
  obtain ⟨h13, h14, hT15, hN16⟩ := hw
  refine g_if_eq hE1 (tgt := 36) dJ18_init_3_25 (by decide) h13 (fun q => ?_) (fun q => ?_)
  · have hw := hT15 q
    refine g_aldn0 hE1 dJ18_init_3_36 ?_
    refine g_null hE1 dJ18_init_3_37 ?_
    refine gx_putr hE in_X9 (t := 17) rfl (by decide) 1 1 rfl (by decide) rfl (by decide) (ty := tyX9 1) tyX9 tyX9_ok nmX9 rfl q893 (Or.inl rfl) rfl (tyX9_ok 1 (by decide)) nar_a fit_a ht1 dJ18_init_3_38 ?_ hok
    intro hok
    have hw := hw _ rfl
    generalize uR R4 o 1 none = R5 at hw hok ⊢
    refine g_aldn0 hE1 dJ18_init_3_41 ?_
    refine g_aldn1 hE1 dJ18_init_3_42 ?_
    refine gx_putr hE in_X9 (t := 17) rfl (by decide) 3 3 rfl (by decide) rfl (by decide) (ty := tyX9 3) tyX9 tyX9_ok nmX9 rfl q891 (Or.inl rfl) rfl (tyX9_ok 3 (by decide)) nar_o fit_o ht1 dJ18_init_3_43 ?_ hok
    intro hok
    have hw := hw _ rfl
    generalize uR R5 o 3 x1 = R6 at hw hok ⊢
    refine g_aldn0 hE1 dJ18_init_3_46 ?_
    refine g_aldn2 hE1 dJ18_init_3_47 ?_
    refine gx_putr hE in_X9 (t := 17) rfl (by decide) 0 0 rfl (by decide) rfl (by decide) (ty := tyX9 0) tyX9 tyX9_ok nmX9 rfl q892 (Or.inl rfl) rfl (tyX9_ok 0 (by decide)) nar_o fit_o ht1 dJ18_init_3_48 ?_ hok
    intro hok
    have hw := hw _ rfl
    generalize uR R6 o 0 x2 = R7 at hw hok ⊢
    refine g_ildn3 hE1 dJ18_init_3_51 ?_
    refine jn1_walk (fun (R_60 : xR) => GX E X T I R_60 L 0 0 60 [some (aR (some o)), some (aR x1), some (aR x2), some (aI x3), some (aI x4)] []) hw (fun R_60 hw => ?_) (fun J_60 hj_60 hw => ?_)
    · intro hok
      exact gx_vret hE hR dJ18_init_3_60 (by decide) (by decide) ⟨rfl, rfl, rfl, rfl, hw⟩ hok
    · skip
      obtain ⟨h9, h10, hT11, hN12⟩ := hw
      refine g_if_ne hE1 (tgt := 60) dJ18_init_3_52 (by decide) h9 (fun q => ?_) (fun q => ?_)
      · have hw := hT11 q
        refine g_aldn0 hE1 dJ18_init_3_55 ?_
        refine g_null hE1 dJ18_init_3_56 ?_
        refine gx_putr hE in_X9 (t := 17) rfl (by decide) 2 2 rfl (by decide) rfl (by decide) (ty := tyX9 2) tyX9 tyX9_ok nmX9 rfl q894 (Or.inl rfl) rfl (tyX9_ok 2 (by decide)) nar_o fit_o ht1 dJ18_init_3_57 ?_ hok
        intro hok
        have hw := hw _ rfl
        generalize uR R7 o 2 none = R8 at hw hok ⊢
        exact hj_60 _ hw hok
      · have hw := hN12 q
        exact hj_60 _ hw hok
  · have hw := hN16 q
    refine g_aldn0 hE1 dJ18_init_3_28 ?_
    exact hw.elim

/-- java/lang/Exception.<init>(Ljava/lang/String;Ljava/lang/Throwable;ZZ)V -/
def wx_J19_init_2_X9 (X : XT) (o : Nat) (x1 : Option Nat) (x2 : Option Nat) (x3 : Int) (x4 : Int) (T : xT) (I : xI) (R : xR) (L : xL) (Q : xR → Prop) : Prop :=
  wx_J18_init_3_X9 X o x1 x2 x3 x4 T I R L (fun (R1 : xR) => 
  Q R1)
theorem hx_J19_init_2_X9 : yJ19_init_2.cls ≠ "java/lang/invoke/MethodHandle" ∧ yJ19_init_2.cls ≠ "java/lang/invoke/VarHandle" ∧ (parseMethodDescriptor yJ19_init_2.desc).map (fun d => d.parameters.length) = some 4 := by decide +kernel
set_option maxHeartbeats 4000000 in
theorem tx_J19_init_2_X9 (X : XT) {o : Nat} {x1 : Option Nat} {x2 : Option Nat} {x3 : Int} {x4 : Int} {T : xT} {I : xI} {R : xR} {L : xL} {Q : xR → Prop} (hw : wx_J19_init_2_X9 X o x1 x2 x3 x4 T I R L Q) : CtX X yJ19_init_2 cJ19_init_2 5 none (rmX 2 0 0 44) [aR (some o), aR x1, aR x2, aI x3, aI x4] T I R L (PXvR T I R L Q) := by
  refine CtX.intro (by decide) (Nat.le_of_ble_eq_true rfl) (fun E hE hR hN => ?_)
  have hRm := hR.rm
  have hE : OkX E X RJ19 cJ19_init_2 5 none := hE
  have hE1 := hE.1
  have hI : isInit E := hN
  show GX E X T I R L 0 0 0 [some (aR (some o)), some (aR x1), some (aR x2), some (aI x3), some (aI x4)] []
  unfold wx_J19_init_2_X9 at hw
  intro hok
  refine g_aldn0 hE1 dJ19_init_2_0 ?_
  refine g_aldn1 hE1 dJ19_init_2_1 ?_
  refine g_aldn2 hE1 dJ19_init_2_2 ?_
  refine g_ildn3 hE1 dJ19_init_2_3 ?_
  refine g_ild4 hE1 dJ19_init_2_4 ?_
  refine gx_callI hE hRm (As := [aR x1, aR x2, aI x3, aI x4]) (b := o) hx_J18_init_3_X9 (lw_meth q1121) q1119 q119 q1120 rfl (tx_J18_init_3_X9 X hw) ⟨by decide, by decide⟩ ⟨(by decide), (by decide)⟩ rfl (Nat.le_of_ble_eq_true rfl) dJ19_init_2_6 rfl (fun r9 Tz Iz R1 Lz hΦ => ?_) hok
  obtain ⟨rfl, rfl, rfl, rfl, hw⟩ := hΦ
  show GX E X T I R1 L 0 0 9 [some (aR (some o)), some (aR x1), some (aR x2), some (aI x3), some (aI x4)] []
  intro hok
  exact gx_vret hE hR dJ19_init_2_9 (by decide) (by decide) ⟨rfl, rfl, rfl, rfl, hw⟩ hok

/-- WhalingLogs$Wrong.<init>(I)V -/
def wx_X9_init (X : XT) (o : Nat) (x1 : Int) (T : xT) (I : xI) (R : xR) (L : xL) (Q : xI → xR → Prop) : Prop :=
  wx_J19_init_2_X9 X o none none 0 0 T I R L (fun (R1 : xR) => 
  xtag T o = 17 ∧ ∀ I4 : xI, I4 = uI I o 6 x1 →
  Q I4 R1)
theorem hx_X9_init : yX9_init.cls ≠ "java/lang/invoke/MethodHandle" ∧ yX9_init.cls ≠ "java/lang/invoke/VarHandle" ∧ (parseMethodDescriptor yX9_init.desc).map (fun d => d.parameters.length) = some 1 := by decide +kernel
set_option maxHeartbeats 4000000 in
theorem tx_X9_init (X : XT) {o : Nat} {x1 : Int} {T : xT} {I : xI} {R : xR} {L : xL} {Q : xI → xR → Prop} (hw : wx_X9_init X o x1 T I R L Q) : CtX X yX9_init cX9_init 2 none (rmX 3 0 0 68) [aR (some o), aI x1] T I R L (PXvIR T I R L Q) := by
  refine CtX.intro (by decide) (Nat.le_of_ble_eq_true rfl) (fun E hE hR hN => ?_)
  have hRm := hR.rm
  have hE : OkX E X RX9 cX9_init 2 none := hE
  have hE1 := hE.1
  have hI : isInit E := hN
  show GX E X T I R L 0 0 0 [some (aR (some o)), some (aI x1)] []
  unfold wx_X9_init at hw
  intro hok
  refine g_aldn0 hE1 dX9_init_0 ?_
  refine g_null hE1 dX9_init_1 ?_
  refine g_null hE1 dX9_init_2 ?_
  refine g_iconst hE1 dX9_init_3 ?_
  refine g_iconst hE1 dX9_init_4 ?_
  refine gx_callI hE hRm (As := [aR none, aR none, aI 0, aI 0]) (b := o) hx_J19_init_2_X9 (lw_meth q1118) q1793 q120 q1117 rfl (tx_J19_init_2_X9 X hw) ⟨by decide, by decide⟩ ⟨(by decide), (by decide)⟩ rfl (Nat.le_of_ble_eq_true rfl) dX9_init_5 rfl (fun r9 Tz Iz R1 Lz hΦ => ?_) hok
  obtain ⟨rfl, rfl, rfl, rfl, hw⟩ := hΦ
  show GX E X T I R1 L 0 0 8 [some (aR (some o)), some (aI x1)] []
  intro hok
  refine g_aldn0 hE1 dX9_init_8 ?_
  refine g_ildn1 hE1 dX9_init_9 ?_
  obtain ⟨ht3, hw⟩ := hw
  refine gx_putiF hE in_X9 (t := 17) rfl (by decide) 6 6 rfl (by decide) rfl (by decide) (ty := tyX9 6) tyX9 tyX9_ok nmX9 rfl q1794 (Or.inl rfl) rfl hI rfl (tyX9_ok 6 (by decide)) rfl rfl ht3 dX9_init_10 ?_ hok
  intro hok
  have hw := hw _ rfl
  generalize uI I o 6 x1 = I4 at hw hok ⊢
  exact gx_vret hE hR dX9_init_13 (by decide) (by decide) ⟨rfl, rfl, rfl, hw⟩ hok

/-- WhalingLogs$Reader.needs(Z)V -/
def wx_X8_needs (X : XT) (o : Nat) (x1 : Int) (T : xT) (I : xI) (R : xR) (L : xL) (Q : xT → xI → xR → Prop) (Y : Nat → xT → xI → xR → Prop) : Prop :=
  cEq x1 0
    (
    ∀ q1 : Nat, xtag T q1 = 0 → bsX X ≤ q1 → ∀ T4 : xT, T4 = xnew T q1 17 0 →
    xtag T4 o = 16 ∧
    wx_X9_init X q1 (I o 1) T4 I R L (fun (I8 : xI) (R9 : xR) => 
    Y q1 T4 I8 R9))
    (
    Q T I R)
theorem hx_X8_needs : yX8_needs.cls = RX8 ∧ yX8_needs.cls ≠ "java/lang/invoke/MethodHandle" ∧ yX8_needs.cls ≠ "java/lang/invoke/VarHandle" ∧ (parseMethodDescriptor yX8_needs.desc).map (fun d => d.parameters.length) = some 1 := by decide +kernel
set_option maxHeartbeats 4000000 in
theorem tx_X8_needs (X : XT) {o : Nat} {x1 : Int} {T : xT} {I : xI} {R : xR} {L : xL} {Q : xT → xI → xR → Prop} {Y : Nat → xT → xI → xR → Prop} (hw : wx_X8_needs X o x1 T I R L Q Y) : CtY X yX8_needs cX8_needs 2 none (rmX 4 1 7 89) [aR (some o), aI x1] T I R L (PXvTIR T I R L Q) (PYTIR T I R L "WhalingLogs$Wrong" 17 Y) := by
  refine CtY.intro (by decide) (Nat.le_of_ble_eq_true rfl) (fun E hE hR hY hN => ?_)
  have hRm := hR.rm
  have hE : OkX E X RX8 cX8_needs 2 none := hE
  have hE1 := hE.1
  show GX E X T I R L 0 0 0 [some (aR (some o)), some (aI x1)] []
  unfold wx_X8_needs at hw
  intro hok
  refine g_ildn1 hE1 dX8_needs_0 ?_
  obtain ⟨h11, h12, hT13, hN14⟩ := hw
  refine g_if_ne hE1 (tgt := 16) dX8_needs_1 (by decide) h11 (fun q => ?_) (fun q => ?_)
  · have hw := hT13 q
    refine gx_new hE hRm in_X9 tyX9 tyX9_ok (t := 17) rfl (by decide) (by decide) rfl (by decide) q1781 q1782 q134 (by decide) (by decide) dX8_needs_4 (fun q1 hq2 hbs3 => ?_) hok
    intro hok
    have hw := hw q1 hq2 hbs3 _ rfl
    have hl5 := tle.new (T := T) (q := q1) (t := 17) (n := 0) hq2
    have hT6 : xtag (xnew T q1 17 0) q1 = 17 := if_pos rfl
    generalize xnew T q1 17 0 = T4 at hw hl5 hok hT6 ⊢
    refine g_dup hE1 dX8_needs_7 rfl ?_
    refine g_aldn0 hE1 dX8_needs_8 ?_
    obtain ⟨ht7, hw⟩ := hw
    refine gx_geti hE in_X8 (t := 16) rfl (by decide) 1 1 rfl (by decide) rfl (by decide) rfl q1625 (Or.inl rfl) ht7 dX8_needs_9 ?_ hok
    intro hok
    refine gx_callI hE hRm (As := [aI (I o 1)]) (b := q1) hx_X9_init (lw_meth q1792) q1790 q134 q1791 rfl (tx_X9_init X hw) ⟨by decide, by decide⟩ ⟨(by decide), (by decide)⟩ rfl (Nat.le_of_ble_eq_true rfl) dX8_needs_12 rfl (fun r9 Tz I8 R9 Lz hΦ => ?_) hok
    obtain ⟨rfl, rfl, rfl, hw⟩ := hΦ
    show GX E X T4 I8 R9 L 1 7 15 [some (aR (some o)), some (aI x1)] [aR (some q1)]
    intro hok
    exact gx_athrow hE hT6 (by decide) (by decide) rfl dX8_needs_15 (gx_out hE hY (by decide) (by decide) ⟨rfl, rfl, hl5, hT6, hw⟩) hok
  · have hw := hN14 q
    exact gx_vret hE hR dX8_needs_16 (by decide) (by decide) ⟨rfl, rfl, tle.rf, hw⟩ hok

/-- WhalingLogs$Reader.isDigit()Z -/
def wx_X8_isDigit (X : XT) (o : Nat)  (T : xT) (I : xI) (R : xR) (L : xL) (Q : Int → Prop) : Prop :=
  xtag T o = 16 ∧ wx_X8_here X o T I R L (fun (r2 : Int) => 
  wx_X0_isIn X r2 48 57 T I R L (fun (r4 : Int) => 
  bl r4 ∧ Q r4))
theorem hx_X8_isDigit : yX8_isDigit.cls = RX8 ∧ yX8_isDigit.cls ≠ "java/lang/invoke/MethodHandle" ∧ yX8_isDigit.cls ≠ "java/lang/invoke/VarHandle" ∧ (parseMethodDescriptor yX8_isDigit.desc).map (fun d => d.parameters.length) = some 0 := by decide +kernel
set_option maxHeartbeats 4000000 in
theorem tx_X8_isDigit (X : XT) {o : Nat}  {T : xT} {I : xI} {R : xR} {L : xL} {Q : Int → Prop} (hw : wx_X8_isDigit X o T I R L Q) : CtX X yX8_isDigit cX8_isDigit 1 (some .boolean) (rmX 5 0 0 129) [aR (some o)] T I R L (PXi T I R L Q) := by
  refine CtX.intro (by decide) (Nat.le_of_ble_eq_true rfl) (fun E hE hR hN => ?_)
  have hRm := hR.rm
  have hE : OkX E X RX8 cX8_isDigit 1 (some .boolean) := hE
  have hE1 := hE.1
  show GX E X T I R L 0 0 0 [some (aR (some o))] []
  unfold wx_X8_isDigit at hw
  intro hok
  refine g_aldn0 hE1 dX8_isDigit_0 ?_
  obtain ⟨ht1, hw⟩ := hw
  refine gx_callV hE hRm (As := []) ht1 (by decide) (by decide) rfl hx_X8_here (tx_X8_here X hw) (lw_V q1650 q1652 qs34 q133 q1653) ⟨by decide, by decide⟩ ⟨(by decide), (by decide)⟩ rfl (Nat.le_of_ble_eq_true rfl) dX8_isDigit_1 rfl (fun r9 Tz Iz Rz Lz hΦ => ?_) hok
  obtain ⟨r2, rfl, rfl, rfl, rfl, rfl, hw⟩ := hΦ
  show GX E X T I R L 0 0 4 [some (aR (some o))] [aI r2]
  intro hok
  refine g_bipush hE1 dX8_isDigit_4 (by decide) ?_
  refine g_bipush hE1 dX8_isDigit_6 (by decide) ?_
  refine gx_callSN hE hRm (As := [aI r2, aI 48, aI 57]) hx_X0_isIn (tx_X0_isIn X hw) (lw_meth q394) q1697 q94 q393 ⟨by decide, by decide⟩ ⟨(by decide), (by decide)⟩ rfl (Nat.le_of_ble_eq_true rfl) dX8_isDigit_8 rfl (fun r9 Tz Iz Rz Lz hΦ => ?_) hok
  obtain ⟨r4, rfl, rfl, rfl, rfl, rfl, hw⟩ := hΦ
  show GX E X T I R L 0 0 11 [some (aR (some o))] [aI r4]
  intro hok
  obtain ⟨h6, hw⟩ := hw
  exact gx_iret hE hR dX8_isDigit_11 (by decide) (by decide) (narrow_bl h6) ⟨_, rfl, rfl, rfl, rfl, rfl, hw⟩ hok

/-- WhalingLogs$Reader.digits(I)I -/
def wx_X8_digits (X : XT) (o : Nat) (x1 : Int) (T : xT) (I : xI) (R : xR) (L : xL) (Q : Int → xT → xI → xR → Prop) (Y : Nat → xT → xI → xR → Prop) : Prop :=
  xtag T o = 16 ∧ wx_X8_isDigit X o T I R L (fun (r2 : Int) => 
  wx_X8_needs X o r2 T I R L (fun (T4 : xT) (I5 : xI) (R6 : xR) => tle T T4 → 
    lq3 (fun (x2_12 : Int) (x3_12 : Int) (I_12 : xI) (K_12 : Int → Int → xI → Prop) =>
      jn0 (
          Q x2_12 T4 I_12 R6)
        (fun (J_53 : Prop) =>
        cLt x3_12 x1
          (
          wx_X8_isDigit X o T4 I_12 R6 L (fun (r9 : Int) => 
          cEq r9 0
            (
            J_53)
            (
            wx_X8_here X o T4 I_12 R6 L (fun (r11 : Int) => 
            ∀ I13 : xI, I13 = uI I_12 o 1 ((I_12 o 1) + 1) →
            K_12 (((10 * x2_12) + r11) - 48) (x3_12 + 1) I13))))
          (
          J_53))) 0 0 I5)
    (fun (e22 : Nat) (T23 : xT) (I24 : xI) (R25 : xR) => tle T T23 → xtag T23 e22 = 17 → 
    Y e22 T23 I24 R25))
theorem hx_X8_digits : yX8_digits.cls = RX8 ∧ yX8_digits.cls ≠ "java/lang/invoke/MethodHandle" ∧ yX8_digits.cls ≠ "java/lang/invoke/VarHandle" ∧ (parseMethodDescriptor yX8_digits.desc).map (fun d => d.parameters.length) = some 1 := by decide +kernel
set_option maxHeartbeats 4000000 in
theorem tx_X8_digits (X : XT) {o : Nat} {x1 : Int} {T : xT} {I : xI} {R : xR} {L : xL} {Q : Int → xT → xI → xR → Prop} {Y : Nat → xT → xI → xR → Prop} (hw : wx_X8_digits X o x1 T I R L Q Y) : CtY X yX8_digits cX8_digits 4 (some .int) (rmX 6 1 7 149) [aR (some o), aI x1] T I R L (PXiTIR T I R L Q) (PYTIR T I R L "WhalingLogs$Wrong" 17 Y) := by
  refine CtY.intro (by decide) (Nat.le_of_ble_eq_true rfl) (fun E hE hR hY hN => ?_)
  have hRm := hR.rm
  have hE : OkX E X RX8 cX8_digits 4 (some .int) := hE
  have hE1 := hE.1
  show GX E X T I R L 0 0 0 [some (aR (some o)), some (aI x1), none, none] []
  unfold wx_X8_digits at hw
  intro hok
  refine g_aldn0 hE1 dX8_digits_0 ?_
  refine g_aldn0 hE1 dX8_digits_1 ?_
  obtain ⟨ht1, hw⟩ := hw
  refine gx_callV hE hRm (As := []) ht1 (by decide) (by decide) rfl hx_X8_isDigit (tx_X8_isDigit X hw) (lw_V q1806 q1808 qs40 q133 q1809) ⟨by decide, by decide⟩ ⟨(by decide), (by decide)⟩ rfl (Nat.le_of_ble_eq_true rfl) dX8_digits_2 rfl (fun r9 Tz Iz Rz Lz hΦ => ?_) hok
  obtain ⟨r2, rfl, rfl, rfl, rfl, rfl, hw⟩ := hΦ
  show GX E X T I R L 0 0 5 [some (aR (some o)), some (aI x1), none, none] [aI r2, aR (some o)]
  intro hok
  refine gy_callV hE hRm (As := [aI r2]) ht1 (by decide) (by decide) rfl hx_X8_needs (tx_X8_needs X hw) (lw_V q1777 q1779 qs38 q133 q1780) ⟨by decide, by decide⟩ ⟨(by decide), (by decide)⟩ rfl (Nat.le_of_ble_eq_true rfl) dX8_digits_5 rfl (fun r9 T4 I5 R6 Lz hΦ => ?_) (fun Ec q9 T23 I24 R25 Lz hΦ => ?_) hok
  · obtain ⟨rfl, rfl, hl7, hw⟩ := hΦ
    have hw := hw hl7
    show GX E X T4 I5 R6 L 1 7 8 [some (aR (some o)), some (aI x1), none, none] []
    intro hok
    refine g_iconst hE1 dX8_digits_8 ?_
    refine g_istn2 hE1 dX8_digits_9 (by decide) rfl ?_
    refine g_iconst hE1 dX8_digits_10 ?_
    refine g_istn3 hE1 dX8_digits_11 (by decide) rfl ?_
    refine lq3_walk (fun (x2_12 : Int) (x3_12 : Int) (I_12 : xI) => GX E X T4 I_12 R6 L 1 7 12 [some (aR (some o)), some (aI x1), some (aI x2_12), some (aI x3_12)] []) (fun K_12 hk_12 x2_12 x3_12 I_12 hw => ?_) _ _ _ hw hok
    intro hok
    refine g_ildn3 hE1 dX8_digits_12 ?_
    refine g_ildn1 hE1 dX8_digits_13 ?_
    refine jn0_walk (GX E X T4 I_12 R6 L 1 7 53 [some (aR (some o)), some (aI x1), some (aI x2_12), some (aI x3_12)] []) hw (fun  hw => ?_) (fun J_53 hj_53 hw => ?_)
    · intro hok
      refine g_ildn2 hE1 dX8_digits_53 ?_
      exact gx_iret hE hR dX8_digits_54 (by decide) (by decide) rfl ⟨_, rfl, rfl, hl7, hw⟩ hok
    · skip
      obtain ⟨h18, h19, hT20, hN21⟩ := hw
      refine g_icmp_ge hE1 (tgt := 53) dX8_digits_14 (by decide) h18 h19 (fun q => ?_) (fun q => ?_)
      · have hw := hT20 q
        refine g_aldn0 hE1 dX8_digits_17 ?_
        have ht8 := hl7.tag ht1 (by decide)
        refine gx_callV hE hRm (As := []) ht8 (by decide) (by decide) rfl hx_X8_isDigit (tx_X8_isDigit X hw) (lw_V q1806 q1808 qs40 q133 q1809) ⟨by decide, by decide⟩ ⟨(by decide), (by decide)⟩ rfl (Nat.le_of_ble_eq_true rfl) dX8_digits_18 rfl (fun r9 Tz Iz Rz Lz hΦ => ?_) hok
        obtain ⟨r9, rfl, rfl, rfl, rfl, rfl, hw⟩ := hΦ
        show GX E X T4 I_12 R6 L 1 7 21 [some (aR (some o)), some (aI x1), some (aI x2_12), some (aI x3_12)] [aI r9]
        intro hok
        obtain ⟨h14, h15, hT16, hN17⟩ := hw
        refine g_if_eq hE1 (tgt := 53) dX8_digits_21 (by decide) h14 (fun q => ?_) (fun q => ?_)
        · have hw := hT16 q
          exact hj_53  hw hok
        · have hw := hN17 q
          refine g_bipush hE1 dX8_digits_24 (by decide) ?_
          refine g_ildn2 hE1 dX8_digits_26 ?_
          refine g_imul hE1 dX8_digits_27 ?_
          refine g_aldn0 hE1 dX8_digits_28 ?_
          refine gx_callV hE hRm (As := []) ht8 (by decide) (by decide) rfl hx_X8_here (tx_X8_here X hw) (lw_V q1650 q1652 qs34 q133 q1653) ⟨by decide, by decide⟩ ⟨(by decide), (by decide)⟩ rfl (Nat.le_of_ble_eq_true rfl) dX8_digits_29 rfl (fun r9 Tz Iz Rz Lz hΦ => ?_) hok
          obtain ⟨r11, rfl, rfl, rfl, rfl, rfl, hw⟩ := hΦ
          show GX E X T4 I_12 R6 L 1 7 32 [some (aR (some o)), some (aI x1), some (aI x2_12), some (aI x3_12)] [aI r11, aI (10 * x2_12)]
          intro hok
          refine g_iadd hE1 dX8_digits_32 ?_
          refine g_bipush hE1 dX8_digits_33 (by decide) ?_
          refine g_isub hE1 dX8_digits_35 ?_
          refine g_istn2 hE1 dX8_digits_36 (by decide) rfl ?_
          refine g_aldn0 hE1 dX8_digits_37 ?_
          refine g_dup hE1 dX8_digits_38 rfl ?_
          refine gx_geti hE in_X8 (t := 16) rfl (by decide) 1 1 rfl (by decide) rfl (by decide) rfl q1625 (Or.inl rfl) ht8 dX8_digits_39 ?_ hok
          intro hok
          refine g_iconst hE1 dX8_digits_42 ?_
          refine g_iadd hE1 dX8_digits_43 ?_
          refine gx_puti hE in_X8 (t := 16) rfl (by decide) 1 1 rfl (by decide) rfl (by decide) (ty := tyX8 1) tyX8 tyX8_ok nmX8 rfl q1625 (Or.inl rfl) rfl (tyX8_ok 1 (by decide)) rfl rfl ht8 dX8_digits_44 ?_ hok
          intro hok
          have hw := hw _ rfl
          generalize uI I_12 o 1 ((I_12 o 1) + 1) = I13 at hw hok ⊢
          refine g_iinc3 hE1 dX8_digits_47 (by decide) rfl ?_
          refine g_goto hE1 (tgt := 12) dX8_digits_50 (by decide) ?_
          exact hk_12 _ _ _ hw hok
      · have hw := hN21 q
        exact hj_53  hw hok
  · have hq9 : ∃ q8, q8 = q9 := ⟨_, rfl⟩
    obtain ⟨e22, rfl⟩ := hq9
    obtain ⟨rfl, rfl, hl26, ht27, hw⟩ := hΦ
    have hw := hw hl26 ht27
    exact gx_out hE hY (by decide) (by decide) ⟨rfl, rfl, hl26, ht27, hw⟩

/-- WhalingLogs$Reader.number(I)I -/
def wx_X8_number (X : XT) (o : Nat) (x1 : Int) (T : xT) (I : xI) (R : xR) (L : xL) (Q : Int → xT → xI → xR → Prop) (Y : Nat → xT → xI → xR → Prop) : Prop :=
  xtag T o = 16 ∧ wx_X8_takes X o 32 T I R L (fun (r2 : Int) (I3 : xI) => 
  wx_X8_needs X o r2 T I3 R L (fun (T5 : xT) (I6 : xI) (R7 : xR) => tle T T5 → 
    wx_X8_digits X o x1 T5 I6 R7 L (fun (r10 : Int) (T11 : xT) (I12 : xI) (R13 : xR) => tle T5 T11 → 
      Q r10 T11 I12 R13)
      (fun (e15 : Nat) (T16 : xT) (I17 : xI) (R18 : xR) => tle T5 T16 → xtag T16 e15 = 17 → 
      Y e15 T16 I17 R18))
    (fun (e21 : Nat) (T22 : xT) (I23 : xI) (R24 : xR) => tle T T22 → xtag T22 e21 = 17 → 
    Y e21 T22 I23 R24))
theorem hx_X8_number : yX8_number.cls = RX8 ∧ yX8_number.cls ≠ "java/lang/invoke/MethodHandle" ∧ yX8_number.cls ≠ "java/lang/invoke/VarHandle" ∧ (parseMethodDescriptor yX8_number.desc).map (fun d => d.parameters.length) = some 1 := by decide +kernel
set_option maxHeartbeats 4000000 in
theorem tx_X8_number (X : XT) {o : Nat} {x1 : Int} {T : xT} {I : xI} {R : xR} {L : xL} {Q : Int → xT → xI → xR → Prop} {Y : Nat → xT → xI → xR → Prop} (hw : wx_X8_number X o x1 T I R L Q Y) : CtY X yX8_number cX8_number 2 (some .int) (rmX 7 2 14 172) [aR (some o), aI x1] T I R L (PXiTIR T I R L Q) (PYTIR T I R L "WhalingLogs$Wrong" 17 Y) := by
  refine CtY.intro (by decide) (Nat.le_of_ble_eq_true rfl) (fun E hE hR hY hN => ?_)
  have hRm := hR.rm
  have hE : OkX E X RX8 cX8_number 2 (some .int) := hE
  have hE1 := hE.1
  show GX E X T I R L 0 0 0 [some (aR (some o)), some (aI x1)] []
  unfold wx_X8_number at hw
  intro hok
  refine g_aldn0 hE1 dX8_number_0 ?_
  refine g_aldn0 hE1 dX8_number_1 ?_
  refine g_bipush hE1 dX8_number_2 (by decide) ?_
  obtain ⟨ht1, hw⟩ := hw
  refine gx_callV hE hRm (As := [aI 32]) ht1 (by decide) (by decide) rfl hx_X8_takes (tx_X8_takes X hw) (lw_V q1773 q1775 qs37 q133 q1776) ⟨by decide, by decide⟩ ⟨(by decide), (by decide)⟩ rfl (Nat.le_of_ble_eq_true rfl) dX8_number_4 rfl (fun r9 Tz I3 Rz Lz hΦ => ?_) hok
  obtain ⟨r2, rfl, rfl, rfl, rfl, hw⟩ := hΦ
  show GX E X T I3 R L 0 0 7 [some (aR (some o)), some (aI x1)] [aI r2, aR (some o)]
  intro hok
  refine gy_callV hE hRm (As := [aI r2]) ht1 (by decide) (by decide) rfl hx_X8_needs (tx_X8_needs X hw) (lw_V q1777 q1779 qs38 q133 q1780) ⟨by decide, by decide⟩ ⟨(by decide), (by decide)⟩ rfl (Nat.le_of_ble_eq_true rfl) dX8_number_7 rfl (fun r9 T5 I6 R7 Lz hΦ => ?_) (fun Ec q9 T22 I23 R24 Lz hΦ => ?_) hok
  · obtain ⟨rfl, rfl, hl8, hw⟩ := hΦ
    have hw := hw hl8
    show GX E X T5 I6 R7 L 1 7 10 [some (aR (some o)), some (aI x1)] []
    intro hok
    refine g_aldn0 hE1 dX8_number_10 ?_
    refine g_ildn1 hE1 dX8_number_11 ?_
    have ht9 := hl8.tag ht1 (by decide)
    refine gy_callV hE hRm (As := [aI x1]) ht9 (by decide) (by decide) rfl hx_X8_digits (tx_X8_digits X hw) (lw_V q1802 q1804 qs39 q133 q1805) ⟨by decide, by decide⟩ ⟨(by decide), (by decide)⟩ rfl (Nat.le_of_ble_eq_true rfl) dX8_number_12 rfl (fun r9 T11 I12 R13 Lz hΦ => ?_) (fun Ec q9 T16 I17 R18 Lz hΦ => ?_) hok
    · obtain ⟨r10, rfl, rfl, hl14, hw⟩ := hΦ
      have hw := hw hl14
      show GX E X T11 I12 R13 L 2 14 15 [some (aR (some o)), some (aI x1)] [aI r10]
      intro hok
      exact gx_iret hE hR dX8_number_15 (by decide) (by decide) rfl ⟨_, rfl, rfl, (hl8.tr hl14), hw⟩ hok
    · have hq9 : ∃ q8, q8 = q9 := ⟨_, rfl⟩
      obtain ⟨e15, rfl⟩ := hq9
      obtain ⟨rfl, rfl, hl19, ht20, hw⟩ := hΦ
      have hw := hw hl19 ht20
      exact gx_out hE hY (by decide) (by decide) ⟨rfl, rfl, (hl8.tr hl19), ht20, hw⟩
  · have hq9 : ∃ q8, q8 = q9 := ⟨_, rfl⟩
    obtain ⟨e21, rfl⟩ := hq9
    obtain ⟨rfl, rfl, hl25, ht26, hw⟩ := hΦ
    have hw := hw hl25 ht26
    exact gx_out hE hY (by decide) (by decide) ⟨rfl, rfl, hl25, ht26, hw⟩

/-- WhalingLogs$PageOrder.<init>(II)V -/
def wx_X12_init (X : XT) (o : Nat) (x1 : Int) (x2 : Int) (T : xT) (I : xI) (R : xR) (L : xL) (Q : xI → Prop) : Prop :=
  xtag T o = 20 ∧ ∀ I2 : xI, I2 = uI I o 0 x1 →
  ∀ I3 : xI, I3 = uI I2 o 1 x2 →
  Q I3
theorem hx_X12_init : yX12_init.cls ≠ "java/lang/invoke/MethodHandle" ∧ yX12_init.cls ≠ "java/lang/invoke/VarHandle" ∧ (parseMethodDescriptor yX12_init.desc).map (fun d => d.parameters.length) = some 2 := by decide +kernel
set_option maxHeartbeats 4000000 in
theorem tx_X12_init (X : XT) {o : Nat} {x1 : Int} {x2 : Int} {T : xT} {I : xI} {R : xR} {L : xL} {Q : xI → Prop} (hw : wx_X12_init X o x1 x2 T I R L Q) : CtX X yX12_init cX12_init 3 none (rmX 1 0 0 20) [aR (some o), aI x1, aI x2] T I R L (PXvI T I R L Q) := by
  refine CtX.intro (by decide) (Nat.le_of_ble_eq_true rfl) (fun E hE hR hN => ?_)
  have hRm := hR.rm
  have hE : OkX E X RX12 cX12_init 3 none := hE
  have hE1 := hE.1
  have hI : isInit E := hN
  show GX E X T I R L 0 0 0 [some (aR (some o)), some (aI x1), some (aI x2)] []
  unfold wx_X12_init at hw
  intro hok
  refine g_aldn0 hE1 dX12_init_0 ?_
  refine gx_objInit hE hRm rfl q1850 q151 q152 (by decide) (by decide) (Nat.le_of_ble_eq_true rfl) dX12_init_1 ?_ hok
  intro hok
  refine g_aldn0 hE1 dX12_init_4 ?_
  refine g_ildn1 hE1 dX12_init_5 ?_
  obtain ⟨ht1, hw⟩ := hw
  refine gx_putiF hE in_X12 (t := 20) rfl (by decide) 0 0 rfl (by decide) rfl (by decide) (ty := tyX12 0) tyX12 tyX12_ok nmX12 rfl q1851 (Or.inl rfl) rfl hI rfl (tyX12_ok 0 (by decide)) rfl rfl ht1 dX12_init_6 ?_ hok
  intro hok
  have hw := hw _ rfl
  generalize uI I o 0 x1 = I2 at hw hok ⊢
  refine g_aldn0 hE1 dX12_init_9 ?_
  refine g_ildn2 hE1 dX12_init_10 ?_
  refine gx_putiF hE in_X12 (t := 20) rfl (by decide) 1 1 rfl (by decide) rfl (by decide) (ty := tyX12 1) tyX12 tyX12_ok nmX12 rfl q1852 (Or.inl rfl) rfl hI rfl (tyX12_ok 1 (by decide)) rfl rfl ht1 dX12_init_11 ?_ hok
  intro hok
  have hw := hw _ rfl
  generalize uI I2 o 1 x2 = I3 at hw hok ⊢
  exact gx_vret hE hR dX12_init_14 (by decide) (by decide) ⟨rfl, rfl, rfl, rfl, hw⟩ hok

/-- WhalingLogs$Reader.pageOrder()LWhalingLogs$Order; -/
def wx_X8_pageOrder (X : XT) (o : Nat)  (T : xT) (I : xI) (R : xR) (L : xL) (Q : Option Nat → xT → xI → xR → Prop) (Y : Nat → xT → xI → xR → Prop) : Prop :=
  xtag T o = 16 ∧ wx_X8_number X o 3 T I R L (fun (r2 : Int) (T3 : xT) (I4 : xI) (R5 : xR) => tle T T3 → 
    ∀ q7 : Nat, xtag T3 q7 = 0 → bsX X ≤ q7 → ∀ T10 : xT, T10 = xnew T3 q7 20 0 →
    wx_X8_number X o 3 T10 I4 R5 L (fun (r14 : Int) (T15 : xT) (I16 : xI) (R17 : xR) => tle T10 T15 → 
      wx_X12_init X q7 r2 r14 T15 I16 R17 L (fun (I19 : xI) => 
      Q (some q7) T15 I19 R17))
      (fun (e21 : Nat) (T22 : xT) (I23 : xI) (R24 : xR) => tle T10 T22 → xtag T22 e21 = 17 → 
      Y e21 T22 I23 R24))
    (fun (e27 : Nat) (T28 : xT) (I29 : xI) (R30 : xR) => tle T T28 → xtag T28 e27 = 17 → 
    Y e27 T28 I29 R30)
theorem hx_X8_pageOrder : yX8_pageOrder.cls = RX8 ∧ yX8_pageOrder.cls ≠ "java/lang/invoke/MethodHandle" ∧ yX8_pageOrder.cls ≠ "java/lang/invoke/VarHandle" ∧ (parseMethodDescriptor yX8_pageOrder.desc).map (fun d => d.parameters.length) = some 0 := by decide +kernel
set_option maxHeartbeats 4000000 in
theorem tx_X8_pageOrder (X : XT) {o : Nat}  {T : xT} {I : xI} {R : xR} {L : xL} {Q : Option Nat → xT → xI → xR → Prop} {Y : Nat → xT → xI → xR → Prop} (hw : wx_X8_pageOrder X o T I R L Q Y) : CtY X yX8_pageOrder cX8_pageOrder 2 (some (.object "WhalingLogs$Order")) (rmX 8 5 30 193) [aR (some o)] T I R L (PXqTIR T I R L Q) (PYTIR T I R L "WhalingLogs$Wrong" 17 Y) := by
  refine CtY.intro (by decide) (Nat.le_of_ble_eq_true rfl) (fun E hE hR hY hN => ?_)
  have hRm := hR.rm
  have hE : OkX E X RX8 cX8_pageOrder 2 (some (.object "WhalingLogs$Order")) := hE
  have hE1 := hE.1
  show GX E X T I R L 0 0 0 [some (aR (some o)), none] []
  unfold wx_X8_pageOrder at hw
  intro hok
  refine g_aldn0 hE1 dX8_pageOrder_0 ?_
  refine g_iconst hE1 dX8_pageOrder_1 ?_
  obtain ⟨ht1, hw⟩ := hw
  refine gy_callV hE hRm (As := [aI 3]) ht1 (by decide) (by decide) rfl hx_X8_number (tx_X8_number X hw) (lw_V q1829 q1831 qs41 q133 q1832) ⟨by decide, by decide⟩ ⟨(by decide), (by decide)⟩ rfl (Nat.le_of_ble_eq_true rfl) dX8_pageOrder_2 rfl (fun r9 T3 I4 R5 Lz hΦ => ?_) (fun Ec q9 T28 I29 R30 Lz hΦ => ?_) hok
  · obtain ⟨r2, rfl, rfl, hl6, hw⟩ := hΦ
    have hw := hw hl6
    show GX E X T3 I4 R5 L 2 14 5 [some (aR (some o)), none] [aI r2]
    intro hok
    refine g_istn1 hE1 dX8_pageOrder_5 (by decide) rfl ?_
    refine gx_new hE hRm in_X12 tyX12 tyX12_ok (t := 20) rfl (by decide) (by decide) rfl (by decide) q1845 q1846 q137 (by decide) (by decide) dX8_pageOrder_6 (fun q7 hq8 hbs9 => ?_) hok
    intro hok
    have hw := hw q7 hq8 hbs9 _ rfl
    have hl11 := tle.new (T := T3) (q := q7) (t := 20) (n := 0) hq8
    have hT12 : xtag (xnew T3 q7 20 0) q7 = 20 := if_pos rfl
    generalize xnew T3 q7 20 0 = T10 at hw hl11 hok hT12 ⊢
    refine g_dup hE1 dX8_pageOrder_9 rfl ?_
    refine g_ildn1 hE1 dX8_pageOrder_10 ?_
    refine g_aldn0 hE1 dX8_pageOrder_11 ?_
    refine g_iconst hE1 dX8_pageOrder_12 ?_
    have ht13 := (hl6.tr hl11).tag ht1 (by decide)
    refine gy_callV hE hRm (As := [aI 3]) ht13 (by decide) (by decide) rfl hx_X8_number (tx_X8_number X hw) (lw_V q1829 q1831 qs41 q133 q1832) ⟨by decide, by decide⟩ ⟨(by decide), (by decide)⟩ rfl (Nat.le_of_ble_eq_true rfl) dX8_pageOrder_13 rfl (fun r9 T15 I16 R17 Lz hΦ => ?_) (fun Ec q9 T22 I23 R24 Lz hΦ => ?_) hok
    · obtain ⟨r14, rfl, rfl, hl18, hw⟩ := hΦ
      have hw := hw hl18
      show GX E X T15 I16 R17 L 5 30 16 [some (aR (some o)), some (aI r2)] [aI r14, aI r2, aR (some q7), aR (some q7)]
      intro hok
      refine gx_callI hE hRm (As := [aI r2, aI r14]) (b := q7) hx_X12_init (lw_meth q1849) q1847 q137 q1848 rfl (tx_X12_init X hw) ⟨by decide, by decide⟩ ⟨(by decide), (by decide)⟩ rfl (Nat.le_of_ble_eq_true rfl) dX8_pageOrder_16 rfl (fun r9 Tz I19 Rz Lz hΦ => ?_) hok
      obtain ⟨rfl, rfl, rfl, rfl, hw⟩ := hΦ
      show GX E X T15 I19 R17 L 5 30 19 [some (aR (some o)), some (aI r2)] [aR (some q7)]
      intro hok
      exact gx_aret hE hR dX8_pageOrder_19 (by decide) (by decide) (Or.inl ⟨_, rfl⟩) ⟨_, rfl, rfl, ((hl6.tr hl11).tr hl18), hw⟩ hok
    · have hq9 : ∃ q8, q8 = q9 := ⟨_, rfl⟩
      obtain ⟨e21, rfl⟩ := hq9
      obtain ⟨rfl, rfl, hl25, ht26, hw⟩ := hΦ
      have hw := hw hl25 ht26
      exact gx_out hE hY (by decide) (by decide) ⟨rfl, rfl, ((hl6.tr hl11).tr hl25), ht26, hw⟩
  · have hq9 : ∃ q8, q8 = q9 := ⟨_, rfl⟩
    obtain ⟨e27, rfl⟩ := hq9
    obtain ⟨rfl, rfl, hl31, ht32, hw⟩ := hΦ
    have hw := hw hl31 ht32
    exact gx_out hE hY (by decide) (by decide) ⟨rfl, rfl, hl31, ht32, hw⟩

/-- WhalingLogs$Reader.column()I -/
def wx_X8_column (X : XT) (o : Nat)  (T : xT) (I : xI) (R : xR) (L : xL) (Q : Int → xT → xI → xR → Prop) (Y : Nat → xT → xI → xR → Prop) : Prop :=
  xtag T o = 16 ∧ wx_X8_takes X o 32 T I R L (fun (r2 : Int) (I3 : xI) => 
  wx_X8_needs X o r2 T I3 R L (fun (T5 : xT) (I6 : xI) (R7 : xR) => tle T T5 → 
    wx_X8_here X o T5 I6 R7 L (fun (r10 : Int) => 
    wx_X0_isIn X r10 97 112 T5 I6 R7 L (fun (r12 : Int) => 
    wx_X8_needs X o r12 T5 I6 R7 L (fun (T14 : xT) (I15 : xI) (R16 : xR) => tle T5 T14 → 
      ∀ I19 : xI, I19 = uI I15 o 1 ((I15 o 1) + 1) →
      ∃ b20 : Nat, R16 o 0 = some b20 ∧ xtag T14 b20 = 8 ∧ wx_J7_charAt X b20 ((I19 o 1) - 1) T14 I19 R16 L (fun (r23 : Int) => 
      Q (r23 - 97) T14 I19 R16))
      (fun (e25 : Nat) (T26 : xT) (I27 : xI) (R28 : xR) => tle T5 T26 → xtag T26 e25 = 17 → 
      Y e25 T26 I27 R28))))
    (fun (e31 : Nat) (T32 : xT) (I33 : xI) (R34 : xR) => tle T T32 → xtag T32 e31 = 17 → 
    Y e31 T32 I33 R34))
theorem hx_X8_column : yX8_column.cls = RX8 ∧ yX8_column.cls ≠ "java/lang/invoke/MethodHandle" ∧ yX8_column.cls ≠ "java/lang/invoke/VarHandle" ∧ (parseMethodDescriptor yX8_column.desc).map (fun d => d.parameters.length) = some 0 := by decide +kernel
set_option maxHeartbeats 4000000 in
theorem tx_X8_column (X : XT) {o : Nat}  {T : xT} {I : xI} {R : xR} {L : xL} {Q : Int → xT → xI → xR → Prop} {Y : Nat → xT → xI → xR → Prop} (hw : wx_X8_column X o T I R L Q Y) : CtY X yX8_column cX8_column 1 (some .int) (rmX 6 2 14 151) [aR (some o)] T I R L (PXiTIR T I R L Q) (PYTIR T I R L "WhalingLogs$Wrong" 17 Y) := by
  refine CtY.intro (by decide) (Nat.le_of_ble_eq_true rfl) (fun E hE hR hY hN => ?_)
  have hRm := hR.rm
  have hE : OkX E X RX8 cX8_column 1 (some .int) := hE
  have hE1 := hE.1
  show GX E X T I R L 0 0 0 [some (aR (some o))] []
  unfold wx_X8_column at hw
  intro hok
  refine g_aldn0 hE1 dX8_column_0 ?_
  refine g_aldn0 hE1 dX8_column_1 ?_
  refine g_bipush hE1 dX8_column_2 (by decide) ?_
  obtain ⟨ht1, hw⟩ := hw
  refine gx_callV hE hRm (As := [aI 32]) ht1 (by decide) (by decide) rfl hx_X8_takes (tx_X8_takes X hw) (lw_V q1773 q1775 qs37 q133 q1776) ⟨by decide, by decide⟩ ⟨(by decide), (by decide)⟩ rfl (Nat.le_of_ble_eq_true rfl) dX8_column_4 rfl (fun r9 Tz I3 Rz Lz hΦ => ?_) hok
  obtain ⟨r2, rfl, rfl, rfl, rfl, hw⟩ := hΦ
  show GX E X T I3 R L 0 0 7 [some (aR (some o))] [aI r2, aR (some o)]
  intro hok
  refine gy_callV hE hRm (As := [aI r2]) ht1 (by decide) (by decide) rfl hx_X8_needs (tx_X8_needs X hw) (lw_V q1777 q1779 qs38 q133 q1780) ⟨by decide, by decide⟩ ⟨(by decide), (by decide)⟩ rfl (Nat.le_of_ble_eq_true rfl) dX8_column_7 rfl (fun r9 T5 I6 R7 Lz hΦ => ?_) (fun Ec q9 T32 I33 R34 Lz hΦ => ?_) hok
  · obtain ⟨rfl, rfl, hl8, hw⟩ := hΦ
    have hw := hw hl8
    show GX E X T5 I6 R7 L 1 7 10 [some (aR (some o))] []
    intro hok
    refine g_aldn0 hE1 dX8_column_10 ?_
    refine g_aldn0 hE1 dX8_column_11 ?_
    have ht9 := hl8.tag ht1 (by decide)
    refine gx_callV hE hRm (As := []) ht9 (by decide) (by decide) rfl hx_X8_here (tx_X8_here X hw) (lw_V q1650 q1652 qs34 q133 q1653) ⟨by decide, by decide⟩ ⟨(by decide), (by decide)⟩ rfl (Nat.le_of_ble_eq_true rfl) dX8_column_12 rfl (fun r9 Tz Iz Rz Lz hΦ => ?_) hok
    obtain ⟨r10, rfl, rfl, rfl, rfl, rfl, hw⟩ := hΦ
    show GX E X T5 I6 R7 L 1 7 15 [some (aR (some o))] [aI r10, aR (some o)]
    intro hok
    refine g_bipush hE1 dX8_column_15 (by decide) ?_
    refine g_bipush hE1 dX8_column_17 (by decide) ?_
    refine gx_callSN hE hRm (As := [aI r10, aI 97, aI 112]) hx_X0_isIn (tx_X0_isIn X hw) (lw_meth q394) q1697 q94 q393 ⟨by decide, by decide⟩ ⟨(by decide), (by decide)⟩ rfl (Nat.le_of_ble_eq_true rfl) dX8_column_19 rfl (fun r9 Tz Iz Rz Lz hΦ => ?_) hok
    obtain ⟨r12, rfl, rfl, rfl, rfl, rfl, hw⟩ := hΦ
    show GX E X T5 I6 R7 L 1 7 22 [some (aR (some o))] [aI r12, aR (some o)]
    intro hok
    refine gy_callV hE hRm (As := [aI r12]) ht9 (by decide) (by decide) rfl hx_X8_needs (tx_X8_needs X hw) (lw_V q1777 q1779 qs38 q133 q1780) ⟨by decide, by decide⟩ ⟨(by decide), (by decide)⟩ rfl (Nat.le_of_ble_eq_true rfl) dX8_column_22 rfl (fun r9 T14 I15 R16 Lz hΦ => ?_) (fun Ec q9 T26 I27 R28 Lz hΦ => ?_) hok
    · obtain ⟨rfl, rfl, hl17, hw⟩ := hΦ
      have hw := hw hl17
      show GX E X T14 I15 R16 L 2 14 25 [some (aR (some o))] []
      intro hok
      refine g_aldn0 hE1 dX8_column_25 ?_
      refine g_dup hE1 dX8_column_26 rfl ?_
      have ht18 := (hl8.tr hl17).tag ht1 (by decide)
      refine gx_geti hE in_X8 (t := 16) rfl (by decide) 1 1 rfl (by decide) rfl (by decide) rfl q1625 (Or.inl rfl) ht18 dX8_column_27 ?_ hok
      intro hok
      refine g_iconst hE1 dX8_column_30 ?_
      refine g_iadd hE1 dX8_column_31 ?_
      refine gx_puti hE in_X8 (t := 16) rfl (by decide) 1 1 rfl (by decide) rfl (by decide) (ty := tyX8 1) tyX8 tyX8_ok nmX8 rfl q1625 (Or.inl rfl) rfl (tyX8_ok 1 (by decide)) rfl rfl ht18 dX8_column_32 ?_ hok
      intro hok
      have hw := hw _ rfl
      generalize uI I15 o 1 ((I15 o 1) + 1) = I19 at hw hok ⊢
      refine g_aldn0 hE1 dX8_column_35 ?_
      refine gx_getr hE in_X8 (t := 16) rfl (by decide) 0 0 rfl (by decide) rfl (by decide) rfl q1624 (Or.inl rfl) ht18 dX8_column_36 ?_ hok
      intro hok
      refine g_aldn0 hE1 dX8_column_39 ?_
      refine gx_geti hE in_X8 (t := 16) rfl (by decide) 1 1 rfl (by decide) rfl (by decide) rfl q1625 (Or.inl rfl) ht18 dX8_column_40 ?_ hok
      intro hok
      refine g_iconst hE1 dX8_column_43 ?_
      refine g_isub hE1 dX8_column_44 ?_
      obtain ⟨b20, hb21, hw⟩ := hw
      rw [hb21]
      obtain ⟨ht22, hw⟩ := hw
      refine gx_callF hE hRm (na := 1) (As := [aI ((I19 o 1) - 1)]) ht22 (by decide) (by decide) rfl (x := ⟨"java/lang/CharSequence", "charAt", "(I)C"⟩) (by unfold fwL; simp; decide) (by decide +kernel) (tx_J7_charAt X hw) (lw_F q1667 q1686 q1688 q105 q1690) ⟨by decide, by decide⟩ ⟨(by decide), (by decide)⟩ rfl (Nat.le_of_ble_eq_true rfl) dX8_column_45 rfl (fun r9 Tz Iz Rz Lz hΦ => ?_) hok
      obtain ⟨r23, rfl, rfl, rfl, rfl, rfl, hw⟩ := hΦ
      show GX E X T14 I19 R16 L 2 14 50 [some (aR (some o))] [aI r23]
      intro hok
      refine g_bipush hE1 dX8_column_50 (by decide) ?_
      refine g_isub hE1 dX8_column_52 ?_
      exact gx_iret hE hR dX8_column_53 (by decide) (by decide) rfl ⟨_, rfl, rfl, (hl8.tr hl17), hw⟩ hok
    · have hq9 : ∃ q8, q8 = q9 := ⟨_, rfl⟩
      obtain ⟨e25, rfl⟩ := hq9
      obtain ⟨rfl, rfl, hl29, ht30, hw⟩ := hΦ
      have hw := hw hl29 ht30
      exact gx_out hE hY (by decide) (by decide) ⟨rfl, rfl, (hl8.tr hl29), ht30, hw⟩
  · have hq9 : ∃ q8, q8 = q9 := ⟨_, rfl⟩
    obtain ⟨e31, rfl⟩ := hq9
    obtain ⟨rfl, rfl, hl35, ht36, hw⟩ := hΦ
    have hw := hw hl35 ht36
    exact gx_out hE hY (by decide) (by decide) ⟨rfl, rfl, hl35, ht36, hw⟩

/-- WhalingLogs$EntryOrder.<init>(IIIII)V -/
def wx_X13_init (X : XT) (o : Nat) (x1 : Int) (x2 : Int) (x3 : Int) (x4 : Int) (x5 : Int) (T : xT) (I : xI) (R : xR) (L : xL) (Q : xI → Prop) : Prop :=
  xtag T o = 21 ∧ ∀ I2 : xI, I2 = uI I o 0 x1 →
  ∀ I3 : xI, I3 = uI I2 o 1 x2 →
  ∀ I4 : xI, I4 = uI I3 o 2 x3 →
  ∀ I5 : xI, I5 = uI I4 o 3 x4 →
  ∀ I6 : xI, I6 = uI I5 o 4 x5 →
  Q I6
theorem hx_X13_init : yX13_init.cls ≠ "java/lang/invoke/MethodHandle" ∧ yX13_init.cls ≠ "java/lang/invoke/VarHandle" ∧ (parseMethodDescriptor yX13_init.desc).map (fun d => d.parameters.length) = some 5 := by decide +kernel
set_option maxHeartbeats 4000000 in
theorem tx_X13_init (X : XT) {o : Nat} {x1 : Int} {x2 : Int} {x3 : Int} {x4 : Int} {x5 : Int} {T : xT} {I : xI} {R : xR} {L : xL} {Q : xI → Prop} (hw : wx_X13_init X o x1 x2 x3 x4 x5 T I R L Q) : CtX X yX13_init cX13_init 6 none (rmX 1 0 0 20) [aR (some o), aI x1, aI x2, aI x3, aI x4, aI x5] T I R L (PXvI T I R L Q) := by
  refine CtX.intro (by decide) (Nat.le_of_ble_eq_true rfl) (fun E hE hR hN => ?_)
  have hRm := hR.rm
  have hE : OkX E X RX13 cX13_init 6 none := hE
  have hE1 := hE.1
  have hI : isInit E := hN
  show GX E X T I R L 0 0 0 [some (aR (some o)), some (aI x1), some (aI x2), some (aI x3), some (aI x4), some (aI x5)] []
  unfold wx_X13_init at hw
  intro hok
  refine g_aldn0 hE1 dX13_init_0 ?_
  refine gx_objInit hE hRm rfl q1867 q151 q152 (by decide) (by decide) (Nat.le_of_ble_eq_true rfl) dX13_init_1 ?_ hok
  intro hok
  refine g_aldn0 hE1 dX13_init_4 ?_
  refine g_ildn1 hE1 dX13_init_5 ?_
  obtain ⟨ht1, hw⟩ := hw
  refine gx_putiF hE in_X13 (t := 21) rfl (by decide) 0 0 rfl (by decide) rfl (by decide) (ty := tyX13 0) tyX13 tyX13_ok nmX13 rfl q1868 (Or.inl rfl) rfl hI rfl (tyX13_ok 0 (by decide)) rfl rfl ht1 dX13_init_6 ?_ hok
  intro hok
  have hw := hw _ rfl
  generalize uI I o 0 x1 = I2 at hw hok ⊢
  refine g_aldn0 hE1 dX13_init_9 ?_
  refine g_ildn2 hE1 dX13_init_10 ?_
  refine gx_putiF hE in_X13 (t := 21) rfl (by decide) 1 1 rfl (by decide) rfl (by decide) (ty := tyX13 1) tyX13 tyX13_ok nmX13 rfl q1869 (Or.inl rfl) rfl hI rfl (tyX13_ok 1 (by decide)) rfl rfl ht1 dX13_init_11 ?_ hok
  intro hok
  have hw := hw _ rfl
  generalize uI I2 o 1 x2 = I3 at hw hok ⊢
  refine g_aldn0 hE1 dX13_init_14 ?_
  refine g_ildn3 hE1 dX13_init_15 ?_
  refine gx_putiF hE in_X13 (t := 21) rfl (by decide) 2 2 rfl (by decide) rfl (by decide) (ty := tyX13 2) tyX13 tyX13_ok nmX13 rfl q1870 (Or.inl rfl) rfl hI rfl (tyX13_ok 2 (by decide)) rfl rfl ht1 dX13_init_16 ?_ hok
  intro hok
  have hw := hw _ rfl
  generalize uI I3 o 2 x3 = I4 at hw hok ⊢
  refine g_aldn0 hE1 dX13_init_19 ?_
  refine g_ild4 hE1 dX13_init_20 ?_
  refine gx_putiF hE in_X13 (t := 21) rfl (by decide) 3 3 rfl (by decide) rfl (by decide) (ty := tyX13 3) tyX13 tyX13_ok nmX13 rfl q1871 (Or.inl rfl) rfl hI rfl (tyX13_ok 3 (by decide)) rfl rfl ht1 dX13_init_22 ?_ hok
  intro hok
  have hw := hw _ rfl
  generalize uI I4 o 3 x4 = I5 at hw hok ⊢
  refine g_aldn0 hE1 dX13_init_25 ?_
  refine g_ild5 hE1 dX13_init_26 ?_
  refine gx_putiF hE in_X13 (t := 21) rfl (by decide) 4 4 rfl (by decide) rfl (by decide) (ty := tyX13 4) tyX13 tyX13_ok nmX13 rfl q1872 (Or.inl rfl) rfl hI rfl (tyX13_ok 4 (by decide)) rfl rfl ht1 dX13_init_28 ?_ hok
  intro hok
  have hw := hw _ rfl
  generalize uI I5 o 4 x5 = I6 at hw hok ⊢
  exact gx_vret hE hR dX13_init_31 (by decide) (by decide) ⟨rfl, rfl, rfl, rfl, hw⟩ hok

/-- WhalingLogs$Reader.entryOrder()LWhalingLogs$Order; -/
def wx_X8_entryOrder (X : XT) (o : Nat)  (T : xT) (I : xI) (R : xR) (L : xL) (Q : Option Nat → xT → xI → xR → Prop) (Y : Nat → xT → xI → xR → Prop) : Prop :=
  xtag T o = 16 ∧ wx_X8_number X o 1 T I R L (fun (r2 : Int) (T3 : xT) (I4 : xI) (R5 : xR) => tle T T3 → 
    wx_X8_number X o 3 T3 I4 R5 L (fun (r8 : Int) (T9 : xT) (I10 : xI) (R11 : xR) => tle T3 T9 → 
      wx_X8_column X o T9 I10 R11 L (fun (r14 : Int) (T15 : xT) (I16 : xI) (R17 : xR) => tle T9 T15 → 
        wx_X8_digits X o 2 T15 I16 R17 L (fun (r20 : Int) (T21 : xT) (I22 : xI) (R23 : xR) => tle T15 T21 → 
          ∀ q25 : Nat, xtag T21 q25 = 0 → bsX X ≤ q25 → ∀ T28 : xT, T28 = xnew T21 q25 21 0 →
          wx_X8_number X o 1 T28 I22 R23 L (fun (r32 : Int) (T33 : xT) (I34 : xI) (R35 : xR) => tle T28 T33 → 
            wx_X13_init X q25 r2 r8 r14 r20 r32 T33 I34 R35 L (fun (I37 : xI) => 
            Q (some q25) T33 I37 R35))
            (fun (e39 : Nat) (T40 : xT) (I41 : xI) (R42 : xR) => tle T28 T40 → xtag T40 e39 = 17 → 
            Y e39 T40 I41 R42))
          (fun (e45 : Nat) (T46 : xT) (I47 : xI) (R48 : xR) => tle T15 T46 → xtag T46 e45 = 17 → 
          Y e45 T46 I47 R48))
        (fun (e51 : Nat) (T52 : xT) (I53 : xI) (R54 : xR) => tle T9 T52 → xtag T52 e51 = 17 → 
        Y e51 T52 I53 R54))
      (fun (e57 : Nat) (T58 : xT) (I59 : xI) (R60 : xR) => tle T3 T58 → xtag T58 e57 = 17 → 
      Y e57 T58 I59 R60))
    (fun (e63 : Nat) (T64 : xT) (I65 : xI) (R66 : xR) => tle T T64 → xtag T64 e63 = 17 → 
    Y e63 T64 I65 R66)
theorem hx_X8_entryOrder : yX8_entryOrder.cls = RX8 ∧ yX8_entryOrder.cls ≠ "java/lang/invoke/MethodHandle" ∧ yX8_entryOrder.cls ≠ "java/lang/invoke/VarHandle" ∧ (parseMethodDescriptor yX8_entryOrder.desc).map (fun d => d.parameters.length) = some 0 := by decide +kernel
set_option maxHeartbeats 4000000 in
theorem tx_X8_entryOrder (X : XT) {o : Nat}  {T : xT} {I : xI} {R : xR} {L : xL} {Q : Option Nat → xT → xI → xR → Prop} {Y : Nat → xT → xI → xR → Prop} (hw : wx_X8_entryOrder X o T I R L Q Y) : CtY X yX8_entryOrder cX8_entryOrder 5 (some (.object "WhalingLogs$Order")) (rmX 8 10 68 193) [aR (some o)] T I R L (PXqTIR T I R L Q) (PYTIR T I R L "WhalingLogs$Wrong" 17 Y) := by
  refine CtY.intro (by decide) (Nat.le_of_ble_eq_true rfl) (fun E hE hR hY hN => ?_)
  have hRm := hR.rm
  have hE : OkX E X RX8 cX8_entryOrder 5 (some (.object "WhalingLogs$Order")) := hE
  have hE1 := hE.1
  show GX E X T I R L 0 0 0 [some (aR (some o)), none, none, none, none] []
  unfold wx_X8_entryOrder at hw
  intro hok
  refine g_aldn0 hE1 dX8_entryOrder_0 ?_
  refine g_iconst hE1 dX8_entryOrder_1 ?_
  obtain ⟨ht1, hw⟩ := hw
  refine gy_callV hE hRm (As := [aI 1]) ht1 (by decide) (by decide) rfl hx_X8_number (tx_X8_number X hw) (lw_V q1829 q1831 qs41 q133 q1832) ⟨by decide, by decide⟩ ⟨(by decide), (by decide)⟩ rfl (Nat.le_of_ble_eq_true rfl) dX8_entryOrder_2 rfl (fun r9 T3 I4 R5 Lz hΦ => ?_) (fun Ec q9 T64 I65 R66 Lz hΦ => ?_) hok
  · obtain ⟨r2, rfl, rfl, hl6, hw⟩ := hΦ
    have hw := hw hl6
    show GX E X T3 I4 R5 L 2 14 5 [some (aR (some o)), none, none, none, none] [aI r2]
    intro hok
    refine g_istn1 hE1 dX8_entryOrder_5 (by decide) rfl ?_
    refine g_aldn0 hE1 dX8_entryOrder_6 ?_
    refine g_iconst hE1 dX8_entryOrder_7 ?_
    have ht7 := hl6.tag ht1 (by decide)
    refine gy_callV hE hRm (As := [aI 3]) ht7 (by decide) (by decide) rfl hx_X8_number (tx_X8_number X hw) (lw_V q1829 q1831 qs41 q133 q1832) ⟨by decide, by decide⟩ ⟨(by decide), (by decide)⟩ rfl (Nat.le_of_ble_eq_true rfl) dX8_entryOrder_8 rfl (fun r9 T9 I10 R11 Lz hΦ => ?_) (fun Ec q9 T58 I59 R60 Lz hΦ => ?_) hok
    · obtain ⟨r8, rfl, rfl, hl12, hw⟩ := hΦ
      have hw := hw hl12
      show GX E X T9 I10 R11 L 4 28 11 [some (aR (some o)), some (aI r2), none, none, none] [aI r8]
      intro hok
      refine g_istn2 hE1 dX8_entryOrder_11 (by decide) rfl ?_
      refine g_aldn0 hE1 dX8_entryOrder_12 ?_
      have ht13 := (hl6.tr hl12).tag ht1 (by decide)
      refine gy_callV hE hRm (As := []) ht13 (by decide) (by decide) rfl hx_X8_column (tx_X8_column X hw) (lw_V q1769 q1771 qs36 q133 q1772) ⟨by decide, by decide⟩ ⟨(by decide), (by decide)⟩ rfl (Nat.le_of_ble_eq_true rfl) dX8_entryOrder_13 rfl (fun r9 T15 I16 R17 Lz hΦ => ?_) (fun Ec q9 T52 I53 R54 Lz hΦ => ?_) hok
      · obtain ⟨r14, rfl, rfl, hl18, hw⟩ := hΦ
        have hw := hw hl18
        show GX E X T15 I16 R17 L 6 42 16 [some (aR (some o)), some (aI r2), some (aI r8), none, none] [aI r14]
        intro hok
        refine g_istn3 hE1 dX8_entryOrder_16 (by decide) rfl ?_
        refine g_aldn0 hE1 dX8_entryOrder_17 ?_
        refine g_iconst hE1 dX8_entryOrder_18 ?_
        have ht19 := ((hl6.tr hl12).tr hl18).tag ht1 (by decide)
        refine gy_callV hE hRm (As := [aI 2]) ht19 (by decide) (by decide) rfl hx_X8_digits (tx_X8_digits X hw) (lw_V q1802 q1804 qs39 q133 q1805) ⟨by decide, by decide⟩ ⟨(by decide), (by decide)⟩ rfl (Nat.le_of_ble_eq_true rfl) dX8_entryOrder_19 rfl (fun r9 T21 I22 R23 Lz hΦ => ?_) (fun Ec q9 T46 I47 R48 Lz hΦ => ?_) hok
        · obtain ⟨r20, rfl, rfl, hl24, hw⟩ := hΦ
          have hw := hw hl24
          show GX E X T21 I22 R23 L 7 49 22 [some (aR (some o)), some (aI r2), some (aI r8), some (aI r14), none] [aI r20]
          intro hok
          refine g_ist4 hE1 dX8_entryOrder_22 (by decide) rfl ?_
          refine gx_new hE hRm in_X13 tyX13 tyX13_ok (t := 21) rfl (by decide) (by decide) rfl (by decide) q1862 q1863 q138 (by decide) (by decide) dX8_entryOrder_24 (fun q25 hq26 hbs27 => ?_) hok
          intro hok
          have hw := hw q25 hq26 hbs27 _ rfl
          have hl29 := tle.new (T := T21) (q := q25) (t := 21) (n := 0) hq26
          have hT30 : xtag (xnew T21 q25 21 0) q25 = 21 := if_pos rfl
          generalize xnew T21 q25 21 0 = T28 at hw hl29 hok hT30 ⊢
          refine g_dup hE1 dX8_entryOrder_27 rfl ?_
          refine g_ildn1 hE1 dX8_entryOrder_28 ?_
          refine g_ildn2 hE1 dX8_entryOrder_29 ?_
          refine g_ildn3 hE1 dX8_entryOrder_30 ?_
          refine g_ild4 hE1 dX8_entryOrder_31 ?_
          refine g_aldn0 hE1 dX8_entryOrder_33 ?_
          refine g_iconst hE1 dX8_entryOrder_34 ?_
          have ht31 := ((((hl6.tr hl12).tr hl18).tr hl24).tr hl29).tag ht1 (by decide)
          refine gy_callV hE hRm (As := [aI 1]) ht31 (by decide) (by decide) rfl hx_X8_number (tx_X8_number X hw) (lw_V q1829 q1831 qs41 q133 q1832) ⟨by decide, by decide⟩ ⟨(by decide), (by decide)⟩ rfl (Nat.le_of_ble_eq_true rfl) dX8_entryOrder_35 rfl (fun r9 T33 I34 R35 Lz hΦ => ?_) (fun Ec q9 T40 I41 R42 Lz hΦ => ?_) hok
          · obtain ⟨r32, rfl, rfl, hl36, hw⟩ := hΦ
            have hw := hw hl36
            show GX E X T33 I34 R35 L 10 68 38 [some (aR (some o)), some (aI r2), some (aI r8), some (aI r14), some (aI r20)] [aI r32, aI r20, aI r14, aI r8, aI r2, aR (some q25), aR (some q25)]
            intro hok
            refine gx_callI hE hRm (As := [aI r2, aI r8, aI r14, aI r20, aI r32]) (b := q25) hx_X13_init (lw_meth q1866) q1864 q138 q1865 rfl (tx_X13_init X hw) ⟨by decide, by decide⟩ ⟨(by decide), (by decide)⟩ rfl (Nat.le_of_ble_eq_true rfl) dX8_entryOrder_38 rfl (fun r9 Tz I37 Rz Lz hΦ => ?_) hok
            obtain ⟨rfl, rfl, rfl, rfl, hw⟩ := hΦ
            show GX E X T33 I37 R35 L 10 68 41 [some (aR (some o)), some (aI r2), some (aI r8), some (aI r14), some (aI r20)] [aR (some q25)]
            intro hok
            exact gx_aret hE hR dX8_entryOrder_41 (by decide) (by decide) (Or.inl ⟨_, rfl⟩) ⟨_, rfl, rfl, (((((hl6.tr hl12).tr hl18).tr hl24).tr hl29).tr hl36), hw⟩ hok
          · have hq9 : ∃ q8, q8 = q9 := ⟨_, rfl⟩
            obtain ⟨e39, rfl⟩ := hq9
            obtain ⟨rfl, rfl, hl43, ht44, hw⟩ := hΦ
            have hw := hw hl43 ht44
            exact gx_out hE hY (by decide) (by decide) ⟨rfl, rfl, (((((hl6.tr hl12).tr hl18).tr hl24).tr hl29).tr hl43), ht44, hw⟩
        · have hq9 : ∃ q8, q8 = q9 := ⟨_, rfl⟩
          obtain ⟨e45, rfl⟩ := hq9
          obtain ⟨rfl, rfl, hl49, ht50, hw⟩ := hΦ
          have hw := hw hl49 ht50
          exact gx_out hE hY (by decide) (by decide) ⟨rfl, rfl, (((hl6.tr hl12).tr hl18).tr hl49), ht50, hw⟩
      · have hq9 : ∃ q8, q8 = q9 := ⟨_, rfl⟩
        obtain ⟨e51, rfl⟩ := hq9
        obtain ⟨rfl, rfl, hl55, ht56, hw⟩ := hΦ
        have hw := hw hl55 ht56
        exact gx_out hE hY (by decide) (by decide) ⟨rfl, rfl, ((hl6.tr hl12).tr hl55), ht56, hw⟩
    · have hq9 : ∃ q8, q8 = q9 := ⟨_, rfl⟩
      obtain ⟨e57, rfl⟩ := hq9
      obtain ⟨rfl, rfl, hl61, ht62, hw⟩ := hΦ
      have hw := hw hl61 ht62
      exact gx_out hE hY (by decide) (by decide) ⟨rfl, rfl, (hl6.tr hl61), ht62, hw⟩
  · have hq9 : ∃ q8, q8 = q9 := ⟨_, rfl⟩
    obtain ⟨e63, rfl⟩ := hq9
    obtain ⟨rfl, rfl, hl67, ht68, hw⟩ := hΦ
    have hw := hw hl67 ht68
    exact gx_out hE hY (by decide) (by decide) ⟨rfl, rfl, hl67, ht68, hw⟩

