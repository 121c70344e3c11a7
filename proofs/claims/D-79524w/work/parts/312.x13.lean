set_option maxRecDepth 100000
/-- java/lang/AbstractStringBuilder.append(Ljava/lang/String;)Ljava/lang/AbstractStringBuilder; -/
def wx_J6_append_J7 (X : XT) (o : Nat) (x1 : Option Nat) (T : xT) (I : xI) (R : xR) (L : xL) (Q : Option Nat → xT → xI → xR → Prop) : Prop :=
  (x1 = none →
    False) ∧
  (∀ b1 : Nat, x1 = some b1 →
    xtag T b1 = 25 ∧ wx_J8_length X b1 T I R L (fun (r4 : Int) => 
    xtag T o = 8 ∧
    wx_J6_ensureCapacityInternal_J7 X o ((I o 3) + r4) T I R L (fun (T7 : xT) (I8 : xI) (R9 : xR) => tle T T7 → 
    wx_J6_putStringAt_J7 X o (I8 o 3) (some b1) T7 I8 R9 L (fun (I12 : xI) => 
    ∀ I14 : xI, I14 = uI I12 o 3 ((I12 o 3) + r4) →
    Q (some o) T7 I14 R9))))
theorem hx_J6_append_J7 : yJ6_append.cls = RJ6 ∧ yJ6_append.cls ≠ "java/lang/invoke/MethodHandle" ∧ yJ6_append.cls ≠ "java/lang/invoke/VarHandle" ∧ (parseMethodDescriptor yJ6_append.desc).map (fun d => d.parameters.length) = some 1 := by decide +kernel
set_option maxHeartbeats 4000000 in
theorem tx_J6_append_J7 (X : XT) {o : Nat} {x1 : Option Nat} {T : xT} {I : xI} {R : xR} {L : xL} {Q : Option Nat → xT → xI → xR → Prop} (hw : wx_J6_append_J7 X o x1 T I R L Q) : CtX X yJ6_append cJ6_append 3 (some (.object "java/lang/AbstractStringBuilder")) (rmX 4 1 150 134) [aR (some o), aR x1] T I R L (PXqTIR T I R L Q) := by
  refine CtX.intro (by decide) (Nat.le_of_ble_eq_true rfl) (fun E hE hR hN => ?_)
  have hRm := hR.rm
  have hE : OkX E X RJ6 cJ6_append 3 (some (.object "java/lang/AbstractStringBuilder")) := hE
  have hE1 := hE.1
  show GX E X T I R L 0 0 0 [some (aR (some o)), some (aR x1), none] []
  unfold wx_J6_append_J7 at hw
  intro hok
  refine g_aldn1 hE1 dJ6_append_0 ?_
  refine g_ifnonnull hE1 (tgt := 9) dJ6_append_1 (by decide) (fun q => ?_) (fun b1 hb2 => ?_)
  · have hw := hw.1 q
    refine g_aldn0 hE1 dJ6_append_4 ?_
    exact hw.elim
  · have hw := hw.2 b1 hb2
    rw [hb2]
    refine g_aldn1 hE1 dJ6_append_9 ?_
    obtain ⟨ht3, hw⟩ := hw
    refine gx_callV hE hRm (As := []) ht3 (by decide) (by decide) rfl hx_J8_length (tx_J8_length X hw) (lw_V q784 q785 q786 q106 q787) ⟨by decide, by decide⟩ ⟨(by decide), (by decide)⟩ rfl (Nat.le_of_ble_eq_true rfl) dJ6_append_10 rfl (fun r9 Tz Iz Rz Lz hΦ => ?_) hok
    obtain ⟨r4, rfl, rfl, rfl, rfl, rfl, hw⟩ := hΦ
    show GX E X T I R L 0 0 13 [some (aR (some o)), some (aR (some b1)), none] [aI r4]
    intro hok
    refine g_istn2 hE1 dJ6_append_13 (by decide) rfl ?_
    refine g_aldn0 hE1 dJ6_append_14 ?_
    refine g_aldn0 hE1 dJ6_append_15 ?_
    obtain ⟨ht6, hw⟩ := hw
    refine gx_geti hE in_J7 (t := 8) rfl (by decide) 3 3 rfl (by decide) rfl (by decide) rfl q342 (Or.inl rfl) ht6 dJ6_append_16 ?_ hok
    intro hok
    refine g_ildn2 hE1 dJ6_append_19 ?_
    refine g_iadd hE1 dJ6_append_20 ?_
    refine gx_callP hE hRm (As := [aI ((I o 3) + r4)]) ht6 (by decide) (by decide) rfl (x0 := ⟨"java/lang/AbstractStringBuilder", "isLatin1", "()Z"⟩) hx_J6_ensureCapacityInternal_J7.2 (tx_J6_ensureCapacityInternal_J7 X hw) (lw_meth q731) q728 q104 q730 q756 rfl q729 ⟨by decide, by decide⟩ ⟨(by decide), (by decide)⟩ rfl (Nat.le_of_ble_eq_true rfl) dJ6_append_21 rfl (fun r9 T7 I8 R9 Lz hΦ => ?_) hok
    obtain ⟨rfl, rfl, hl10, hw⟩ := hΦ
    have hw := hw hl10
    show GX E X T7 I8 R9 L 1 150 24 [some (aR (some o)), some (aR (some b1)), some (aI r4)] []
    intro hok
    refine g_aldn0 hE1 dJ6_append_24 ?_
    refine g_aldn0 hE1 dJ6_append_25 ?_
    have ht11 := hl10.tag ht6 (by decide)
    refine gx_geti hE in_J7 (t := 8) rfl (by decide) 3 3 rfl (by decide) rfl (by decide) rfl q342 (Or.inl rfl) ht11 dJ6_append_26 ?_ hok
    intro hok
    refine g_aldn1 hE1 dJ6_append_29 ?_
    refine gx_callP hE hRm (As := [aI (I8 o 3), aR (some b1)]) ht11 (by decide) (by decide) rfl (x0 := ⟨"java/lang/AbstractStringBuilder", "isLatin1", "()Z"⟩) hx_J6_putStringAt_J7.2 (tx_J6_putStringAt_J7 X hw) (lw_meth q796) q793 q104 q795 q756 rfl q794 ⟨by decide, by decide⟩ ⟨(by decide), (by decide)⟩ rfl (Nat.le_of_ble_eq_true rfl) dJ6_append_30 rfl (fun r9 Tz I12 Rz Lz hΦ => ?_) hok
    obtain ⟨rfl, rfl, rfl, rfl, hw⟩ := hΦ
    show GX E X T7 I12 R9 L 1 150 33 [some (aR (some o)), some (aR (some b1)), some (aI r4)] []
    intro hok
    refine g_aldn0 hE1 dJ6_append_33 ?_
    refine g_dup hE1 dJ6_append_34 rfl ?_
    refine gx_geti hE in_J7 (t := 8) rfl (by decide) 3 3 rfl (by decide) rfl (by decide) rfl q342 (Or.inl rfl) ht11 dJ6_append_35 ?_ hok
    intro hok
    refine g_ildn2 hE1 dJ6_append_38 ?_
    refine g_iadd hE1 dJ6_append_39 ?_
    refine gx_puti hE in_J7 (t := 8) rfl (by decide) 3 3 rfl (by decide) rfl (by decide) (ty := tyJ7 3) tyJ7 tyJ7_ok nmJ7 rfl q342 (Or.inl rfl) rfl (tyJ7_ok 3 (by decide)) rfl rfl ht11 dJ6_append_40 ?_ hok
    intro hok
    have hw := hw _ rfl
    generalize uI I12 o 3 ((I12 o 3) + r4) = I14 at hw hok ⊢
    refine g_aldn0 hE1 dJ6_append_43 ?_
    exact gx_aret hE hR dJ6_append_44 (by decide) (by decide) (Or.inl ⟨_, rfl⟩) ⟨_, rfl, rfl, hl10, hw⟩ hok

/-- java/lang/StringBuilder.append(Ljava/lang/String;)Ljava/lang/StringBuilder; -/
def wx_J7_append (X : XT) (o : Nat) (x1 : Option Nat) (T : xT) (I : xI) (R : xR) (L : xL) (Q : Option Nat → xT → xI → xR → Prop) : Prop :=
  xtag T o = 8 ∧ wx_J6_append_J7 X o x1 T I R L (fun (r2 : Option Nat) (T3 : xT) (I4 : xI) (R5 : xR) => tle T T3 → 
  Q (some o) T3 I4 R5)
theorem hx_J7_append : yJ7_append.cls = RJ7 ∧ yJ7_append.cls ≠ "java/lang/invoke/MethodHandle" ∧ yJ7_append.cls ≠ "java/lang/invoke/VarHandle" ∧ (parseMethodDescriptor yJ7_append.desc).map (fun d => d.parameters.length) = some 1 := by decide +kernel
set_option maxHeartbeats 4000000 in
theorem tx_J7_append (X : XT) {o : Nat} {x1 : Option Nat} {T : xT} {I : xI} {R : xR} {L : xL} {Q : Option Nat → xT → xI → xR → Prop} (hw : wx_J7_append X o x1 T I R L Q) : CtX X yJ7_append cJ7_append 2 (some (.object "java/lang/StringBuilder")) (rmX 5 1 150 156) [aR (some o), aR x1] T I R L (PXqTIR T I R L Q) := by
  refine CtX.intro (by decide) (Nat.le_of_ble_eq_true rfl) (fun E hE hR hN => ?_)
  have hRm := hR.rm
  have hE : OkX E X RJ7 cJ7_append 2 (some (.object "java/lang/StringBuilder")) := hE
  have hE1 := hE.1
  show GX E X T I R L 0 0 0 [some (aR (some o)), some (aR x1)] []
  unfold wx_J7_append at hw
  intro hok
  refine g_aldn0 hE1 dJ7_append_0 ?_
  refine g_aldn1 hE1 dJ7_append_1 ?_
  obtain ⟨ht1, hw⟩ := hw
  refine gx_callSU hE hRm (na := 1) (As := [aR x1]) ht1 (by decide) (by decide) rfl (by decide +kernel) (tx_J6_append_J7 X hw) (lw_SU q721 q2584 q351 q722 q104 q723) ⟨by decide, by decide⟩ ⟨(by decide), (by decide)⟩ rfl (Nat.le_of_ble_eq_true rfl) dJ7_append_2 rfl (fun r9 T3 I4 R5 Lz hΦ => ?_) hok
  obtain ⟨r2, rfl, rfl, hl6, hw⟩ := hΦ
  have hw := hw hl6
  show GX E X T3 I4 R5 L 1 150 5 [some (aR (some o)), some (aR x1)] [aR r2]
  intro hok
  refine g_pop hE1 dJ7_append_5 rfl ?_
  refine g_aldn0 hE1 dJ7_append_6 ?_
  exact gx_aret hE hR dJ7_append_7 (by decide) (by decide) (Or.inl ⟨_, rfl⟩) ⟨_, rfl, rfl, hl6, hw⟩ hok

/-- WhalingLogs$Written.cellTold(I)Ljava/lang/String; -/
def wx_X18_cellTold (X : XT) (x0 : Int) (T : xT) (I : xI) (R : xR) (L : xL) (Q : Option Nat → xT → xI → xR → Prop) : Prop :=
  ∀ q1 : Nat, xtag T q1 = 0 → bsX X ≤ q1 → ∀ T4 : xT, T4 = xnew T q1 8 0 →
  wx_J7_init X q1 T4 I R L (fun (T7 : xT) (I8 : xI) (R9 : xR) => tle T4 T7 → 
  ∀ b11 v12 : Nat, srX X 21 = some b11 → xtag T7 b11 = 25 → R9 b11 0 = some v12 → I8 b11 1 = 0 → xtag T7 v12 = 101 → xlen T7 v12 = 0 → (∀ j : Nat, j < 0 → I8 v12 (j : Int) = ([] : List Int).getD j 0) →
  wx_J7_append X q1 (some b11) T7 I8 R9 L (fun (r21 : Option Nat) (T22 : xT) (I23 : xI) (R24 : xR) => tle T7 T22 → 
  ((0 : Int) ≤ x0 ∧ (x0 : Int) < 2147483648) ∧
  ∃ b27 : Nat, r21 = some b27 ∧ xtag T22 b27 = 8 ∧ wx_J7_append_2 X b27 (bC (97 + (x0 % 16))) T22 I23 R24 L (fun (r30 : Option Nat) (T31 : xT) (I32 : xI) (R33 : xR) => tle T22 T31 → 
  ((0 : Int) ≤ x0 ∧ (x0 : Int) < 2147483648) ∧
  ∃ b36 : Nat, r30 = some b36 ∧ xtag T31 b36 = 8 ∧ wx_J7_append_3 X b36 (x0 / 16) T31 I32 R33 L (fun (r39 : Option Nat) (T40 : xT) (I41 : xI) (R42 : xR) => tle T31 T40 → 
  ∃ b44 : Nat, r39 = some b44 ∧ xtag T40 b44 = 8 ∧ wx_J7_toString X b44 T40 I41 R42 L (fun (r47 : Option Nat) (T48 : xT) (I49 : xI) (R50 : xR) => tle T40 T48 → 
  Q r47 T48 I49 R50)))))
theorem hx_X18_cellTold : yX18_cellTold.cls ≠ "java/lang/invoke/MethodHandle" ∧ yX18_cellTold.cls ≠ "java/lang/invoke/VarHandle" ∧ (parseMethodDescriptor yX18_cellTold.desc).map (fun d => d.parameters.length) = some 1 := by decide +kernel
set_option maxHeartbeats 4000000 in
theorem tx_X18_cellTold (X : XT) {x0 : Int} {T : xT} {I : xI} {R : xR} {L : xL} {Q : Option Nat → xT → xI → xR → Prop} (hw : wx_X18_cellTold X x0 T I R L Q) : CtX X yX18_cellTold cX18_cellTold 1 (some (.object "java/lang/String")) (rmX 6 8 774 178) [aI x0] T I R L (PXqTIR T I R L Q) := by
  refine CtX.intro (by decide) (Nat.le_of_ble_eq_true rfl) (fun E hE hR hN => ?_)
  have hRm := hR.rm
  have hE : OkX E X RX18 cX18_cellTold 1 (some (.object "java/lang/String")) := hE
  have hE1 := hE.1
  show GX E X T I R L 0 0 0 [some (aI x0)] []
  unfold wx_X18_cellTold at hw
  intro hok
  refine gx_new hE hRm in_J7 tyJ7 tyJ7_ok (t := 8) rfl (by decide) (by decide) rfl (by decide) q2066 q321 q105 (by decide) (by decide) dX18_cellTold_0 (fun q1 hq2 hbs3 => ?_) hok
  intro hok
  have hw := hw q1 hq2 hbs3 _ rfl
  have hl5 := tle.new (T := T) (q := q1) (t := 8) (n := 0) hq2
  have hT6 : xtag (xnew T q1 8 0) q1 = 8 := if_pos rfl
  generalize xnew T q1 8 0 = T4 at hw hl5 hok hT6 ⊢
  refine g_dup hE1 dX18_cellTold_3 rfl ?_
  refine gx_callI hE hRm (As := []) (b := q1) hx_J7_init (lw_meth q324) q2067 q105 q323 rfl (tx_J7_init X hw) ⟨by decide, by decide⟩ ⟨(by decide), (by decide)⟩ rfl (Nat.le_of_ble_eq_true rfl) dX18_cellTold_4 rfl (fun r9 T7 I8 R9 Lz hΦ => ?_) hok
  obtain ⟨rfl, rfl, hl10, hw⟩ := hΦ
  have hw := hw hl10
  show GX E X T7 I8 R9 L 2 20 7 [some (aI x0)] [aR (some q1)]
  intro hok
  refine gx_ldcS hE (i := 11) (bs9 := []) rfl dX18_cellTold_7 (fun b11 v12 h13 ht16 h14 h15 ht17 h18 h19 => ?_) hok
  have hw := hw b11 v12 h13 ht16 h14 h15 ht17 h18 h19
  intro hok
  have ht20 := hl10.tag hT6 (by decide)
  refine gx_callV hE hRm (As := [aR (some b11)]) ht20 (by decide) (by decide) rfl hx_J7_append (tx_J7_append X hw) (lw_V q2069 q718 q719 q105 q720) ⟨by decide, by decide⟩ ⟨(by decide), (by decide)⟩ rfl (Nat.le_of_ble_eq_true rfl) dX18_cellTold_9 rfl (fun r9 T22 I23 R24 Lz hΦ => ?_) hok
  obtain ⟨r21, rfl, rfl, hl25, hw⟩ := hΦ
  have hw := hw hl25
  show GX E X T22 I23 R24 L 3 170 12 [some (aI x0)] [aR r21]
  intro hok
  refine g_bipush hE1 dX18_cellTold_12 (by decide) ?_
  refine g_ildn0 hE1 dX18_cellTold_14 ?_
  refine g_bipush hE1 dX18_cellTold_15 (by decide) ?_
  obtain ⟨h26, hw⟩ := hw
  refine g_irem hE1 dX18_cellTold_17 h26 (by decide) ?_
  refine g_iadd hE1 dX18_cellTold_18 ?_
  refine g_i2c hE1 dX18_cellTold_19 ?_
  obtain ⟨b27, hb28, hw⟩ := hw
  rw [hb28]
  obtain ⟨ht29, hw⟩ := hw
  refine gx_callV hE hRm (As := [aI (bC (97 + (x0 % 16)))]) ht29 (by decide) (by decide) rfl hx_J7_append_2 (tx_J7_append_2 X hw) (lw_V q2050 q1594 q1595 q105 q1596) ⟨by decide, by decide⟩ ⟨(by decide), (by decide)⟩ rfl (Nat.le_of_ble_eq_true rfl) dX18_cellTold_20 rfl (fun r9 T31 I32 R33 Lz hΦ => ?_) hok
  obtain ⟨r30, rfl, rfl, hl34, hw⟩ := hΦ
  have hw := hw hl34
  show GX E X T31 I32 R33 L 4 320 23 [some (aI x0)] [aR r30]
  intro hok
  refine g_ildn0 hE1 dX18_cellTold_23 ?_
  refine g_bipush hE1 dX18_cellTold_24 (by decide) ?_
  obtain ⟨h35, hw⟩ := hw
  refine g_idiv hE1 dX18_cellTold_26 h35 (by decide) ?_
  obtain ⟨b36, hb37, hw⟩ := hw
  rw [hb37]
  obtain ⟨ht38, hw⟩ := hw
  refine gx_callV hE hRm (As := [aI (x0 / 16)]) ht38 (by decide) (by decide) rfl hx_J7_append_3 (tx_J7_append_3 X hw) (lw_V q2070 q2016 q2017 q105 q2018) ⟨by decide, by decide⟩ ⟨(by decide), (by decide)⟩ rfl (Nat.le_of_ble_eq_true rfl) dX18_cellTold_27 rfl (fun r9 T40 I41 R42 Lz hΦ => ?_) hok
  obtain ⟨r39, rfl, rfl, hl43, hw⟩ := hΦ
  have hw := hw hl43
  show GX E X T40 I41 R42 L 5 470 30 [some (aI x0)] [aR r39]
  intro hok
  obtain ⟨b44, hb45, hw⟩ := hw
  rw [hb45]
  obtain ⟨ht46, hw⟩ := hw
  refine gx_callV hE hRm (As := []) ht46 (by decide) (by decide) rfl hx_J7_toString (tx_J7_toString X hw) (lw_V q2071 q829 q830 q105 q831) ⟨by decide, by decide⟩ ⟨(by decide), (by decide)⟩ rfl (Nat.le_of_ble_eq_true rfl) dX18_cellTold_30 rfl (fun r9 T48 I49 R50 Lz hΦ => ?_) hok
  obtain ⟨r47, rfl, rfl, hl51, hw⟩ := hΦ
  have hw := hw hl51
  show GX E X T48 I49 R50 L 8 774 33 [some (aI x0)] [aR r47]
  intro hok
  exact gx_aret hE hR dX18_cellTold_33 (by decide) (by decide) (Or.inl ⟨_, rfl⟩) ⟨_, rfl, rfl, (((((hl5.tr hl10).tr hl25).tr hl34).tr hl43).tr hl51), hw⟩ hok

/-- WhalingLogs$Entry.told()Ljava/lang/String; -/
def wx_X6_told (X : XT) (o : Nat)  (T : xT) (I : xI) (R : xR) (L : xL) (Q : Option Nat → xT → xI → xR → Prop) : Prop :=
  xtag T o = 12 ∧
  jn6 (fun (T_86 : xT) (I_86 : xI) (R_86 : xR) (k_86 : Nat) (n_86 : Nat) (y0_86 : Option Nat) => 
      Q y0_86 T_86 I_86 R_86)
    (fun (J_86 : xT → xI → xR → Nat → Nat → Option Nat → Prop) =>
    inR (I o 3) ∧ (((I o 3) ≠ 0 ∧ (I o 3) ≠ 1) →
      ∀ b2 v3 : Nat, srX X 12 = some b2 → xtag T b2 = 25 → R b2 0 = some v3 → I b2 1 = 0 → xtag T v3 = 101 → xlen T v3 = 1 → (∀ j : Nat, j < 1 → I v3 (j : Int) = ([120] : List Int).getD j 0) →
      J_86 T I R 0 0 (some b2)) ∧
    ((I o 3) = 0 →
      ∀ b13 v14 : Nat, srX X 10 = some b13 → xtag T b13 = 25 → R b13 0 = some v14 → I b13 1 = 0 → xtag T v14 = 101 → xlen T v14 = 1 → (∀ j : Nat, j < 1 → I v14 (j : Int) = ([63] : List Int).getD j 0) →
      J_86 T I R 0 0 (some b13)) ∧
    ((I o 3) = 1 →
      ∀ q23 : Nat, xtag T q23 = 0 → bsX X ≤ q23 → ∀ T26 : xT, T26 = xnew T q23 8 0 →
      wx_J7_init X q23 T26 I R L (fun (T29 : xT) (I30 : xI) (R31 : xR) => tle T26 T29 → 
      wx_X18_cellTold X (I30 o 1) T29 I30 R31 L (fun (r34 : Option Nat) (T35 : xT) (I36 : xI) (R37 : xR) => tle T29 T35 → 
      wx_J7_append X q23 r34 T35 I36 R37 L (fun (r40 : Option Nat) (T41 : xT) (I42 : xI) (R43 : xR) => tle T35 T41 → 
      ∀ b45 v46 : Nat, srX X 11 = some b45 → xtag T41 b45 = 25 → R43 b45 0 = some v46 → I42 b45 1 = 0 → xtag T41 v46 = 101 → xlen T41 v46 = 1 → (∀ j : Nat, j < 1 → I42 v46 (j : Int) = ([47] : List Int).getD j 0) →
      ∃ b54 : Nat, r40 = some b54 ∧ xtag T41 b54 = 8 ∧ wx_J7_append X b54 (some b45) T41 I42 R43 L (fun (r57 : Option Nat) (T58 : xT) (I59 : xI) (R60 : xR) => tle T41 T58 → 
      ∃ b63 : Nat, r57 = some b63 ∧ xtag T58 b63 = 8 ∧ wx_J7_append_3 X b63 (I59 o 0) T58 I59 R60 L (fun (r66 : Option Nat) (T67 : xT) (I68 : xI) (R69 : xR) => tle T58 T67 → 
      ∀ b71 v72 : Nat, srX X 11 = some b71 → xtag T67 b71 = 25 → R69 b71 0 = some v72 → I68 b71 1 = 0 → xtag T67 v72 = 101 → xlen T67 v72 = 1 → (∀ j : Nat, j < 1 → I68 v72 (j : Int) = ([47] : List Int).getD j 0) →
      ∃ b80 : Nat, r66 = some b80 ∧ xtag T67 b80 = 8 ∧ wx_J7_append X b80 (some b71) T67 I68 R69 L (fun (r83 : Option Nat) (T84 : xT) (I85 : xI) (R86 : xR) => tle T67 T84 → 
      ∃ b89 : Nat, r83 = some b89 ∧ xtag T84 b89 = 8 ∧ wx_J7_append_3 X b89 (I85 o 2) T84 I85 R86 L (fun (r92 : Option Nat) (T93 : xT) (I94 : xI) (R95 : xR) => tle T84 T93 → 
      ∃ b97 : Nat, r92 = some b97 ∧ xtag T93 b97 = 8 ∧ wx_J7_toString X b97 T93 I94 R95 L (fun (r100 : Option Nat) (T101 : xT) (I102 : xI) (R103 : xR) => tle T93 T101 → 
      J_86 T101 I102 R103 18 1848 r100))))))))))
theorem hx_X6_told : yX6_told.cls = RX6 ∧ yX6_told.cls ≠ "java/lang/invoke/MethodHandle" ∧ yX6_told.cls ≠ "java/lang/invoke/VarHandle" ∧ (parseMethodDescriptor yX6_told.desc).map (fun d => d.parameters.length) = some 0 := by decide +kernel
set_option maxHeartbeats 4000000 in
theorem tx_X6_told (X : XT) {o : Nat}  {T : xT} {I : xI} {R : xR} {L : xL} {Q : Option Nat → xT → xI → xR → Prop} (hw : wx_X6_told X o T I R L Q) : CtX X yX6_told cX6_told 1 (some (.object "java/lang/String")) (rmX 7 18 1848 198) [aR (some o)] T I R L (PXqTIR T I R L Q) := by
  refine CtX.intro (by decide) (Nat.le_of_ble_eq_true rfl) (fun E hE hR hN => ?_)
  have hRm := hR.rm
  have hE : OkX E X RX6 cX6_told 1 (some (.object "java/lang/String")) := hE
  have hE1 := hE.1
  show GX E X T I R L 0 0 0 [some (aR (some o))] []
  unfold wx_X6_told at hw
  intro hok
  refine g_aldn0 hE1 dX6_told_0 ?_
  obtain ⟨ht1, hw⟩ := hw
  refine gx_geti hE in_X6 (t := 12) rfl (by decide) 3 3 rfl (by decide) rfl (by decide) rfl q1000 (Or.inl rfl) ht1 dX6_told_1 ?_ hok
  intro hok
  refine jn6_walk (fun (T_86 : xT) (I_86 : xI) (R_86 : xR) (k_86 : Nat) (n_86 : Nat) (y0_86 : Option Nat) => tle T T_86 → k_86 ≤ 18 → n_86 ≤ 1848 → GX E X T_86 I_86 R_86 L k_86 n_86 86 [some (aR (some o))] [aR y0_86]) hw (fun T_86 I_86 R_86 k_86 n_86 y0_86 hw => ?_) (fun J_86 hj_86 hw => ?_)
  · intro hl_86 hkc_86 hnc_86; intro hok
    exact gx_aret hE hR dX6_told_86 (show k_86 ≤ 18 by omega) (show n_86 ≤ 1848 by omega) (Or.inl ⟨_, rfl⟩) ⟨_, rfl, rfl, hl_86, hw⟩ hok
  · skip
    obtain ⟨h11, h12, h22, h105⟩ := hw
    refine g_lookup hE1 dX6_told_4 h11 (by decide) 84 (by decide) [32, 37] (by decide) (fun q => ?_) (fun i t q hq hi he => ?_)
    · have hw := h12 ⟨q (0, 28) (by decide), q (1, 33) (by decide)⟩
      refine gx_ldcS hE (i := 2) (bs9 := [120]) rfl dX6_told_84 (fun b2 v3 h4 ht7 h5 h6 ht8 h9 h10 => ?_) hok
      have hw := hw b2 v3 h4 ht7 h5 h6 ht8 h9 h10
      intro hok
      exact hj_86 _ _ _ _ _ _ hw tle.rf (by omega) (by omega) hok
    rcases i with _ | i
    · obtain rfl : 32 = t := Option.some.inj hi
      obtain rfl : ((0 : Int), (28 : Int)) = q := Option.some.inj hq
      have hw := h22 he
      refine gx_ldcS hE (i := 0) (bs9 := [63]) rfl dX6_told_32 (fun b13 v14 h15 ht18 h16 h17 ht19 h20 h21 => ?_) hok
      have hw := hw b13 v14 h15 ht18 h16 h17 ht19 h20 h21
      intro hok
      refine g_goto hE1 (tgt := 86) dX6_told_34 (by decide) ?_
      exact hj_86 _ _ _ _ _ _ hw tle.rf (by omega) (by omega) hok
    rcases i with _ | i
    · obtain rfl : 37 = t := Option.some.inj hi
      obtain rfl : ((1 : Int), (33 : Int)) = q := Option.some.inj hq
      have hw := h105 he
      refine gx_new hE hRm in_J7 tyJ7 tyJ7_ok (t := 8) rfl (by decide) (by decide) rfl (by decide) q2061 q321 q105 (by decide) (by decide) dX6_told_37 (fun q23 hq24 hbs25 => ?_) hok
      intro hok
      have hw := hw q23 hq24 hbs25 _ rfl
      have hl27 := tle.new (T := T) (q := q23) (t := 8) (n := 0) hq24
      have hT28 : xtag (xnew T q23 8 0) q23 = 8 := if_pos rfl
      generalize xnew T q23 8 0 = T26 at hw hl27 hok hT28 ⊢
      refine g_dup hE1 dX6_told_40 rfl ?_
      refine gx_callI hE hRm (As := []) (b := q23) hx_J7_init (lw_meth q324) q2062 q105 q323 rfl (tx_J7_init X hw) ⟨by decide, by decide⟩ ⟨(by decide), (by decide)⟩ rfl (Nat.le_of_ble_eq_true rfl) dX6_told_41 rfl (fun r9 T29 I30 R31 Lz hΦ => ?_) hok
      obtain ⟨rfl, rfl, hl32, hw⟩ := hΦ
      have hw := hw hl32
      show GX E X T29 I30 R31 L 2 20 44 [some (aR (some o))] [aR (some q23)]
      intro hok
      refine g_aldn0 hE1 dX6_told_44 ?_
      have ht33 := (hl27.tr hl32).tag ht1 (by decide)
      refine gx_geti hE in_X6 (t := 12) rfl (by decide) 1 1 rfl (by decide) rfl (by decide) rfl q994 (Or.inl rfl) ht33 dX6_told_45 ?_ hok
      intro hok
      refine gx_callS hE hRm (As := [aI (I30 o 1)]) hx_X18_cellTold (tx_X18_cellTold X hw) (lw_S q2063 q2064 q144 q2065) ⟨by decide, by decide⟩ ⟨(by decide), (by decide)⟩ rfl (Nat.le_of_ble_eq_true rfl) dX6_told_48 rfl (fun r9 T35 I36 R37 Lz hΦ => ?_) hok
      obtain ⟨r34, rfl, rfl, hl38, hw⟩ := hΦ
      have hw := hw hl38
      show GX E X T35 I36 R37 L 10 794 51 [some (aR (some o))] [aR r34, aR (some q23)]
      intro hok
      have ht39 := (hl32.tr hl38).tag hT28 (by decide)
      refine gx_callV hE hRm (As := [aR r34]) ht39 (by decide) (by decide) rfl hx_J7_append (tx_J7_append X hw) (lw_V q2072 q718 q719 q105 q720) ⟨by decide, by decide⟩ ⟨(by decide), (by decide)⟩ rfl (Nat.le_of_ble_eq_true rfl) dX6_told_51 rfl (fun r9 T41 I42 R43 Lz hΦ => ?_) hok
      obtain ⟨r40, rfl, rfl, hl44, hw⟩ := hΦ
      have hw := hw hl44
      show GX E X T41 I42 R43 L 11 944 54 [some (aR (some o))] [aR r40]
      intro hok
      refine gx_ldcS hE (i := 1) (bs9 := [47]) rfl dX6_told_54 (fun b45 v46 h47 ht50 h48 h49 ht51 h52 h53 => ?_) hok
      have hw := hw b45 v46 h47 ht50 h48 h49 ht51 h52 h53
      intro hok
      obtain ⟨b54, hb55, hw⟩ := hw
      rw [hb55]
      obtain ⟨ht56, hw⟩ := hw
      refine gx_callV hE hRm (As := [aR (some b45)]) ht56 (by decide) (by decide) rfl hx_J7_append (tx_J7_append X hw) (lw_V q2072 q718 q719 q105 q720) ⟨by decide, by decide⟩ ⟨(by decide), (by decide)⟩ rfl (Nat.le_of_ble_eq_true rfl) dX6_told_56 rfl (fun r9 T58 I59 R60 Lz hΦ => ?_) hok
      obtain ⟨r57, rfl, rfl, hl61, hw⟩ := hΦ
      have hw := hw hl61
      show GX E X T58 I59 R60 L 12 1094 59 [some (aR (some o))] [aR r57]
      intro hok
      refine g_aldn0 hE1 dX6_told_59 ?_
      have ht62 := ((((hl27.tr hl32).tr hl38).tr hl44).tr hl61).tag ht1 (by decide)
      refine gx_geti hE in_X6 (t := 12) rfl (by decide) 0 0 rfl (by decide) rfl (by decide) rfl q991 (Or.inl rfl) ht62 dX6_told_60 ?_ hok
      intro hok
      obtain ⟨b63, hb64, hw⟩ := hw
      rw [hb64]
      obtain ⟨ht65, hw⟩ := hw
      refine gx_callV hE hRm (As := [aI (I59 o 0)]) ht65 (by decide) (by decide) rfl hx_J7_append_3 (tx_J7_append_3 X hw) (lw_V q2074 q2016 q2017 q105 q2018) ⟨by decide, by decide⟩ ⟨(by decide), (by decide)⟩ rfl (Nat.le_of_ble_eq_true rfl) dX6_told_63 rfl (fun r9 T67 I68 R69 Lz hΦ => ?_) hok
      obtain ⟨r66, rfl, rfl, hl70, hw⟩ := hΦ
      have hw := hw hl70
      show GX E X T67 I68 R69 L 13 1244 66 [some (aR (some o))] [aR r66]
      intro hok
      refine gx_ldcS hE (i := 1) (bs9 := [47]) rfl dX6_told_66 (fun b71 v72 h73 ht76 h74 h75 ht77 h78 h79 => ?_) hok
      have hw := hw b71 v72 h73 ht76 h74 h75 ht77 h78 h79
      intro hok
      obtain ⟨b80, hb81, hw⟩ := hw
      rw [hb81]
      obtain ⟨ht82, hw⟩ := hw
      refine gx_callV hE hRm (As := [aR (some b71)]) ht82 (by decide) (by decide) rfl hx_J7_append (tx_J7_append X hw) (lw_V q2072 q718 q719 q105 q720) ⟨by decide, by decide⟩ ⟨(by decide), (by decide)⟩ rfl (Nat.le_of_ble_eq_true rfl) dX6_told_68 rfl (fun r9 T84 I85 R86 Lz hΦ => ?_) hok
      obtain ⟨r83, rfl, rfl, hl87, hw⟩ := hΦ
      have hw := hw hl87
      show GX E X T84 I85 R86 L 14 1394 71 [some (aR (some o))] [aR r83]
      intro hok
      refine g_aldn0 hE1 dX6_told_71 ?_
      have ht88 := ((((((hl27.tr hl32).tr hl38).tr hl44).tr hl61).tr hl70).tr hl87).tag ht1 (by decide)
      refine gx_geti hE in_X6 (t := 12) rfl (by decide) 2 2 rfl (by decide) rfl (by decide) rfl q997 (Or.inl rfl) ht88 dX6_told_72 ?_ hok
      intro hok
      obtain ⟨b89, hb90, hw⟩ := hw
      rw [hb90]
      obtain ⟨ht91, hw⟩ := hw
      refine gx_callV hE hRm (As := [aI (I85 o 2)]) ht91 (by decide) (by decide) rfl hx_J7_append_3 (tx_J7_append_3 X hw) (lw_V q2074 q2016 q2017 q105 q2018) ⟨by decide, by decide⟩ ⟨(by decide), (by decide)⟩ rfl (Nat.le_of_ble_eq_true rfl) dX6_told_75 rfl (fun r9 T93 I94 R95 Lz hΦ => ?_) hok
      obtain ⟨r92, rfl, rfl, hl96, hw⟩ := hΦ
      have hw := hw hl96
      show GX E X T93 I94 R95 L 15 1544 78 [some (aR (some o))] [aR r92]
      intro hok
      obtain ⟨b97, hb98, hw⟩ := hw
      rw [hb98]
      obtain ⟨ht99, hw⟩ := hw
      refine gx_callV hE hRm (As := []) ht99 (by decide) (by decide) rfl hx_J7_toString (tx_J7_toString X hw) (lw_V q2075 q829 q830 q105 q831) ⟨by decide, by decide⟩ ⟨(by decide), (by decide)⟩ rfl (Nat.le_of_ble_eq_true rfl) dX6_told_78 rfl (fun r9 T101 I102 R103 Lz hΦ => ?_) hok
      obtain ⟨r100, rfl, rfl, hl104, hw⟩ := hΦ
      have hw := hw hl104
      show GX E X T101 I102 R103 L 18 1848 81 [some (aR (some o))] [aR r100]
      intro hok
      refine g_goto hE1 (tgt := 86) dX6_told_81 (by decide) ?_
      exact hj_86 _ _ _ _ _ _ hw ((((((((hl27.tr hl32).tr hl38).tr hl44).tr hl61).tr hl70).tr hl87).tr hl96).tr hl104) (by omega) (by omega) hok
    exact absurd hi (by simp)

/-- WhalingLogs$Written.tells(Ljava/lang/StringBuilder;)V -/
def wx_X18_tells_X6 (X : XT) (o : Nat) (x1 : Option Nat) (T : xT) (I : xI) (R : xR) (L : xL) (Q : xT → xI → xR → Prop) : Prop :=
  ∃ b1 : Nat, x1 = some b1 ∧ xtag T b1 = 8 ∧ wx_J7_append_2 X b1 32 T I R L (fun (r4 : Option Nat) (T5 : xT) (I6 : xI) (R7 : xR) => tle T T5 → 
  xtag T5 o = 12 ∧ wx_X6_told X o T5 I6 R7 L (fun (r10 : Option Nat) (T11 : xT) (I12 : xI) (R13 : xR) => tle T5 T11 → 
  ∃ b15 : Nat, r4 = some b15 ∧ xtag T11 b15 = 8 ∧ wx_J7_append X b15 r10 T11 I12 R13 L (fun (r18 : Option Nat) (T19 : xT) (I20 : xI) (R21 : xR) => tle T11 T19 → 
  Q T19 I20 R21)))
theorem hx_X18_tells_X6 : yX18_tells.cls = RX18 ∧ yX18_tells.cls ≠ "java/lang/invoke/MethodHandle" ∧ yX18_tells.cls ≠ "java/lang/invoke/VarHandle" ∧ (parseMethodDescriptor yX18_tells.desc).map (fun d => d.parameters.length) = some 1 := by decide +kernel
set_option maxHeartbeats 4000000 in
theorem tx_X18_tells_X6 (X : XT) {o : Nat} {x1 : Option Nat} {T : xT} {I : xI} {R : xR} {L : xL} {Q : xT → xI → xR → Prop} (hw : wx_X18_tells_X6 X o x1 T I R L Q) : CtX X yX18_tells cX18_tells 2 none (rmX 8 20 2148 218) [aR (some o), aR x1] T I R L (PXvTIR T I R L Q) := by
  refine CtX.intro (by decide) (Nat.le_of_ble_eq_true rfl) (fun E hE hR hN => ?_)
  have hRm := hR.rm
  have hE : OkX E X RX18 cX18_tells 2 none := hE
  have hE1 := hE.1
  show GX E X T I R L 0 0 0 [some (aR (some o)), some (aR x1)] []
  unfold wx_X18_tells_X6 at hw
  intro hok
  refine g_aldn1 hE1 dX18_tells_0 ?_
  refine g_bipush hE1 dX18_tells_1 (by decide) ?_
  obtain ⟨b1, hb2, hw⟩ := hw
  rw [hb2]
  obtain ⟨ht3, hw⟩ := hw
  refine gx_callV hE hRm (As := [aI 32]) ht3 (by decide) (by decide) rfl hx_J7_append_2 (tx_J7_append_2 X hw) (lw_V q2050 q1594 q1595 q105 q1596) ⟨by decide, by decide⟩ ⟨(by decide), (by decide)⟩ rfl (Nat.le_of_ble_eq_true rfl) dX18_tells_3 rfl (fun r9 T5 I6 R7 Lz hΦ => ?_) hok
  obtain ⟨r4, rfl, rfl, hl8, hw⟩ := hΦ
  have hw := hw hl8
  show GX E X T5 I6 R7 L 1 150 6 [some (aR (some o)), some (aR (some b1))] [aR r4]
  intro hok
  refine g_aldn0 hE1 dX18_tells_6 ?_
  obtain ⟨ht9, hw⟩ := hw
  refine gx_callF hE hRm (na := 0) (As := []) ht9 (by decide) (by decide) rfl (x := ⟨"WhalingLogs$Written", "told", "()Ljava/lang/String;"⟩) (by unfold fwL; simp; decide) (by decide +kernel) (tx_X6_told X hw) (lw_F q2052 q2055 q2057 q127 q2059) ⟨by decide, by decide⟩ ⟨(by decide), (by decide)⟩ rfl (Nat.le_of_ble_eq_true rfl) dX18_tells_7 rfl (fun r9 T11 I12 R13 Lz hΦ => ?_) hok
  obtain ⟨r10, rfl, rfl, hl14, hw⟩ := hΦ
  have hw := hw hl14
  show GX E X T11 I12 R13 L 19 1998 12 [some (aR (some o)), some (aR (some b1))] [aR r10, aR r4]
  intro hok
  obtain ⟨b15, hb16, hw⟩ := hw
  rw [hb16]
  obtain ⟨ht17, hw⟩ := hw
  refine gx_callV hE hRm (As := [aR r10]) ht17 (by decide) (by decide) rfl hx_J7_append (tx_J7_append X hw) (lw_V q2069 q718 q719 q105 q720) ⟨by decide, by decide⟩ ⟨(by decide), (by decide)⟩ rfl (Nat.le_of_ble_eq_true rfl) dX18_tells_12 rfl (fun r9 T19 I20 R21 Lz hΦ => ?_) hok
  obtain ⟨r18, rfl, rfl, hl22, hw⟩ := hΦ
  have hw := hw hl22
  show GX E X T19 I20 R21 L 20 2148 15 [some (aR (some o)), some (aR (some b1))] [aR r18]
  intro hok
  refine g_pop hE1 dX18_tells_15 rfl ?_
  exact gx_vret hE hR dX18_tells_16 (by decide) (by decide) ⟨rfl, rfl, ((hl8.tr hl14).tr hl22), hw⟩ hok

/-- WhalingLogs.tell(I)I -/
def wx_X0_tell (X : XT) (o : Nat) (x1 : Int) (T : xT) (I : xI) (R : xR) (L : xL) (Q : Int → xT → xI → xR → Prop) : Prop :=
  xtag T o = 1 ∧
  ∃ b2 : Nat, R o 0 = some b2 ∧ xtag T b2 = 2 ∧ wx_X1_isPage X b2 x1 T I R L (fun (r5 : Int) => 
  cEq r5 0
    (
    Q (-1) T I R)
    (
    ∃ b7 : Nat, R o 0 = some b7 ∧ xtag T b7 = 2 ∧
    ∃ b10 : Nat, R b7 1 = some b10 ∧ xtag T b10 = 4 ∧ wx_J4_get X b10 x1 T I R L (fun (r13 : Option Nat) => 
    ∃ b15 : Nat, r13 = some b15 ∧ xtag T b15 = 10 ∧
    ∃ b18 : Nat, R o 9 = some b18 ∧ xtag T b18 = 8 ∧ wx_J7_setLength X b18 0 T I R L (fun (T21 : xT) (I22 : xI) (R23 : xR) => tle T T21 → 
    ∃ b27 : Nat, R23 o 9 = some b27 ∧ xtag T21 b27 = 8 ∧ wx_J7_append_3 X b27 (I22 b15 2) T21 I22 R23 L (fun (r30 : Option Nat) (T31 : xT) (I32 : xI) (R33 : xR) => tle T21 T31 → 
    lq6 (fun (x3_50 : Int) (T_50 : xT) (I_50 : xI) (R_50 : xR) (k_50 : Nat) (n_50 : Nat) (K_50 : Int → xT → xI → xR → Nat → Nat → Prop) =>
      ∃ b36 : Nat, R_50 b15 1 = some b36 ∧ xtag T_50 b36 = 11 ∧ wx_J24_size X b36 T_50 I_50 R_50 L (fun (r39 : Int) => 
      cLt x3_50 r39
        (
        ∃ b41 : Nat, R_50 b15 1 = some b41 ∧ xtag T_50 b41 = 11 ∧ wx_J24_get X b41 x3_50 T_50 I_50 R_50 L (fun (r44 : Option Nat) => 
        ∃ b46 : Nat, r44 = some b46 ∧ xtag T_50 b46 = 12 ∧
        k_50 + 20 ≤ 100 ∧ n_50 + 2148 ≤ 9000 ∧ wx_X18_tells_X6 X b46 (R_50 o 9) T_50 I_50 R_50 L (fun (T52 : xT) (I53 : xI) (R54 : xR) => tle T_50 T52 → 
        K_50 (x3_50 + 1) T52 I53 R54 (k_50 + 20) (n_50 + 2148))))
        (
        ∃ b57 : Nat, R_50 o 9 = some b57 ∧ xtag T_50 b57 = 8 ∧ wx_J7_length X b57 T_50 I_50 R_50 L (fun (r60 : Int) => 
        Q r60 T_50 I_50 R_50)))) 0 T31 I32 R33 2 300)))))
theorem hx_X0_tell : yX0_tell.cls = RX0 ∧ yX0_tell.cls ≠ "java/lang/invoke/MethodHandle" ∧ yX0_tell.cls ≠ "java/lang/invoke/VarHandle" ∧ (parseMethodDescriptor yX0_tell.desc).map (fun d => d.parameters.length) = some 1 := by decide +kernel
set_option maxHeartbeats 4000000 in
theorem tx_X0_tell (X : XT) {o : Nat} {x1 : Int} {T : xT} {I : xI} {R : xR} {L : xL} {Q : Int → xT → xI → xR → Prop} (hw : wx_X0_tell X o x1 T I R L Q) : CtX X yX0_tell cX0_tell 5 (some .int) (rmX 9 100 9000 239) [aR (some o), aI x1] T I R L (PXiTIR T I R L Q) := by
  refine CtX.intro (by decide) (Nat.le_of_ble_eq_true rfl) (fun E hE hR hN => ?_)
  have hRm := hR.rm
  have hE : OkX E X RX0 cX0_tell 5 (some .int) := hE
  have hE1 := hE.1
  show GX E X T I R L 0 0 0 [some (aR (some o)), some (aI x1), none, none, none] []
  unfold wx_X0_tell at hw
  intro hok
  refine g_aldn0 hE1 dX0_tell_0 ?_
  obtain ⟨ht1, hw⟩ := hw
  refine gx_getr hE in_X0 (t := 1) rfl (by decide) 0 0 rfl (by decide) rfl (by decide) rfl q353 (Or.inl rfl) ht1 dX0_tell_1 ?_ hok
  intro hok
  refine g_ildn1 hE1 dX0_tell_4 ?_
  obtain ⟨b2, hb3, hw⟩ := hw
  rw [hb3]
  obtain ⟨ht4, hw⟩ := hw
  refine gx_callV hE hRm (As := [aI x1]) ht4 (by decide) (by decide) rfl hx_X1_isPage (tx_X1_isPage X hw) (lw_V q1282 q1265 q1266 q95 q1267) ⟨by decide, by decide⟩ ⟨(by decide), (by decide)⟩ rfl (Nat.le_of_ble_eq_true rfl) dX0_tell_5 rfl (fun r9 Tz Iz Rz Lz hΦ => ?_) hok
  obtain ⟨r5, rfl, rfl, rfl, rfl, rfl, hw⟩ := hΦ
  show GX E X T I R L 0 0 8 [some (aR (some o)), some (aI x1), none, none, none] [aI r5]
  intro hok
  obtain ⟨h66, h67, hT68, hN69⟩ := hw
  refine g_if_ne hE1 (tgt := 13) dX0_tell_8 (by decide) h66 (fun q => ?_) (fun q => ?_)
  · have hw := hT68 q
    refine g_iconst hE1 dX0_tell_11 ?_
    exact gx_iret hE hR dX0_tell_12 (by decide) (by decide) rfl ⟨_, rfl, rfl, tle.rf, hw⟩ hok
  · have hw := hN69 q
    refine g_aldn0 hE1 dX0_tell_13 ?_
    refine gx_getr hE in_X0 (t := 1) rfl (by decide) 0 0 rfl (by decide) rfl (by decide) rfl q353 (Or.inl rfl) ht1 dX0_tell_14 ?_ hok
    intro hok
    obtain ⟨b7, hb8, hw⟩ := hw
    rw [hb8]
    obtain ⟨ht9, hw⟩ := hw
    refine gx_getrN hE in_X1 (t := 2) rfl (by decide) 1 1 rfl (by decide) rfl (by decide) rfl q225 (Or.inl rfl) ht9 dX0_tell_17 ?_ hok
    intro hok
    refine g_ildn1 hE1 dX0_tell_20 ?_
    obtain ⟨b10, hb11, hw⟩ := hw
    rw [hb11]
    obtain ⟨ht12, hw⟩ := hw
    refine gx_callV hE hRm (As := [aI x1]) ht12 (by decide) (by decide) rfl hx_J4_get (tx_J4_get X hw) (lw_V q1375 q596 q2595 q100 q597) ⟨by decide, by decide⟩ ⟨(by decide), (by decide)⟩ rfl (Nat.le_of_ble_eq_true rfl) dX0_tell_21 rfl (fun r9 Tz Iz Rz Lz hΦ => ?_) hok
    obtain ⟨r13, rfl, rfl, rfl, rfl, rfl, hw⟩ := hΦ
    show GX E X T I R L 0 0 24 [some (aR (some o)), some (aI x1), none, none, none] [aR r13]
    intro hok
    obtain ⟨b15, hb16, hw⟩ := hw
    rw [hb16]
    obtain ⟨ht17, hw⟩ := hw
    refine gx_castS hE ht17 (by decide) (by decide) rfl q1291 dX0_tell_24 ?_ hok
    intro hok
    refine g_astn2 hE1 dX0_tell_27 (by decide) rfl ?_
    refine g_aldn0 hE1 dX0_tell_28 ?_
    refine gx_getr hE in_X0 (t := 1) rfl (by decide) 9 9 rfl (by decide) rfl (by decide) rfl q362 (Or.inl rfl) ht1 dX0_tell_29 ?_ hok
    intro hok
    refine g_iconst hE1 dX0_tell_32 ?_
    obtain ⟨b18, hb19, hw⟩ := hw
    rw [hb19]
    obtain ⟨ht20, hw⟩ := hw
    refine gx_callV hE hRm (As := [aI 0]) ht20 (by decide) (by decide) rfl hx_J7_setLength (tx_J7_setLength X hw) (lw_V q1991 q1992 q1993 q105 q1994) ⟨by decide, by decide⟩ ⟨(by decide), (by decide)⟩ rfl (Nat.le_of_ble_eq_true rfl) dX0_tell_33 rfl (fun r9 T21 I22 R23 Lz hΦ => ?_) hok
    obtain ⟨rfl, rfl, hl24, hw⟩ := hΦ
    have hw := hw hl24
    show GX E X T21 I22 R23 L 1 150 36 [some (aR (some o)), some (aI x1), some (aR (some b15)), none, none] []
    intro hok
    refine g_aldn0 hE1 dX0_tell_36 ?_
    have ht25 := hl24.tag ht1 (by decide)
    refine gx_getr hE in_X0 (t := 1) rfl (by decide) 9 9 rfl (by decide) rfl (by decide) rfl q362 (Or.inl rfl) ht25 dX0_tell_37 ?_ hok
    intro hok
    refine g_aldn2 hE1 dX0_tell_40 ?_
    have ht26 := hl24.tag ht17 (by decide)
    refine gx_getiN hE in_X5 (t := 10) rfl (by decide) 2 2 rfl (by decide) rfl (by decide) rfl q970 (Or.inl rfl) ht26 dX0_tell_41 ?_ hok
    intro hok
    obtain ⟨b27, hb28, hw⟩ := hw
    rw [hb28]
    obtain ⟨ht29, hw⟩ := hw
    refine gx_callV hE hRm (As := [aI (I22 b15 2)]) ht29 (by decide) (by decide) rfl hx_J7_append_3 (tx_J7_append_3 X hw) (lw_V q2015 q2016 q2017 q105 q2018) ⟨by decide, by decide⟩ ⟨(by decide), (by decide)⟩ rfl (Nat.le_of_ble_eq_true rfl) dX0_tell_44 rfl (fun r9 T31 I32 R33 Lz hΦ => ?_) hok
    obtain ⟨r30, rfl, rfl, hl34, hw⟩ := hΦ
    have hw := hw hl34
    show GX E X T31 I32 R33 L 2 300 47 [some (aR (some o)), some (aI x1), some (aR (some b15)), none, none] [aR r30]
    intro hok
    refine g_pop hE1 dX0_tell_47 rfl ?_
    refine g_iconst hE1 dX0_tell_48 ?_
    refine g_istn3 hE1 dX0_tell_49 (by decide) rfl ?_
    refine lq6_walk (fun (x3_50 : Int) (T_50 : xT) (I_50 : xI) (R_50 : xR) (k_50 : Nat) (n_50 : Nat) => tle T31 T_50 → k_50 ≤ 100 → n_50 ≤ 9000 → GX E X T_50 I_50 R_50 L k_50 n_50 50 [some (aR (some o)), some (aI x1), some (aR (some b15)), some (aI x3_50), none] []) (fun K_50 hk_50 x3_50 T_50 I_50 R_50 k_50 n_50 hw => ?_) _ _ _ _ _ _ hw tle.rf (by omega) (by omega) hok
    intro hl_50 hkc_50 hnc_50
    intro hok
    refine g_ildn3 hE1 dX0_tell_50 ?_
    refine g_aldn2 hE1 dX0_tell_51 ?_
    have ht35 := ((hl24.tr hl34).tr hl_50).tag ht17 (by decide)
    refine gx_getrN hE in_X5 (t := 10) rfl (by decide) 1 1 rfl (by decide) rfl (by decide) rfl q967 (Or.inl rfl) ht35 dX0_tell_52 ?_ hok
    intro hok
    obtain ⟨b36, hb37, hw⟩ := hw
    rw [hb37]
    obtain ⟨ht38, hw⟩ := hw
    refine gx_callV hE hRm (As := []) ht38 (by decide) (by decide) rfl hx_J24_size (tx_J24_size X hw) (lw_V q1376 q538 q2592 q126 q539) ⟨by decide, by decide⟩ ⟨(show k_50 + 0 ≤ 100 by omega), (show n_50 + 0 ≤ 9000 by omega)⟩ rfl (Nat.le_of_ble_eq_true rfl) dX0_tell_55 rfl (fun r9 Tz Iz Rz Lz hΦ => ?_) hok
    obtain ⟨r39, rfl, rfl, rfl, rfl, rfl, hw⟩ := hΦ
    show GX E X T_50 I_50 R_50 L k_50 n_50 58 [some (aR (some o)), some (aI x1), some (aR (some b15)), some (aI x3_50), none] [aI r39, aI x3_50]
    intro hok
    obtain ⟨h62, h63, hT64, hN65⟩ := hw
    refine g_icmp_ge hE1 (tgt := 91) dX0_tell_58 (by decide) h62 h63 (fun q => ?_) (fun q => ?_)
    · have hw := hT64 q
      refine g_aldn2 hE1 dX0_tell_61 ?_
      refine gx_getrN hE in_X5 (t := 10) rfl (by decide) 1 1 rfl (by decide) rfl (by decide) rfl q967 (Or.inl rfl) ht35 dX0_tell_62 ?_ hok
      intro hok
      refine g_ildn3 hE1 dX0_tell_65 ?_
      obtain ⟨b41, hb42, hw⟩ := hw
      rw [hb42]
      obtain ⟨ht43, hw⟩ := hw
      refine gx_callV hE hRm (As := [aI x3_50]) ht43 (by decide) (by decide) rfl hx_J24_get (tx_J24_get X hw) (lw_V q1390 q583 q2593 q126 q584) ⟨by decide, by decide⟩ ⟨(show k_50 + 0 ≤ 100 by omega), (show n_50 + 0 ≤ 9000 by omega)⟩ rfl (Nat.le_of_ble_eq_true rfl) dX0_tell_66 rfl (fun r9 Tz Iz Rz Lz hΦ => ?_) hok
      obtain ⟨r44, rfl, rfl, rfl, rfl, rfl, hw⟩ := hΦ
      show GX E X T_50 I_50 R_50 L k_50 n_50 69 [some (aR (some o)), some (aI x1), some (aR (some b15)), some (aI x3_50), none] [aR r44]
      intro hok
      obtain ⟨b46, hb47, hw⟩ := hw
      rw [hb47]
      obtain ⟨ht48, hw⟩ := hw
      refine gx_castY hE ht48 (by decide) (by decide) rfl q2040 q2045 dX0_tell_69 ?_ hok
      intro hok
      refine g_ast4 hE1 dX0_tell_72 (by decide) rfl ?_
      refine g_ald4 hE1 dX0_tell_74 ?_
      refine g_aldn0 hE1 dX0_tell_76 ?_
      have ht49 := ((hl24.tr hl34).tr hl_50).tag ht1 (by decide)
      refine gx_getr hE in_X0 (t := 1) rfl (by decide) 9 9 rfl (by decide) rfl (by decide) rfl q362 (Or.inl rfl) ht49 dX0_tell_77 ?_ hok
      intro hok
      obtain ⟨hc50, hw⟩ := hw
      obtain ⟨hc51, hw⟩ := hw
      refine gx_callDf hE hRm (na := 1) (As := [aR (R_50 o 9)]) ht48 (by decide +kernel) (tx_X18_tells_X6 X hw) (lw_meth q2049) q2042 q144 q2047 ⟨by decide, by decide⟩ ⟨hc50, hc51⟩ rfl (Nat.le_of_ble_eq_true rfl) dX0_tell_80 rfl (fun r9 T52 I53 R54 Lz hΦ => ?_) hok
      obtain ⟨rfl, rfl, hl55, hw⟩ := hΦ
      have hw := hw hl55
      show GX E X T52 I53 R54 L (k_50 + 20) (n_50 + 2148) 85 [some (aR (some o)), some (aI x1), some (aR (some b15)), some (aI x3_50), some (aR (some b46))] []
      intro hok
      refine g_iinc3 hE1 dX0_tell_85 (by decide) rfl ?_
      refine g_goto hE1 (tgt := 50) dX0_tell_88 (by decide) ?_
      refine g_kl4 ?_
      exact hk_50 _ _ _ _ _ _ hw (hl_50.tr hl55) (by omega) (by omega) hok
    · have hw := hN65 q
      refine g_aldn0 hE1 dX0_tell_91 ?_
      have ht56 := ((hl24.tr hl34).tr hl_50).tag ht1 (by decide)
      refine gx_getr hE in_X0 (t := 1) rfl (by decide) 9 9 rfl (by decide) rfl (by decide) rfl q362 (Or.inl rfl) ht56 dX0_tell_92 ?_ hok
      intro hok
      obtain ⟨b57, hb58, hw⟩ := hw
      rw [hb58]
      obtain ⟨ht59, hw⟩ := hw
      refine gx_callV hE hRm (As := []) ht59 (by decide) (by decide) rfl hx_J7_length (tx_J7_length X hw) (lw_V q1592 q850 q2596 q105 q851) ⟨by decide, by decide⟩ ⟨(show k_50 + 0 ≤ 100 by omega), (show n_50 + 0 ≤ 9000 by omega)⟩ rfl (Nat.le_of_ble_eq_true rfl) dX0_tell_95 rfl (fun r9 Tz Iz Rz Lz hΦ => ?_) hok
      obtain ⟨r60, rfl, rfl, rfl, rfl, rfl, hw⟩ := hΦ
      show GX E X T_50 I_50 R_50 L k_50 n_50 98 [some (aR (some o)), some (aI x1), some (aR (some b15)), some (aI x3_50), none] [aI r60]
      intro hok
      exact gx_iret hE hR dX0_tell_98 (show k_50 ≤ 100 by omega) (show n_50 ≤ 9000 by omega) rfl ⟨_, rfl, rfl, ((hl24.tr hl34).tr hl_50), hw⟩ hok

/-- WhalingLogs.character(I)I -/
def wx_X0_character (X : XT) (o : Nat) (x1 : Int) (T : xT) (I : xI) (R : xR) (L : xL) (Q : Int → Prop) : Prop :=
  xtag T o = 1 ∧
  ∃ b2 : Nat, R o 9 = some b2 ∧ xtag T b2 = 8 ∧ wx_J7_length X b2 T I R L (fun (r5 : Int) => 
  wx_X0_isIn X x1 0 (r5 - 1) T I R L (fun (r7 : Int) => 
  jn1 (fun (y0_29 : Int) => 
      Q y0_29)
    (fun (J_29 : Int → Prop) =>
    cEq r7 0
      (
      J_29 (-1))
      (
      ∃ b9 : Nat, R o 9 = some b9 ∧ xtag T b9 = 8 ∧ wx_J7_charAt X b9 x1 T I R L (fun (r12 : Int) => 
      J_29 r12)))))
theorem hx_X0_character : yX0_character.cls = RX0 ∧ yX0_character.cls ≠ "java/lang/invoke/MethodHandle" ∧ yX0_character.cls ≠ "java/lang/invoke/VarHandle" ∧ (parseMethodDescriptor yX0_character.desc).map (fun d => d.parameters.length) = some 1 := by decide +kernel
set_option maxHeartbeats 4000000 in
theorem tx_X0_character (X : XT) {o : Nat} {x1 : Int} {T : xT} {I : xI} {R : xR} {L : xL} {Q : Int → Prop} (hw : wx_X0_character X o x1 T I R L Q) : CtX X yX0_character cX0_character 2 (some .int) (rmX 4 0 0 109) [aR (some o), aI x1] T I R L (PXi T I R L Q) := by
  refine CtX.intro (by decide) (Nat.le_of_ble_eq_true rfl) (fun E hE hR hN => ?_)
  have hRm := hR.rm
  have hE : OkX E X RX0 cX0_character 2 (some .int) := hE
  have hE1 := hE.1
  show GX E X T I R L 0 0 0 [some (aR (some o)), some (aI x1)] []
  unfold wx_X0_character at hw
  intro hok
  refine g_ildn1 hE1 dX0_character_0 ?_
  refine g_iconst hE1 dX0_character_1 ?_
  refine g_aldn0 hE1 dX0_character_2 ?_
  obtain ⟨ht1, hw⟩ := hw
  refine gx_getr hE in_X0 (t := 1) rfl (by decide) 9 9 rfl (by decide) rfl (by decide) rfl q362 (Or.inl rfl) ht1 dX0_character_3 ?_ hok
  intro hok
  obtain ⟨b2, hb3, hw⟩ := hw
  rw [hb3]
  obtain ⟨ht4, hw⟩ := hw
  refine gx_callV hE hRm (As := []) ht4 (by decide) (by decide) rfl hx_J7_length (tx_J7_length X hw) (lw_V q1592 q850 q2596 q105 q851) ⟨by decide, by decide⟩ ⟨(by decide), (by decide)⟩ rfl (Nat.le_of_ble_eq_true rfl) dX0_character_6 rfl (fun r9 Tz Iz Rz Lz hΦ => ?_) hok
  obtain ⟨r5, rfl, rfl, rfl, rfl, rfl, hw⟩ := hΦ
  show GX E X T I R L 0 0 9 [some (aR (some o)), some (aI x1)] [aI r5, aI 0, aI x1]
  intro hok
  refine g_iconst hE1 dX0_character_9 ?_
  refine g_isub hE1 dX0_character_10 ?_
  refine gx_callS hE hRm (As := [aI x1, aI 0, aI (r5 - 1)]) hx_X0_isIn (tx_X0_isIn X hw) (lw_S q392 q393 q94 q394) ⟨by decide, by decide⟩ ⟨(by decide), (by decide)⟩ rfl (Nat.le_of_ble_eq_true rfl) dX0_character_11 rfl (fun r9 Tz Iz Rz Lz hΦ => ?_) hok
  obtain ⟨r7, rfl, rfl, rfl, rfl, rfl, hw⟩ := hΦ
  show GX E X T I R L 0 0 14 [some (aR (some o)), some (aI x1)] [aI r7]
  intro hok
  refine jn1_walk (fun (y0_29 : Int) => GX E X T I R L 0 0 29 [some (aR (some o)), some (aI x1)] [aI y0_29]) hw (fun y0_29 hw => ?_) (fun J_29 hj_29 hw => ?_)
  · intro hok
    exact gx_iret hE hR dX0_character_29 (by decide) (by decide) rfl ⟨_, rfl, rfl, rfl, rfl, rfl, hw⟩ hok
  · skip
    obtain ⟨h14, h15, hT16, hN17⟩ := hw
    refine g_if_eq hE1 (tgt := 28) dX0_character_14 (by decide) h14 (fun q => ?_) (fun q => ?_)
    · have hw := hT16 q
      refine g_iconst hE1 dX0_character_28 ?_
      exact hj_29 _ hw hok
    · have hw := hN17 q
      refine g_aldn0 hE1 dX0_character_17 ?_
      refine gx_getr hE in_X0 (t := 1) rfl (by decide) 9 9 rfl (by decide) rfl (by decide) rfl q362 (Or.inl rfl) ht1 dX0_character_18 ?_ hok
      intro hok
      refine g_ildn1 hE1 dX0_character_21 ?_
      obtain ⟨b9, hb10, hw⟩ := hw
      rw [hb10]
      obtain ⟨ht11, hw⟩ := hw
      refine gx_callV hE hRm (As := [aI x1]) ht11 (by decide) (by decide) rfl hx_J7_charAt (tx_J7_charAt X hw) (lw_V q2081 q1688 q2601 q105 q1690) ⟨by decide, by decide⟩ ⟨(by decide), (by decide)⟩ rfl (Nat.le_of_ble_eq_true rfl) dX0_character_22 rfl (fun r9 Tz Iz Rz Lz hΦ => ?_) hok
      obtain ⟨r12, rfl, rfl, rfl, rfl, rfl, hw⟩ := hΦ
      show GX E X T I R L 0 0 25 [some (aR (some o)), some (aI x1)] [aI r12]
      intro hok
      refine g_goto hE1 (tgt := 29) dX0_character_25 (by decide) ?_
      exact hj_29 _ hw hok

/-- WhalingLogs.reason(Z)I -/
def wx_X0_reason (X : XT) (o : Nat) (x1 : Int) (T : xT) (I : xI) (R : xR) (L : xL) (Q : Int → Prop) : Prop :=
  xtag T o = 1 ∧
  jn1 (fun (y0_27 : Int) => 
      Q y0_27)
    (fun (J_27 : Int → Prop) =>
    cEq (I o 3) 0
      (
      J_27 (-5))
      (
      cEq x1 0
        (
        J_27 (I o 3))
        (
        J_27 (I o 4))))
theorem hx_X0_reason : yX0_reason.cls = RX0 ∧ yX0_reason.cls ≠ "java/lang/invoke/MethodHandle" ∧ yX0_reason.cls ≠ "java/lang/invoke/VarHandle" ∧ (parseMethodDescriptor yX0_reason.desc).map (fun d => d.parameters.length) = some 1 := by decide +kernel
set_option maxHeartbeats 4000000 in
theorem tx_X0_reason (X : XT) {o : Nat} {x1 : Int} {T : xT} {I : xI} {R : xR} {L : xL} {Q : Int → Prop} (hw : wx_X0_reason X o x1 T I R L Q) : CtX X yX0_reason cX0_reason 2 (some .int) (rmX 0 0 0 0) [aR (some o), aI x1] T I R L (PXi T I R L Q) := by
  refine CtX.intro (by decide) (Nat.le_of_ble_eq_true rfl) (fun E hE hR hN => ?_)
  have hRm := hR.rm
  have hE : OkX E X RX0 cX0_reason 2 (some .int) := hE
  have hE1 := hE.1
  show GX E X T I R L 0 0 0 [some (aR (some o)), some (aI x1)] []
  unfold wx_X0_reason at hw
  intro hok
  refine g_aldn0 hE1 dX0_reason_0 ?_
  obtain ⟨ht1, hw⟩ := hw
  refine gx_geti hE in_X0 (t := 1) rfl (by decide) 3 3 rfl (by decide) rfl (by decide) rfl q356 (Or.inl rfl) ht1 dX0_reason_1 ?_ hok
  intro hok
  refine jn1_walk (fun (y0_27 : Int) => GX E X T I R L 0 0 27 [some (aR (some o)), some (aI x1)] [aI y0_27]) hw (fun y0_27 hw => ?_) (fun J_27 hj_27 hw => ?_)
  · intro hok
    exact gx_iret hE hR dX0_reason_27 (by decide) (by decide) rfl ⟨_, rfl, rfl, rfl, rfl, rfl, hw⟩ hok
  · skip
    obtain ⟨h6, h7, hT8, hN9⟩ := hw
    refine g_if_ne hE1 (tgt := 12) dX0_reason_4 (by decide) h6 (fun q => ?_) (fun q => ?_)
    · have hw := hT8 q
      refine g_bipush hE1 dX0_reason_7 (by decide) ?_
      refine g_goto hE1 (tgt := 27) dX0_reason_9 (by decide) ?_
      exact hj_27 _ hw hok
    · have hw := hN9 q
      refine g_ildn1 hE1 dX0_reason_12 ?_
      obtain ⟨h2, h3, hT4, hN5⟩ := hw
      refine g_if_eq hE1 (tgt := 23) dX0_reason_13 (by decide) h2 (fun q => ?_) (fun q => ?_)
      · have hw := hT4 q
        refine g_aldn0 hE1 dX0_reason_23 ?_
        refine gx_geti hE in_X0 (t := 1) rfl (by decide) 3 3 rfl (by decide) rfl (by decide) rfl q356 (Or.inl rfl) ht1 dX0_reason_24 ?_ hok
        intro hok
        exact hj_27 _ hw hok
      · have hw := hN5 q
        refine g_aldn0 hE1 dX0_reason_16 ?_
        refine gx_geti hE in_X0 (t := 1) rfl (by decide) 4 4 rfl (by decide) rfl (by decide) rfl q357 (Or.inl rfl) ht1 dX0_reason_17 ?_ hok
        intro hok
        refine g_goto hE1 (tgt := 27) dX0_reason_20 (by decide) ?_
        exact hj_27 _ hw hok

/-- WhalingLogs$Archive.errorsInAll()I -/
def wx_X1_errorsInAll (X : XT) (o : Nat)  (T : xT) (I : xI) (R : xR) (L : xL) (Q : Int → Prop) : Prop :=
  lq2 (fun (x1_4 : Int) (x2_4 : Int) (K_4 : Int → Int → Prop) =>
    cLt x2_4 6
      (
      xtag T o = 2 ∧
      ∃ b2 : Nat, R o 3 = some b2 ∧ xtag T b2 = 100 ∧ ib x2_4 (xlen T b2) ∧ xlen T b2 < 2147483648 ∧
      K_4 (x1_4 + (I b2 x2_4)) (x2_4 + 1))
      (
      Q x1_4)) 0 0
theorem hx_X1_errorsInAll : yX1_errorsInAll.cls = RX1 ∧ yX1_errorsInAll.cls ≠ "java/lang/invoke/MethodHandle" ∧ yX1_errorsInAll.cls ≠ "java/lang/invoke/VarHandle" ∧ (parseMethodDescriptor yX1_errorsInAll.desc).map (fun d => d.parameters.length) = some 0 := by decide +kernel
set_option maxHeartbeats 4000000 in
theorem tx_X1_errorsInAll (X : XT) {o : Nat}  {T : xT} {I : xI} {R : xR} {L : xL} {Q : Int → Prop} (hw : wx_X1_errorsInAll X o T I R L Q) : CtX X yX1_errorsInAll cX1_errorsInAll 3 (some .int) (rmX 0 0 0 0) [aR (some o)] T I R L (PXi T I R L Q) := by
  refine CtX.intro (by decide) (Nat.le_of_ble_eq_true rfl) (fun E hE hR hN => ?_)
  have hRm := hR.rm
  have hE : OkX E X RX1 cX1_errorsInAll 3 (some .int) := hE
  have hE1 := hE.1
  show GX E X T I R L 0 0 0 [some (aR (some o)), none, none] []
  unfold wx_X1_errorsInAll at hw
  intro hok
  refine g_iconst hE1 dX1_errorsInAll_0 ?_
  refine g_istn1 hE1 dX1_errorsInAll_1 (by decide) rfl ?_
  refine g_iconst hE1 dX1_errorsInAll_2 ?_
  refine g_istn2 hE1 dX1_errorsInAll_3 (by decide) rfl ?_
  refine lq2_walk (fun (x1_4 : Int) (x2_4 : Int) => GX E X T I R L 0 0 4 [some (aR (some o)), some (aI x1_4), some (aI x2_4)] []) (fun K_4 hk_4 x1_4 x2_4 hw => ?_) _ _ hw hok
  intro hok
  refine g_ildn2 hE1 dX1_errorsInAll_4 ?_
  refine g_bipush hE1 dX1_errorsInAll_5 (by decide) ?_
  obtain ⟨h7, h8, hT9, hN10⟩ := hw
  refine g_icmp_ge hE1 (tgt := 25) dX1_errorsInAll_7 (by decide) h7 h8 (fun q => ?_) (fun q => ?_)
  · have hw := hT9 q
    refine g_ildn1 hE1 dX1_errorsInAll_10 ?_
    refine g_aldn0 hE1 dX1_errorsInAll_11 ?_
    obtain ⟨ht1, hw⟩ := hw
    refine gx_getr hE in_X1 (t := 2) rfl (by decide) 3 3 rfl (by decide) rfl (by decide) rfl q228 (Or.inl rfl) ht1 dX1_errorsInAll_12 ?_ hok
    intro hok
    refine g_ildn2 hE1 dX1_errorsInAll_15 ?_
    obtain ⟨b2, hb3, hw⟩ := hw
    rw [hb3]
    obtain ⟨ht4, hw⟩ := hw
    obtain ⟨h5, h6, hw⟩ := hw
    refine gx_iald hE ht4 h5 h6 dX1_errorsInAll_16 ?_ hok
    intro hok
    refine g_iadd hE1 dX1_errorsInAll_17 ?_
    refine g_istn1 hE1 dX1_errorsInAll_18 (by decide) rfl ?_
    refine g_iinc2 hE1 dX1_errorsInAll_19 (by decide) rfl ?_
    refine g_goto hE1 (tgt := 4) dX1_errorsInAll_22 (by decide) ?_
    exact hk_4 _ _ hw hok
  · have hw := hN10 q
    refine g_ildn1 hE1 dX1_errorsInAll_25 ?_
    exact gx_iret hE hR dX1_errorsInAll_26 (by decide) (by decide) rfl ⟨_, rfl, rfl, rfl, rfl, rfl, hw⟩ hok

/-- WhalingLogs$Archive.fades()I -/
def wx_X1_fades (X : XT) (o : Nat)  (T : xT) (I : xI) (R : xR) (L : xL) (Q : Int → xT → xI → xR → Prop) : Prop :=
  xtag T o = 2 ∧
  ∃ b2 : Nat, R o 1 = some b2 ∧ xtag T b2 = 4 ∧ wx_J3_iterator_J4 X b2 T I R L (fun (r5 : Option Nat) (T6 : xT) (I7 : xI) (R8 : xR) => tle T T6 → 
  lq3 (fun (x1_10 : Int) (I_10 : xI) (R_10 : xR) (K_10 : Int → xI → xR → Prop) =>
    ∃ b10 : Nat, r5 = some b10 ∧ xtag T6 b10 = 9 ∧ wx_J15_hasNext X b10 T6 I_10 R_10 L (fun (r13 : Int) => 
    cEq r13 0
      (
      Q x1_10 T6 I_10 R_10)
      (
      wx_J15_next X b10 T6 I_10 R_10 L (fun (r15 : Option Nat) (I16 : xI) (R17 : xR) => 
      ∃ b19 : Nat, r15 = some b19 ∧ xtag T6 b19 = 10 ∧
      K_10 (x1_10 + (I16 b19 2)) I16 R17)))) 0 I7 R8)
theorem hx_X1_fades : yX1_fades.cls = RX1 ∧ yX1_fades.cls ≠ "java/lang/invoke/MethodHandle" ∧ yX1_fades.cls ≠ "java/lang/invoke/VarHandle" ∧ (parseMethodDescriptor yX1_fades.desc).map (fun d => d.parameters.length) = some 0 := by decide +kernel
set_option maxHeartbeats 4000000 in
theorem tx_X1_fades (X : XT) {o : Nat}  {T : xT} {I : xI} {R : xR} {L : xL} {Q : Int → xT → xI → xR → Prop} (hw : wx_X1_fades X o T I R L Q) : CtX X yX1_fades cX1_fades 3 (some .int) (rmX 5 1 5 106) [aR (some o)] T I R L (PXiTIR T I R L Q) := by
  refine CtX.intro (by decide) (Nat.le_of_ble_eq_true rfl) (fun E hE hR hN => ?_)
  have hRm := hR.rm
  have hE : OkX E X RX1 cX1_fades 3 (some .int) := hE
  have hE1 := hE.1
  show GX E X T I R L 0 0 0 [some (aR (some o)), none, none] []
  unfold wx_X1_fades at hw
  intro hok
  refine g_iconst hE1 dX1_fades_0 ?_
  refine g_istn1 hE1 dX1_fades_1 (by decide) rfl ?_
  refine g_aldn0 hE1 dX1_fades_2 ?_
  obtain ⟨ht1, hw⟩ := hw
  refine gx_getr hE in_X1 (t := 2) rfl (by decide) 1 1 rfl (by decide) rfl (by decide) rfl q223 (Or.inl rfl) ht1 dX1_fades_3 ?_ hok
  intro hok
  obtain ⟨b2, hb3, hw⟩ := hw
  rw [hb3]
  obtain ⟨ht4, hw⟩ := hw
  refine gx_callU hE hRm (na := 0) (As := []) ht4 (by decide) (by decide) rfl (owner := "java/util/AbstractSequentialList") (x := ⟨"java/util/LinkedList", "iterator", "()Ljava/util/Iterator;"⟩) (by decide +kernel) (tx_J3_iterator_J4 X hw) (lw_U q436 q437 q439 q440 q99 q441) rfl ⟨by decide, by decide⟩ ⟨(by decide), (by decide)⟩ rfl (Nat.le_of_ble_eq_true rfl) dX1_fades_6 rfl (fun r9 T6 I7 R8 Lz hΦ => ?_) hok
  obtain ⟨r5, rfl, rfl, hl9, hw⟩ := hΦ
  have hw := hw hl9
  show GX E X T6 I7 R8 L 1 5 9 [some (aR (some o)), some (aI 0), none] [aR r5]
  intro hok
  refine g_astn2 hE1 dX1_fades_9 (by decide) rfl ?_
  refine lq3_walk (fun (x1_10 : Int) (I_10 : xI) (R_10 : xR) => GX E X T6 I_10 R_10 L 1 5 10 [some (aR (some o)), some (aI x1_10), some (aR r5)] []) (fun K_10 hk_10 x1_10 I_10 R_10 hw => ?_) _ _ _ hw hok
  intro hok
  refine g_aldn2 hE1 dX1_fades_10 ?_
  obtain ⟨b10, hb11, hw⟩ := hw
  rw [hb11]
  obtain ⟨ht12, hw⟩ := hw
  refine gx_callF hE hRm (na := 0) (As := []) ht12 (by decide) (by decide) rfl (x := ⟨"java/util/Iterator", "hasNext", "()Z"⟩) (by unfold fwL; simp; decide) (by decide +kernel) (tx_J15_hasNext X hw) (lw_F q525 q560 q562 q116 q564) ⟨by decide, by decide⟩ ⟨(by decide), (by decide)⟩ rfl (Nat.le_of_ble_eq_true rfl) dX1_fades_11 rfl (fun r9 Tz Iz Rz Lz hΦ => ?_) hok
  obtain ⟨r13, rfl, rfl, rfl, rfl, rfl, hw⟩ := hΦ
  show GX E X T6 I_10 R_10 L 1 5 16 [some (aR (some o)), some (aI x1_10), some (aR (some b10))] [aI r13]
  intro hok
  obtain ⟨h22, h23, hT24, hN25⟩ := hw
  refine g_if_eq hE1 (tgt := 37) dX1_fades_16 (by decide) h22 (fun q => ?_) (fun q => ?_)
  · have hw := hT24 q
    refine g_ildn1 hE1 dX1_fades_37 ?_
    exact gx_iret hE hR dX1_fades_38 (by decide) (by decide) rfl ⟨_, rfl, rfl, hl9, hw⟩ hok
  · have hw := hN25 q
    refine g_ildn1 hE1 dX1_fades_19 ?_
    refine g_aldn2 hE1 dX1_fades_20 ?_
    refine gx_callF hE hRm (na := 0) (As := []) ht12 (by decide) (by decide) rfl (x := ⟨"java/util/Iterator", "next", "()Ljava/lang/Object;"⟩) (by unfold fwL; simp; decide) (by decide +kernel) (tx_J15_next X hw) (lw_F q566 q927 q929 q116 q931) ⟨by decide, by decide⟩ ⟨(by decide), (by decide)⟩ rfl (Nat.le_of_ble_eq_true rfl) dX1_fades_21 rfl (fun r9 Tz I16 R17 Lz hΦ => ?_) hok
    obtain ⟨r15, rfl, rfl, rfl, hw⟩ := hΦ
    show GX E X T6 I16 R17 L 1 5 26 [some (aR (some o)), some (aI x1_10), some (aR (some b10))] [aR r15, aI x1_10]
    intro hok
    obtain ⟨b19, hb20, hw⟩ := hw
    rw [hb20]
    obtain ⟨ht21, hw⟩ := hw
    refine gx_castS hE ht21 (by decide) (by decide) rfl q933 dX1_fades_26 ?_ hok
    intro hok
    refine gx_getiN hE in_X5 (t := 10) rfl (by decide) 2 2 rfl (by decide) rfl (by decide) rfl q969 (Or.inl rfl) ht21 dX1_fades_29 ?_ hok
    intro hok
    refine g_iadd hE1 dX1_fades_32 ?_
    refine g_istn1 hE1 dX1_fades_33 (by decide) rfl ?_
    refine g_goto hE1 (tgt := 10) dX1_fades_34 (by decide) ?_
    simpa only [hb3, hb11, hb20] using hk_10 _ _ _ hw hok

/-- WhalingLogs.account(I)I -/
def wx_X0_account (X : XT) (o : Nat) (x1 : Int) (T : xT) (I : xI) (R : xR) (L : xL) (Q : Int → xT → xI → xR → Prop) : Prop :=
  jn6 (fun (T_241 : xT) (I_241 : xI) (R_241 : xR) (k_241 : Nat) (n_241 : Nat) (y0_241 : Int) => 
      Q y0_241 T_241 I_241 R_241)
    (fun (J_241 : xT → xI → xR → Nat → Nat → Int → Prop) =>
    jn0 (
        xtag T o = 1 ∧
        ∃ b2 : Nat, R o 0 = some b2 ∧ xtag T b2 = 2 ∧
        ∃ b5 : Nat, R b2 2 = some b5 ∧ xtag T b5 = 100 ∧ ib (x1 - 7) (xlen T b5) ∧ xlen T b5 < 2147483648 ∧
        J_241 T I R 0 0 (I b5 (x1 - 7)))
      (fun (J_174 : Prop) =>
      inR x1 ∧ ((x1 < 0 ∨ 14 < x1) →
        J_241 T I R 0 0 (-2)) ∧
      (x1 = 0 →
        xtag T o = 1 ∧
        ∃ b13 : Nat, R o 0 = some b13 ∧ xtag T b13 = 2 ∧
        ∃ b16 : Nat, R b13 1 = some b16 ∧ xtag T b16 = 4 ∧ wx_J4_size X b16 T I R L (fun (r19 : Int) => 
        J_241 T I R 0 0 r19)) ∧
      (x1 = 1 →
        xtag T o = 1 ∧
        ∃ b23 : Nat, R o 0 = some b23 ∧ xtag T b23 = 2 ∧ wx_X1_many X b23 0 T I R L (fun (r26 : Int) (T27 : xT) (I28 : xI) (R29 : xR) => tle T T27 → 
        ∃ b32 : Nat, R29 o 0 = some b32 ∧ xtag T27 b32 = 2 ∧ wx_X1_many X b32 1 T27 I28 R29 L (fun (r35 : Int) (T36 : xT) (I37 : xI) (R38 : xR) => tle T27 T36 → 
        ∃ b41 : Nat, R38 o 0 = some b41 ∧ xtag T36 b41 = 2 ∧ wx_X1_many X b41 2 T36 I37 R38 L (fun (r44 : Int) (T45 : xT) (I46 : xI) (R47 : xR) => tle T36 T45 → 
        J_241 T45 I46 R47 3 15 ((r26 + r35) + r44))))) ∧
      (x1 = 2 →
        xtag T o = 1 ∧
        ∃ b51 : Nat, R o 0 = some b51 ∧ xtag T b51 = 2 ∧ wx_X1_many X b51 0 T I R L (fun (r54 : Int) (T55 : xT) (I56 : xI) (R57 : xR) => tle T T55 → 
        J_241 T55 I56 R57 1 5 r54)) ∧
      (x1 = 3 →
        xtag T o = 1 ∧
        ∃ b61 : Nat, R o 0 = some b61 ∧ xtag T b61 = 2 ∧ wx_X1_many X b61 1 T I R L (fun (r64 : Int) (T65 : xT) (I66 : xI) (R67 : xR) => tle T T65 → 
        J_241 T65 I66 R67 1 5 r64)) ∧
      (x1 = 4 →
        xtag T o = 1 ∧
        ∃ b71 : Nat, R o 0 = some b71 ∧ xtag T b71 = 2 ∧ wx_X1_many X b71 2 T I R L (fun (r74 : Int) (T75 : xT) (I76 : xI) (R77 : xR) => tle T T75 → 
        J_241 T75 I76 R77 1 5 r74)) ∧
      (x1 = 5 →
        xtag T o = 1 ∧
        ∃ b81 : Nat, R o 0 = some b81 ∧ xtag T b81 = 2 ∧
        ∃ b84 : Nat, R b81 0 = some b84 ∧ xtag T b84 = 3 ∧ wx_J0_cardinality X b84 T I R L (fun (r87 : Int) => 
        J_241 T I R 0 0 r87)) ∧
      (x1 = 6 →
        xtag T o = 1 ∧
        ∃ b91 : Nat, R o 0 = some b91 ∧ xtag T b91 = 2 ∧
        J_241 T I R 0 0 (I b91 4)) ∧
      (x1 = 7 →
        J_174) ∧
      (x1 = 8 →
        J_174) ∧
      (x1 = 9 →
        J_174) ∧
      (x1 = 10 →
        xtag T o = 1 ∧
        ∃ b99 : Nat, R o 0 = some b99 ∧ xtag T b99 = 2 ∧ wx_X1_errorsInAll X b99 T I R L (fun (r102 : Int) => 
        J_241 T I R 0 0 r102)) ∧
      (x1 = 11 →
        xtag T o = 1 ∧
        ∃ b106 : Nat, R o 0 = some b106 ∧ xtag T b106 = 2 ∧
        J_241 T I R 0 0 (I b106 5)) ∧
      (x1 = 12 →
        xtag T o = 1 ∧
        ∃ b111 : Nat, R o 0 = some b111 ∧ xtag T b111 = 2 ∧ wx_X1_fades X b111 T I R L (fun (r114 : Int) (T115 : xT) (I116 : xI) (R117 : xR) => tle T T115 → 
        J_241 T115 I116 R117 1 5 r114)) ∧
      (x1 = 13 →
        xtag T o = 1 ∧
        ∃ b121 : Nat, R o 8 = some b121 ∧ xtag T b121 = 8 ∧ wx_J7_length X b121 T I R L (fun (r124 : Int) => 
        J_241 T I R 0 0 r124)) ∧
      (x1 = 14 →
        xtag T o = 1 ∧
        ∃ b128 : Nat, R o 2 = some b128 ∧ xtag T b128 = 5 ∧ wx_J5_size X b128 T I R L (fun (r131 : Int) => 
        J_241 T I R 0 0 r131))))
theorem hx_X0_account : yX0_account.cls = RX0 ∧ yX0_account.cls ≠ "java/lang/invoke/MethodHandle" ∧ yX0_account.cls ≠ "java/lang/invoke/VarHandle" ∧ (parseMethodDescriptor yX0_account.desc).map (fun d => d.parameters.length) = some 1 := by decide +kernel
set_option maxHeartbeats 4000000 in
theorem tx_X0_account (X : XT) {o : Nat} {x1 : Int} {T : xT} {I : xI} {R : xR} {L : xL} {Q : Int → xT → xI → xR → Prop} (hw : wx_X0_account X o x1 T I R L Q) : CtX X yX0_account cX0_account 2 (some .int) (rmX 6 7 35 129) [aR (some o), aI x1] T I R L (PXiTIR T I R L Q) := by
  refine CtX.intro (by decide) (Nat.le_of_ble_eq_true rfl) (fun E hE hR hN => ?_)
  have hRm := hR.rm
  have hE : OkX E X RX0 cX0_account 2 (some .int) := hE
  have hE1 := hE.1
  show GX E X T I R L 0 0 0 [some (aR (some o)), some (aI x1)] []
  unfold wx_X0_account at hw
  intro hok
  refine g_ildn1 hE1 dX0_account_0 ?_
  refine jn6_walk (fun (T_241 : xT) (I_241 : xI) (R_241 : xR) (k_241 : Nat) (n_241 : Nat) (y0_241 : Int) => tle T T_241 → k_241 ≤ 7 → n_241 ≤ 35 → GX E X T_241 I_241 R_241 L k_241 n_241 241 [some (aR (some o)), some (aI x1)] [aI y0_241]) hw (fun T_241 I_241 R_241 k_241 n_241 y0_241 hw => ?_) (fun J_241 hj_241 hw => ?_)
  · intro hl_241 hkc_241 hnc_241; intro hok
    exact gx_iret hE hR dX0_account_241 (show k_241 ≤ 7 by omega) (show n_241 ≤ 35 by omega) rfl ⟨_, rfl, rfl, hl_241, hw⟩ hok
  · skip
    refine jn0_walk (GX E X T I R L 0 0 174 [some (aR (some o)), some (aI x1)] []) hw (fun  hw => ?_) (fun J_174 hj_174 hw => ?_)
    · intro hok
      refine g_aldn0 hE1 dX0_account_174 ?_
      obtain ⟨ht1, hw⟩ := hw
      refine gx_getr hE in_X0 (t := 1) rfl (by decide) 0 0 rfl (by decide) rfl (by decide) rfl q353 (Or.inl rfl) ht1 dX0_account_175 ?_ hok
      intro hok
      obtain ⟨b2, hb3, hw⟩ := hw
      rw [hb3]
      obtain ⟨ht4, hw⟩ := hw
      refine gx_getrN hE in_X1 (t := 2) rfl (by decide) 2 2 rfl (by decide) rfl (by decide) rfl q227 (Or.inl rfl) ht4 dX0_account_178 ?_ hok
      intro hok
      refine g_ildn1 hE1 dX0_account_181 ?_
      refine g_bipush hE1 dX0_account_182 (by decide) ?_
      refine g_isub hE1 dX0_account_184 ?_
      obtain ⟨b5, hb6, hw⟩ := hw
      rw [hb6]
      obtain ⟨ht7, hw⟩ := hw
      obtain ⟨h8, h9, hw⟩ := hw
      refine gx_iald hE ht7 h8 h9 dX0_account_185 ?_ hok
      intro hok
      refine g_goto hE1 (tgt := 241) dX0_account_186 (by decide) ?_
      exact hj_241 _ _ _ _ _ _ hw tle.rf (by omega) (by omega) hok
    · skip
      obtain ⟨h10, h11, h21, h49, h59, h69, h79, h89, h94, h95, h96, h97, h104, h109, h119, h126, h133⟩ := hw
      refine g_table hE1 dX0_account_1 h10 239 (by decide) [76, 89, 118, 129, 140, 151, 164, 174, 174, 174, 189, 199, 209, 219, 229] (by decide) (by decide) (fun q => ?_) (fun i t hi he => ?_)
      · have hw := h11 q
        refine g_bipush hE1 dX0_account_239 (by decide) ?_
        exact hj_241 _ _ _ _ _ _ hw tle.rf (by omega) (by omega) hok
      rcases i with _ | i
      · obtain rfl : 76 = t := Option.some.inj hi
        have hw := h21 (by omega)
        refine g_aldn0 hE1 dX0_account_76 ?_
        obtain ⟨ht12, hw⟩ := hw
        refine gx_getr hE in_X0 (t := 1) rfl (by decide) 0 0 rfl (by decide) rfl (by decide) rfl q353 (Or.inl rfl) ht12 dX0_account_77 ?_ hok
        intro hok
        obtain ⟨b13, hb14, hw⟩ := hw
        rw [hb14]
        obtain ⟨ht15, hw⟩ := hw
        refine gx_getrN hE in_X1 (t := 2) rfl (by decide) 1 1 rfl (by decide) rfl (by decide) rfl q225 (Or.inl rfl) ht15 dX0_account_80 ?_ hok
        intro hok
        obtain ⟨b16, hb17, hw⟩ := hw
        rw [hb17]
        obtain ⟨ht18, hw⟩ := hw
        refine gx_callV hE hRm (As := []) ht18 (by decide) (by decide) rfl hx_J4_size (tx_J4_size X hw) (lw_V q1312 q541 q2594 q100 q542) ⟨by decide, by decide⟩ ⟨(by decide), (by decide)⟩ rfl (Nat.le_of_ble_eq_true rfl) dX0_account_83 rfl (fun r9 Tz Iz Rz Lz hΦ => ?_) hok
        obtain ⟨r19, rfl, rfl, rfl, rfl, rfl, hw⟩ := hΦ
        show GX E X T I R L 0 0 86 [some (aR (some o)), some (aI x1)] [aI r19]
        intro hok
        refine g_goto hE1 (tgt := 241) dX0_account_86 (by decide) ?_
        exact hj_241 _ _ _ _ _ _ hw tle.rf (by omega) (by omega) hok
      rcases i with _ | i
      · obtain rfl : 89 = t := Option.some.inj hi
        have hw := h49 (by omega)
        refine g_aldn0 hE1 dX0_account_89 ?_
        obtain ⟨ht22, hw⟩ := hw
        refine gx_getr hE in_X0 (t := 1) rfl (by decide) 0 0 rfl (by decide) rfl (by decide) rfl q353 (Or.inl rfl) ht22 dX0_account_90 ?_ hok
        intro hok
        refine g_iconst hE1 dX0_account_93 ?_
        obtain ⟨b23, hb24, hw⟩ := hw
        rw [hb24]
        obtain ⟨ht25, hw⟩ := hw
        refine gx_callV hE hRm (As := [aI 0]) ht25 (by decide) (by decide) rfl hx_X1_many (tx_X1_many X hw) (lw_V q2090 q1356 q1357 q95 q1358) ⟨by decide, by decide⟩ ⟨(by decide), (by decide)⟩ rfl (Nat.le_of_ble_eq_true rfl) dX0_account_94 rfl (fun r9 T27 I28 R29 Lz hΦ => ?_) hok
        obtain ⟨r26, rfl, rfl, hl30, hw⟩ := hΦ
        have hw := hw hl30
        show GX E X T27 I28 R29 L 1 5 97 [some (aR (some o)), some (aI x1)] [aI r26]
        intro hok
        refine g_aldn0 hE1 dX0_account_97 ?_
        have ht31 := hl30.tag ht22 (by decide)
        refine gx_getr hE in_X0 (t := 1) rfl (by decide) 0 0 rfl (by decide) rfl (by decide) rfl q353 (Or.inl rfl) ht31 dX0_account_98 ?_ hok
        intro hok
        refine g_iconst hE1 dX0_account_101 ?_
        obtain ⟨b32, hb33, hw⟩ := hw
        rw [hb33]
        obtain ⟨ht34, hw⟩ := hw
        refine gx_callV hE hRm (As := [aI 1]) ht34 (by decide) (by decide) rfl hx_X1_many (tx_X1_many X hw) (lw_V q2090 q1356 q1357 q95 q1358) ⟨by decide, by decide⟩ ⟨(by decide), (by decide)⟩ rfl (Nat.le_of_ble_eq_true rfl) dX0_account_102 rfl (fun r9 T36 I37 R38 Lz hΦ => ?_) hok
        obtain ⟨r35, rfl, rfl, hl39, hw⟩ := hΦ
        have hw := hw hl39
        show GX E X T36 I37 R38 L 2 10 105 [some (aR (some o)), some (aI x1)] [aI r35, aI r26]
        intro hok
        refine g_iadd hE1 dX0_account_105 ?_
        refine g_aldn0 hE1 dX0_account_106 ?_
        have ht40 := (hl30.tr hl39).tag ht22 (by decide)
        refine gx_getr hE in_X0 (t := 1) rfl (by decide) 0 0 rfl (by decide) rfl (by decide) rfl q353 (Or.inl rfl) ht40 dX0_account_107 ?_ hok
        intro hok
        refine g_iconst hE1 dX0_account_110 ?_
        obtain ⟨b41, hb42, hw⟩ := hw
        rw [hb42]
        obtain ⟨ht43, hw⟩ := hw
        refine gx_callV hE hRm (As := [aI 2]) ht43 (by decide) (by decide) rfl hx_X1_many (tx_X1_many X hw) (lw_V q2090 q1356 q1357 q95 q1358) ⟨by decide, by decide⟩ ⟨(by decide), (by decide)⟩ rfl (Nat.le_of_ble_eq_true rfl) dX0_account_111 rfl (fun r9 T45 I46 R47 Lz hΦ => ?_) hok
        obtain ⟨r44, rfl, rfl, hl48, hw⟩ := hΦ
        have hw := hw hl48
        show GX E X T45 I46 R47 L 3 15 114 [some (aR (some o)), some (aI x1)] [aI r44, aI (r26 + r35)]
        intro hok
        refine g_iadd hE1 dX0_account_114 ?_
        refine g_goto hE1 (tgt := 241) dX0_account_115 (by decide) ?_
        exact hj_241 _ _ _ _ _ _ hw ((hl30.tr hl39).tr hl48) (by omega) (by omega) hok
      rcases i with _ | i
      · obtain rfl : 118 = t := Option.some.inj hi
        have hw := h59 (by omega)
        refine g_aldn0 hE1 dX0_account_118 ?_
        obtain ⟨ht50, hw⟩ := hw
        refine gx_getr hE in_X0 (t := 1) rfl (by decide) 0 0 rfl (by decide) rfl (by decide) rfl q353 (Or.inl rfl) ht50 dX0_account_119 ?_ hok
        intro hok
        refine g_iconst hE1 dX0_account_122 ?_
        obtain ⟨b51, hb52, hw⟩ := hw
        rw [hb52]
        obtain ⟨ht53, hw⟩ := hw
        refine gx_callV hE hRm (As := [aI 0]) ht53 (by decide) (by decide) rfl hx_X1_many (tx_X1_many X hw) (lw_V q2090 q1356 q1357 q95 q1358) ⟨by decide, by decide⟩ ⟨(by decide), (by decide)⟩ rfl (Nat.le_of_ble_eq_true rfl) dX0_account_123 rfl (fun r9 T55 I56 R57 Lz hΦ => ?_) hok
        obtain ⟨r54, rfl, rfl, hl58, hw⟩ := hΦ
        have hw := hw hl58
        show GX E X T55 I56 R57 L 1 5 126 [some (aR (some o)), some (aI x1)] [aI r54]
        intro hok
        refine g_goto hE1 (tgt := 241) dX0_account_126 (by decide) ?_
        exact hj_241 _ _ _ _ _ _ hw hl58 (by omega) (by omega) hok
      rcases i with _ | i
      · obtain rfl : 129 = t := Option.some.inj hi
        have hw := h69 (by omega)
        refine g_aldn0 hE1 dX0_account_129 ?_
        obtain ⟨ht60, hw⟩ := hw
        refine gx_getr hE in_X0 (t := 1) rfl (by decide) 0 0 rfl (by decide) rfl (by decide) rfl q353 (Or.inl rfl) ht60 dX0_account_130 ?_ hok
        intro hok
        refine g_iconst hE1 dX0_account_133 ?_
        obtain ⟨b61, hb62, hw⟩ := hw
        rw [hb62]
        obtain ⟨ht63, hw⟩ := hw
        refine gx_callV hE hRm (As := [aI 1]) ht63 (by decide) (by decide) rfl hx_X1_many (tx_X1_many X hw) (lw_V q2090 q1356 q1357 q95 q1358) ⟨by decide, by decide⟩ ⟨(by decide), (by decide)⟩ rfl (Nat.le_of_ble_eq_true rfl) dX0_account_134 rfl (fun r9 T65 I66 R67 Lz hΦ => ?_) hok
        obtain ⟨r64, rfl, rfl, hl68, hw⟩ := hΦ
        have hw := hw hl68
        show GX E X T65 I66 R67 L 1 5 137 [some (aR (some o)), some (aI x1)] [aI r64]
        intro hok
        refine g_goto hE1 (tgt := 241) dX0_account_137 (by decide) ?_
        exact hj_241 _ _ _ _ _ _ hw hl68 (by omega) (by omega) hok
      rcases i with _ | i
      · obtain rfl : 140 = t := Option.some.inj hi
        have hw := h79 (by omega)
        refine g_aldn0 hE1 dX0_account_140 ?_
        obtain ⟨ht70, hw⟩ := hw
        refine gx_getr hE in_X0 (t := 1) rfl (by decide) 0 0 rfl (by decide) rfl (by decide) rfl q353 (Or.inl rfl) ht70 dX0_account_141 ?_ hok
        intro hok
        refine g_iconst hE1 dX0_account_144 ?_
        obtain ⟨b71, hb72, hw⟩ := hw
        rw [hb72]
        obtain ⟨ht73, hw⟩ := hw
        refine gx_callV hE hRm (As := [aI 2]) ht73 (by decide) (by decide) rfl hx_X1_many (tx_X1_many X hw) (lw_V q2090 q1356 q1357 q95 q1358) ⟨by decide, by decide⟩ ⟨(by decide), (by decide)⟩ rfl (Nat.le_of_ble_eq_true rfl) dX0_account_145 rfl (fun r9 T75 I76 R77 Lz hΦ => ?_) hok
        obtain ⟨r74, rfl, rfl, hl78, hw⟩ := hΦ
        have hw := hw hl78
        show GX E X T75 I76 R77 L 1 5 148 [some (aR (some o)), some (aI x1)] [aI r74]
        intro hok
        refine g_goto hE1 (tgt := 241) dX0_account_148 (by decide) ?_
        exact hj_241 _ _ _ _ _ _ hw hl78 (by omega) (by omega) hok
      rcases i with _ | i
      · obtain rfl : 151 = t := Option.some.inj hi
        have hw := h89 (by omega)
        refine g_aldn0 hE1 dX0_account_151 ?_
        obtain ⟨ht80, hw⟩ := hw
        refine gx_getr hE in_X0 (t := 1) rfl (by decide) 0 0 rfl (by decide) rfl (by decide) rfl q353 (Or.inl rfl) ht80 dX0_account_152 ?_ hok
        intro hok
        obtain ⟨b81, hb82, hw⟩ := hw
        rw [hb82]
        obtain ⟨ht83, hw⟩ := hw
        refine gx_getrN hE in_X1 (t := 2) rfl (by decide) 0 0 rfl (by decide) rfl (by decide) rfl q222 (Or.inl rfl) ht83 dX0_account_155 ?_ hok
        intro hok
        obtain ⟨b84, hb85, hw⟩ := hw
        rw [hb85]
        obtain ⟨ht86, hw⟩ := hw
        refine gx_callV hE hRm (As := []) ht86 (by decide) (by decide) rfl hx_J0_cardinality (tx_J0_cardinality X hw) (lw_V q2091 q1154 q1155 q96 q1156) ⟨by decide, by decide⟩ ⟨(by decide), (by decide)⟩ rfl (Nat.le_of_ble_eq_true rfl) dX0_account_158 rfl (fun r9 Tz Iz Rz Lz hΦ => ?_) hok
        obtain ⟨r87, rfl, rfl, rfl, rfl, rfl, hw⟩ := hΦ
        show GX E X T I R L 0 0 161 [some (aR (some o)), some (aI x1)] [aI r87]
        intro hok
        refine g_goto hE1 (tgt := 241) dX0_account_161 (by decide) ?_
        exact hj_241 _ _ _ _ _ _ hw tle.rf (by omega) (by omega) hok
      rcases i with _ | i
      · obtain rfl : 164 = t := Option.some.inj hi
        have hw := h94 (by omega)
        refine g_aldn0 hE1 dX0_account_164 ?_
        obtain ⟨ht90, hw⟩ := hw
        refine gx_getr hE in_X0 (t := 1) rfl (by decide) 0 0 rfl (by decide) rfl (by decide) rfl q353 (Or.inl rfl) ht90 dX0_account_165 ?_ hok
        intro hok
        obtain ⟨b91, hb92, hw⟩ := hw
        rw [hb92]
        obtain ⟨ht93, hw⟩ := hw
        refine gx_getiN hE in_X1 (t := 2) rfl (by decide) 4 4 rfl (by decide) rfl (by decide) rfl q233 (Or.inl rfl) ht93 dX0_account_168 ?_ hok
        intro hok
        refine g_goto hE1 (tgt := 241) dX0_account_171 (by decide) ?_
        exact hj_241 _ _ _ _ _ _ hw tle.rf (by omega) (by omega) hok
      rcases i with _ | i
      · obtain rfl : 174 = t := Option.some.inj hi
        have hw := h95 (by omega)
        exact hj_174  hw hok
      rcases i with _ | i
      · obtain rfl : 174 = t := Option.some.inj hi
        have hw := h96 (by omega)
        exact hj_174  hw hok
      rcases i with _ | i
      · obtain rfl : 174 = t := Option.some.inj hi
        have hw := h97 (by omega)
        exact hj_174  hw hok
      rcases i with _ | i
      · obtain rfl : 189 = t := Option.some.inj hi
        have hw := h104 (by omega)
        refine g_aldn0 hE1 dX0_account_189 ?_
        obtain ⟨ht98, hw⟩ := hw
        refine gx_getr hE in_X0 (t := 1) rfl (by decide) 0 0 rfl (by decide) rfl (by decide) rfl q353 (Or.inl rfl) ht98 dX0_account_190 ?_ hok
        intro hok
        obtain ⟨b99, hb100, hw⟩ := hw
        rw [hb100]
        obtain ⟨ht101, hw⟩ := hw
        refine gx_callV hE hRm (As := []) ht101 (by decide) (by decide) rfl hx_X1_errorsInAll (tx_X1_errorsInAll X hw) (lw_V q2092 q2093 q2094 q95 q2095) ⟨by decide, by decide⟩ ⟨(by decide), (by decide)⟩ rfl (Nat.le_of_ble_eq_true rfl) dX0_account_193 rfl (fun r9 Tz Iz Rz Lz hΦ => ?_) hok
        obtain ⟨r102, rfl, rfl, rfl, rfl, rfl, hw⟩ := hΦ
        show GX E X T I R L 0 0 196 [some (aR (some o)), some (aI x1)] [aI r102]
        intro hok
        refine g_goto hE1 (tgt := 241) dX0_account_196 (by decide) ?_
        exact hj_241 _ _ _ _ _ _ hw tle.rf (by omega) (by omega) hok
      rcases i with _ | i
      · obtain rfl : 199 = t := Option.some.inj hi
        have hw := h109 (by omega)
        refine g_aldn0 hE1 dX0_account_199 ?_
        obtain ⟨ht105, hw⟩ := hw
        refine gx_getr hE in_X0 (t := 1) rfl (by decide) 0 0 rfl (by decide) rfl (by decide) rfl q353 (Or.inl rfl) ht105 dX0_account_200 ?_ hok
        intro hok
        obtain ⟨b106, hb107, hw⟩ := hw
        rw [hb107]
        obtain ⟨ht108, hw⟩ := hw
        refine gx_getiN hE in_X1 (t := 2) rfl (by decide) 5 5 rfl (by decide) rfl (by decide) rfl q235 (Or.inl rfl) ht108 dX0_account_203 ?_ hok
        intro hok
        refine g_goto hE1 (tgt := 241) dX0_account_206 (by decide) ?_
        exact hj_241 _ _ _ _ _ _ hw tle.rf (by omega) (by omega) hok
      rcases i with _ | i
      · obtain rfl : 209 = t := Option.some.inj hi
        have hw := h119 (by omega)
        refine g_aldn0 hE1 dX0_account_209 ?_
        obtain ⟨ht110, hw⟩ := hw
        refine gx_getr hE in_X0 (t := 1) rfl (by decide) 0 0 rfl (by decide) rfl (by decide) rfl q353 (Or.inl rfl) ht110 dX0_account_210 ?_ hok
        intro hok
        obtain ⟨b111, hb112, hw⟩ := hw
        rw [hb112]
        obtain ⟨ht113, hw⟩ := hw
        refine gx_callV hE hRm (As := []) ht113 (by decide) (by decide) rfl hx_X1_fades (tx_X1_fades X hw) (lw_V q2096 q2097 q2098 q95 q2099) ⟨by decide, by decide⟩ ⟨(by decide), (by decide)⟩ rfl (Nat.le_of_ble_eq_true rfl) dX0_account_213 rfl (fun r9 T115 I116 R117 Lz hΦ => ?_) hok
        obtain ⟨r114, rfl, rfl, hl118, hw⟩ := hΦ
        have hw := hw hl118
        show GX E X T115 I116 R117 L 1 5 216 [some (aR (some o)), some (aI x1)] [aI r114]
        intro hok
        refine g_goto hE1 (tgt := 241) dX0_account_216 (by decide) ?_
        exact hj_241 _ _ _ _ _ _ hw hl118 (by omega) (by omega) hok
      rcases i with _ | i
      · obtain rfl : 219 = t := Option.some.inj hi
        have hw := h126 (by omega)
        refine g_aldn0 hE1 dX0_account_219 ?_
        obtain ⟨ht120, hw⟩ := hw
        refine gx_getr hE in_X0 (t := 1) rfl (by decide) 8 8 rfl (by decide) rfl (by decide) rfl q361 (Or.inl rfl) ht120 dX0_account_220 ?_ hok
        intro hok
        obtain ⟨b121, hb122, hw⟩ := hw
        rw [hb122]
        obtain ⟨ht123, hw⟩ := hw
        refine gx_callV hE hRm (As := []) ht123 (by decide) (by decide) rfl hx_J7_length (tx_J7_length X hw) (lw_V q1592 q850 q2596 q105 q851) ⟨by decide, by decide⟩ ⟨(by decide), (by decide)⟩ rfl (Nat.le_of_ble_eq_true rfl) dX0_account_223 rfl (fun r9 Tz Iz Rz Lz hΦ => ?_) hok
        obtain ⟨r124, rfl, rfl, rfl, rfl, rfl, hw⟩ := hΦ
        show GX E X T I R L 0 0 226 [some (aR (some o)), some (aI x1)] [aI r124]
        intro hok
        refine g_goto hE1 (tgt := 241) dX0_account_226 (by decide) ?_
        exact hj_241 _ _ _ _ _ _ hw tle.rf (by omega) (by omega) hok
      rcases i with _ | i
      · obtain rfl : 229 = t := Option.some.inj hi
        have hw := h133 (by omega)
        refine g_aldn0 hE1 dX0_account_229 ?_
        obtain ⟨ht127, hw⟩ := hw
        refine gx_getr hE in_X0 (t := 1) rfl (by decide) 2 2 rfl (by decide) rfl (by decide) rfl q355 (Or.inl rfl) ht127 dX0_account_230 ?_ hok
        intro hok
        obtain ⟨b128, hb129, hw⟩ := hw
        rw [hb129]
        obtain ⟨ht130, hw⟩ := hw
        refine gx_callV hE hRm (As := []) ht130 (by decide) (by decide) rfl hx_J5_size (tx_J5_size X hw) (lw_V q1186 q1187 q1188 q101 q1189) ⟨by decide, by decide⟩ ⟨(by decide), (by decide)⟩ rfl (Nat.le_of_ble_eq_true rfl) dX0_account_233 rfl (fun r9 Tz Iz Rz Lz hΦ => ?_) hok
        obtain ⟨r131, rfl, rfl, rfl, rfl, rfl, hw⟩ := hΦ
        show GX E X T I R L 0 0 236 [some (aR (some o)), some (aI x1)] [aI r131]
        intro hok
        refine g_goto hE1 (tgt := 241) dX0_account_236 (by decide) ?_
        exact hj_241 _ _ _ _ _ _ hw tle.rf (by omega) (by omega) hok
      exact absurd hi (by simp)

/-- java/util/ArrayDeque.isEmpty()Z -/
def wx_J5_isEmpty (X : XT) (o : Nat)  (T : xT) (I : xI) (R : xR) (L : xL) (Q : Int → Prop) : Prop :=
  xtag T o = 5 ∧
  jn1 (fun (y0_16 : Int) => 
      bl y0_16 ∧ Q y0_16)
    (fun (J_16 : Int → Prop) =>
    cEq (I o 1) (I o 2)
      (
      J_16 1)
      (
      J_16 0))
theorem hx_J5_isEmpty : yJ5_isEmpty.cls = RJ5 ∧ yJ5_isEmpty.cls ≠ "java/lang/invoke/MethodHandle" ∧ yJ5_isEmpty.cls ≠ "java/lang/invoke/VarHandle" ∧ (parseMethodDescriptor yJ5_isEmpty.desc).map (fun d => d.parameters.length) = some 0 := by decide +kernel
set_option maxHeartbeats 4000000 in
theorem tx_J5_isEmpty (X : XT) {o : Nat}  {T : xT} {I : xI} {R : xR} {L : xL} {Q : Int → Prop} (hw : wx_J5_isEmpty X o T I R L Q) : CtX X yJ5_isEmpty cJ5_isEmpty 1 (some .boolean) (rmX 0 0 0 0) [aR (some o)] T I R L (PXi T I R L Q) := by
  refine CtX.intro (by decide) (Nat.le_of_ble_eq_true rfl) (fun E hE hR hN => ?_)
  have hRm := hR.rm
  have hE : OkX E X RJ5 cJ5_isEmpty 1 (some .boolean) := hE
  have hE1 := hE.1
  show GX E X T I R L 0 0 0 [some (aR (some o))] []
  unfold wx_J5_isEmpty at hw
  intro hok
  refine g_aldn0 hE1 dJ5_isEmpty_0 ?_
  obtain ⟨ht1, hw⟩ := hw
  refine gx_geti hE in_J5 (t := 5) rfl (by decide) 1 1 rfl (by decide) rfl (by decide) rfl q259 (Or.inl rfl) ht1 dJ5_isEmpty_1 ?_ hok
  intro hok
  refine g_aldn0 hE1 dJ5_isEmpty_4 ?_
  refine gx_geti hE in_J5 (t := 5) rfl (by decide) 2 2 rfl (by decide) rfl (by decide) rfl q260 (Or.inl rfl) ht1 dJ5_isEmpty_5 ?_ hok
  intro hok
  refine jn1_walk (fun (y0_16 : Int) => GX E X T I R L 0 0 16 [some (aR (some o))] [aI y0_16]) hw (fun y0_16 hw => ?_) (fun J_16 hj_16 hw => ?_)
  · intro hok
    obtain ⟨h2, hw⟩ := hw
    exact gx_iret hE hR dJ5_isEmpty_16 (by decide) (by decide) (narrow_bl h2) ⟨_, rfl, rfl, rfl, rfl, rfl, hw⟩ hok
  · skip
    obtain ⟨h3, h4, hT5, hN6⟩ := hw
    refine g_icmp_ne hE1 (tgt := 15) dJ5_isEmpty_8 (by decide) h3 h4 (fun q => ?_) (fun q => ?_)
    · have hw := hT5 q
      refine g_iconst hE1 dJ5_isEmpty_11 ?_
      refine g_goto hE1 (tgt := 16) dJ5_isEmpty_12 (by decide) ?_
      exact hj_16 _ hw hok
    · have hw := hN6 q
      refine g_iconst hE1 dJ5_isEmpty_15 ?_
      exact hj_16 _ hw hok

/-- java/util/ArrayDeque.dec(II)I -/
def wx_J5_dec (X : XT) (x0 : Int) (x1 : Int) (T : xT) (I : xI) (R : xR) (L : xL) (Q : Int → Prop) : Prop :=
  jn1 (fun (x0_11 : Int) => 
      Q x0_11)
    (fun (J_11 : Int → Prop) =>
    cLt (x0 + (-1)) 0
      (
      J_11 (x1 - 1))
      (
      J_11 (x0 + (-1))))
theorem hx_J5_dec : yJ5_dec.cls ≠ "java/lang/invoke/MethodHandle" ∧ yJ5_dec.cls ≠ "java/lang/invoke/VarHandle" ∧ (parseMethodDescriptor yJ5_dec.desc).map (fun d => d.parameters.length) = some 2 := by decide +kernel
set_option maxHeartbeats 4000000 in
theorem tx_J5_dec (X : XT) {x0 : Int} {x1 : Int} {T : xT} {I : xI} {R : xR} {L : xL} {Q : Int → Prop} (hw : wx_J5_dec X x0 x1 T I R L Q) : CtX X yJ5_dec cJ5_dec 2 (some .int) (rmX 0 0 0 0) [aI x0, aI x1] T I R L (PXi T I R L Q) := by
  refine CtX.intro (by decide) (Nat.le_of_ble_eq_true rfl) (fun E hE hR hN => ?_)
  have hRm := hR.rm
  have hE : OkX E X RJ5 cJ5_dec 2 (some .int) := hE
  have hE1 := hE.1
  show GX E X T I R L 0 0 0 [some (aI x0), some (aI x1)] []
  unfold wx_J5_dec at hw
  intro hok
  refine g_iinc0 hE1 dJ5_dec_0 (by decide) rfl ?_
  refine g_ildn0 hE1 dJ5_dec_3 ?_
  refine jn1_walk (fun (x0_11 : Int) => GX E X T I R L 0 0 11 [some (aI x0_11), some (aI x1)] []) hw (fun x0_11 hw => ?_) (fun J_11 hj_11 hw => ?_)
  · intro hok
    refine g_ildn0 hE1 dJ5_dec_11 ?_
    exact gx_iret hE hR dJ5_dec_12 (by decide) (by decide) rfl ⟨_, rfl, rfl, rfl, rfl, rfl, hw⟩ hok
  · skip
    obtain ⟨h1, h2, hT3, hN4⟩ := hw
    refine g_if_ge hE1 (tgt := 11) dJ5_dec_4 (by decide) h1 (fun q => ?_) (fun q => ?_)
    · have hw := hT3 q
      refine g_ildn1 hE1 dJ5_dec_7 ?_
      refine g_iconst hE1 dJ5_dec_8 ?_
      refine g_isub hE1 dJ5_dec_9 ?_
      refine g_istn0 hE1 dJ5_dec_10 (by decide) rfl ?_
      exact hj_11 _ hw hok
    · have hw := hN4 q
      exact hj_11 _ hw hok

/-- java/util/ArrayDeque.pollLast()Ljava/lang/Object; -/
def wx_J5_pollLast (X : XT) (o : Nat)  (T : xT) (I : xI) (R : xR) (L : xL) (Q : Option Nat → xI → xR → Prop) : Prop :=
  xtag T o = 5 ∧
  ∃ b2 : Nat, R o 0 = some b2 ∧ xtag T b2 = 103 ∧
  wx_J5_dec X (I o 2) (xlen T b2 : Int) T I R L (fun (r5 : Int) => 
  wx_J5_elementAt X (some b2) r5 T I R L (fun (r7 : Option Nat) => 
  jn2 (fun (I_34 : xI) (R_34 : xR) => 
      Q r7 I_34 R_34)
    (fun (J_34 : xI → xR → Prop) =>
    (r7 = none →
      J_34 I R) ∧
    (∀ b9 : Nat, r7 = some b9 →
      ∀ I11 : xI, I11 = uI I o 2 r5 →
      ib r5 (xlen T b2) ∧ xlen T b2 < 2147483648 ∧ ∀ R14 : xR, R14 = uR R b2 r5 none →
      J_34 I11 R14))))
theorem hx_J5_pollLast : yJ5_pollLast.cls = RJ5 ∧ yJ5_pollLast.cls ≠ "java/lang/invoke/MethodHandle" ∧ yJ5_pollLast.cls ≠ "java/lang/invoke/VarHandle" ∧ (parseMethodDescriptor yJ5_pollLast.desc).map (fun d => d.parameters.length) = some 0 := by decide +kernel
set_option maxHeartbeats 4000000 in
theorem tx_J5_pollLast (X : XT) {o : Nat}  {T : xT} {I : xI} {R : xR} {L : xL} {Q : Option Nat → xI → xR → Prop} (hw : wx_J5_pollLast X o T I R L Q) : CtX X yJ5_pollLast cJ5_pollLast 4 (some (.object "java/lang/Object")) (rmX 1 0 0 21) [aR (some o)] T I R L (PXqIR T I R L Q) := by
  refine CtX.intro (by decide) (Nat.le_of_ble_eq_true rfl) (fun E hE hR hN => ?_)
  have hRm := hR.rm
  have hE : OkX E X RJ5 cJ5_pollLast 4 (some (.object "java/lang/Object")) := hE
  have hE1 := hE.1
  show GX E X T I R L 0 0 0 [some (aR (some o)), none, none, none] []
  unfold wx_J5_pollLast at hw
  intro hok
  refine g_aldn0 hE1 dJ5_pollLast_0 ?_
  obtain ⟨ht1, hw⟩ := hw
  refine gx_getr hE in_J5 (t := 5) rfl (by decide) 0 0 rfl (by decide) rfl (by decide) rfl q258 (Or.inl rfl) ht1 dJ5_pollLast_1 ?_ hok
  intro hok
  refine g_dup hE1 dJ5_pollLast_4 rfl ?_
  refine g_astn1 hE1 dJ5_pollLast_5 (by decide) rfl ?_
  refine g_aldn0 hE1 dJ5_pollLast_6 ?_
  refine gx_geti hE in_J5 (t := 5) rfl (by decide) 2 2 rfl (by decide) rfl (by decide) rfl q260 (Or.inl rfl) ht1 dJ5_pollLast_7 ?_ hok
  intro hok
  refine g_aldn1 hE1 dJ5_pollLast_10 ?_
  obtain ⟨b2, hb3, hw⟩ := hw
  rw [hb3]
  obtain ⟨ht4, hw⟩ := hw
  refine gx_alen hE ht4 (by decide) dJ5_pollLast_11 ?_ hok
  intro hok
  refine gx_callS hE hRm (As := [aI (I o 2), aI (xlen T b2 : Int)]) hx_J5_dec (tx_J5_dec X hw) (lw_S q2116 q2117 q101 q2118) ⟨by decide, by decide⟩ ⟨(by decide), (by decide)⟩ rfl (Nat.le_of_ble_eq_true rfl) dJ5_pollLast_12 rfl (fun r9 Tz Iz Rz Lz hΦ => ?_) hok
  obtain ⟨r5, rfl, rfl, rfl, rfl, rfl, hw⟩ := hΦ
  show GX E X T I R L 0 0 15 [some (aR (some o)), some (aR (some b2)), none, none] [aI r5, aR (some b2)]
  intro hok
  refine g_dup hE1 dJ5_pollLast_15 rfl ?_
  refine g_istn2 hE1 dJ5_pollLast_16 (by decide) rfl ?_
  refine gx_callS hE hRm (As := [aR (some b2), aI r5]) hx_J5_elementAt (tx_J5_elementAt X hw) (lw_S q1201 q1202 q101 q1203) ⟨by decide, by decide⟩ ⟨(by decide), (by decide)⟩ rfl (Nat.le_of_ble_eq_true rfl) dJ5_pollLast_17 rfl (fun r9 Tz Iz Rz Lz hΦ => ?_) hok
  obtain ⟨r7, rfl, rfl, rfl, rfl, rfl, hw⟩ := hΦ
  show GX E X T I R L 0 0 20 [some (aR (some o)), some (aR (some b2)), some (aI r5), none] [aR r7]
  intro hok
  refine g_astn3 hE1 dJ5_pollLast_20 (by decide) rfl ?_
  refine g_aldn3 hE1 dJ5_pollLast_21 ?_
  refine jn2_walk (fun (I_34 : xI) (R_34 : xR) => GX E X T I_34 R_34 L 0 0 34 [some (aR (some o)), some (aR (some b2)), some (aI r5), some (aR r7)] []) hw (fun I_34 R_34 hw => ?_) (fun J_34 hj_34 hw => ?_)
  · intro hok
    refine g_aldn3 hE1 dJ5_pollLast_34 ?_
    exact gx_aret hE hR dJ5_pollLast_35 (by decide) (by decide) (Or.inl ⟨_, rfl⟩) ⟨_, rfl, rfl, rfl, hw⟩ hok
  · skip
    refine g_ifnull hE1 (tgt := 34) dJ5_pollLast_22 (by decide) (fun q => ?_) (fun b9 hb10 => ?_)
    · have hw := hw.1 q
      exact hj_34 _ _ hw hok
    · have hw := hw.2 b9 hb10
      rw [hb10]
      refine g_aldn1 hE1 dJ5_pollLast_25 ?_
      refine g_aldn0 hE1 dJ5_pollLast_26 ?_
      refine g_ildn2 hE1 dJ5_pollLast_27 ?_
      refine g_dup_x1 hE1 dJ5_pollLast_28 rfl rfl ?_
      refine gx_puti hE in_J5 (t := 5) rfl (by decide) 2 2 rfl (by decide) rfl (by decide) (ty := tyJ5 2) tyJ5 tyJ5_ok nmJ5 rfl q260 (Or.inl rfl) rfl (tyJ5_ok 2 (by decide)) rfl rfl ht1 dJ5_pollLast_29 ?_ hok
      intro hok
      have hw := hw _ rfl
      generalize uI I o 2 r5 = I11 at hw hok ⊢
      refine g_null hE1 dJ5_pollLast_32 ?_
      obtain ⟨h12, h13, hw⟩ := hw
      refine gx_aastN hE ht4 (by decide) h12 h13 dJ5_pollLast_33 ?_ hok
      intro hok
      have hw := hw _ rfl
      generalize uR R b2 r5 none = R14 at hw hok ⊢
      simpa only [hb3, hb10] using hj_34 _ _ hw hok

/-- java/util/ArrayDeque.removeLast()Ljava/lang/Object; -/
def wx_J5_removeLast (X : XT) (o : Nat)  (T : xT) (I : xI) (R : xR) (L : xL) (Q : Option Nat → xI → xR → Prop) : Prop :=
  xtag T o = 5 ∧ wx_J5_pollLast X o T I R L (fun (r2 : Option Nat) (I3 : xI) (R4 : xR) => 
  (r2 = none →
    False) ∧
  (∀ b6 : Nat, r2 = some b6 →
    Q (some b6) I3 R4))
theorem hx_J5_removeLast : yJ5_removeLast.cls = RJ5 ∧ yJ5_removeLast.cls ≠ "java/lang/invoke/MethodHandle" ∧ yJ5_removeLast.cls ≠ "java/lang/invoke/VarHandle" ∧ (parseMethodDescriptor yJ5_removeLast.desc).map (fun d => d.parameters.length) = some 0 := by decide +kernel
set_option maxHeartbeats 4000000 in
theorem tx_J5_removeLast (X : XT) {o : Nat}  {T : xT} {I : xI} {R : xR} {L : xL} {Q : Option Nat → xI → xR → Prop} (hw : wx_J5_removeLast X o T I R L Q) : CtX X yJ5_removeLast cJ5_removeLast 2 (some (.object "java/lang/Object")) (rmX 2 0 0 44) [aR (some o)] T I R L (PXqIR T I R L Q) := by
  refine CtX.intro (by decide) (Nat.le_of_ble_eq_true rfl) (fun E hE hR hN => ?_)
  have hRm := hR.rm
  have hE : OkX E X RJ5 cJ5_removeLast 2 (some (.object "java/lang/Object")) := hE
  have hE1 := hE.1
  show GX E X T I R L 0 0 0 [some (aR (some o)), none] []
  unfold wx_J5_removeLast at hw
  intro hok
  refine g_aldn0 hE1 dJ5_removeLast_0 ?_
  obtain ⟨ht1, hw⟩ := hw
  refine gx_callV hE hRm (As := []) ht1 (by decide) (by decide) rfl hx_J5_pollLast (tx_J5_pollLast X hw) (lw_V q2112 q2113 q2114 q101 q2115) ⟨by decide, by decide⟩ ⟨(by decide), (by decide)⟩ rfl (Nat.le_of_ble_eq_true rfl) dJ5_removeLast_1 rfl (fun r9 Tz I3 R4 Lz hΦ => ?_) hok
  obtain ⟨r2, rfl, rfl, rfl, hw⟩ := hΦ
  show GX E X T I3 R4 L 0 0 4 [some (aR (some o)), none] [aR r2]
  intro hok
  refine g_astn1 hE1 dJ5_removeLast_4 (by decide) rfl ?_
  refine g_aldn1 hE1 dJ5_removeLast_5 ?_
  refine g_ifnonnull hE1 (tgt := 17) dJ5_removeLast_6 (by decide) (fun q => ?_) (fun b6 hb7 => ?_)
  · have hw := hw.1 q
    exact hw.elim
  · have hw := hw.2 b6 hb7
    rw [hb7]
    refine g_aldn1 hE1 dJ5_removeLast_17 ?_
    exact gx_aret hE hR dJ5_removeLast_18 (by decide) (by decide) (Or.inl ⟨_, rfl⟩) ⟨_, rfl, rfl, rfl, hw⟩ hok

/-- WhalingLogs.undo()I -/
def wx_X0_undo (X : XT) (o : Nat)  (T : xT) (I : xI) (R : xR) (L : xL) (Q : Int → xI → xR → Prop) : Prop :=
  xtag T o = 1 ∧
  ∃ b2 : Nat, R o 2 = some b2 ∧ xtag T b2 = 5 ∧ wx_J5_isEmpty X b2 T I R L (fun (r5 : Int) => 
  cEq r5 0
    (
    ∃ b7 : Nat, R o 2 = some b7 ∧ xtag T b7 = 5 ∧ wx_J5_removeLast X b7 T I R L (fun (r10 : Option Nat) (I11 : xI) (R12 : xR) => 
    ∃ b14 : Nat, r10 = some b14 ∧ xtag T b14 = 2 ∧
    ∀ R17 : xR, R17 = uR R12 o 0 (some b14) →
    ∃ b18 : Nat, R17 o 2 = some b18 ∧ xtag T b18 = 5 ∧ wx_J5_size X b18 T I11 R17 L (fun (r21 : Int) => 
    Q r21 I11 R17)))
    (
    Q (-5) I R))
theorem hx_X0_undo : yX0_undo.cls = RX0 ∧ yX0_undo.cls ≠ "java/lang/invoke/MethodHandle" ∧ yX0_undo.cls ≠ "java/lang/invoke/VarHandle" ∧ (parseMethodDescriptor yX0_undo.desc).map (fun d => d.parameters.length) = some 0 := by decide +kernel
set_option maxHeartbeats 4000000 in
theorem tx_X0_undo (X : XT) {o : Nat}  {T : xT} {I : xI} {R : xR} {L : xL} {Q : Int → xI → xR → Prop} (hw : wx_X0_undo X o T I R L Q) : CtX X yX0_undo cX0_undo 1 (some .int) (rmX 3 0 0 65) [aR (some o)] T I R L (PXiIR T I R L Q) := by
  refine CtX.intro (by decide) (Nat.le_of_ble_eq_true rfl) (fun E hE hR hN => ?_)
  have hRm := hR.rm
  have hE : OkX E X RX0 cX0_undo 1 (some .int) := hE
  have hE1 := hE.1
  show GX E X T I R L 0 0 0 [some (aR (some o))] []
  unfold wx_X0_undo at hw
  intro hok
  refine g_aldn0 hE1 dX0_undo_0 ?_
  obtain ⟨ht1, hw⟩ := hw
  refine gx_getr hE in_X0 (t := 1) rfl (by decide) 2 2 rfl (by decide) rfl (by decide) rfl q355 (Or.inl rfl) ht1 dX0_undo_1 ?_ hok
  intro hok
  obtain ⟨b2, hb3, hw⟩ := hw
  rw [hb3]
  obtain ⟨ht4, hw⟩ := hw
  refine gx_callV hE hRm (As := []) ht4 (by decide) (by decide) rfl hx_J5_isEmpty (tx_J5_isEmpty X hw) (lw_V q2104 q2105 q2106 q101 q2107) ⟨by decide, by decide⟩ ⟨(by decide), (by decide)⟩ rfl (Nat.le_of_ble_eq_true rfl) dX0_undo_4 rfl (fun r9 Tz Iz Rz Lz hΦ => ?_) hok
  obtain ⟨r5, rfl, rfl, rfl, rfl, rfl, hw⟩ := hΦ
  show GX E X T I R L 0 0 7 [some (aR (some o))] [aI r5]
  intro hok
  obtain ⟨h23, h24, hT25, hN26⟩ := hw
  refine g_if_eq hE1 (tgt := 13) dX0_undo_7 (by decide) h23 (fun q => ?_) (fun q => ?_)
  · have hw := hT25 q
    refine g_aldn0 hE1 dX0_undo_13 ?_
    refine g_aldn0 hE1 dX0_undo_14 ?_
    refine gx_getr hE in_X0 (t := 1) rfl (by decide) 2 2 rfl (by decide) rfl (by decide) rfl q355 (Or.inl rfl) ht1 dX0_undo_15 ?_ hok
    intro hok
    obtain ⟨b7, hb8, hw⟩ := hw
    rw [hb8]
    obtain ⟨ht9, hw⟩ := hw
    refine gx_callV hE hRm (As := []) ht9 (by decide) (by decide) rfl hx_J5_removeLast (tx_J5_removeLast X hw) (lw_V q2108 q2109 q2110 q101 q2111) ⟨by decide, by decide⟩ ⟨(by decide), (by decide)⟩ rfl (Nat.le_of_ble_eq_true rfl) dX0_undo_18 rfl (fun r9 Tz I11 R12 Lz hΦ => ?_) hok
    obtain ⟨r10, rfl, rfl, rfl, hw⟩ := hΦ
    show GX E X T I11 R12 L 0 0 21 [some (aR (some o))] [aR r10, aR (some o)]
    intro hok
    obtain ⟨b14, hb15, hw⟩ := hw
    rw [hb15]
    obtain ⟨ht16, hw⟩ := hw
    refine gx_castS hE ht16 (by decide) (by decide) rfl q153 dX0_undo_21 ?_ hok
    intro hok
    refine gx_putr hE in_X0 (t := 1) rfl (by decide) 0 0 rfl (by decide) rfl (by decide) (ty := tyX0 0) tyX0 tyX0_ok nmX0 rfl q353 (Or.inl rfl) rfl (tyX0_ok 0 (by decide)) nar_o fit_o ht1 dX0_undo_24 ?_ hok
    intro hok
    have hw := hw _ rfl
    generalize uR R12 o 0 (some b14) = R17 at hw hok ⊢
    refine g_aldn0 hE1 dX0_undo_27 ?_
    refine gx_getr hE in_X0 (t := 1) rfl (by decide) 2 2 rfl (by decide) rfl (by decide) rfl q355 (Or.inl rfl) ht1 dX0_undo_28 ?_ hok
    intro hok
    obtain ⟨b18, hb19, hw⟩ := hw
    rw [hb19]
    obtain ⟨ht20, hw⟩ := hw
    refine gx_callV hE hRm (As := []) ht20 (by decide) (by decide) rfl hx_J5_size (tx_J5_size X hw) (lw_V q1186 q1187 q1188 q101 q1189) ⟨by decide, by decide⟩ ⟨(by decide), (by decide)⟩ rfl (Nat.le_of_ble_eq_true rfl) dX0_undo_31 rfl (fun r9 Tz Iz Rz Lz hΦ => ?_) hok
    obtain ⟨r21, rfl, rfl, rfl, rfl, rfl, hw⟩ := hΦ
    show GX E X T I11 R17 L 0 0 34 [some (aR (some o))] [aI r21]
    intro hok
    exact gx_iret hE hR dX0_undo_34 (by decide) (by decide) rfl ⟨_, rfl, rfl, rfl, hw⟩ hok
  · have hw := hN26 q
    refine g_bipush hE1 dX0_undo_10 (by decide) ?_
    exact gx_iret hE hR dX0_undo_12 (by decide) (by decide) rfl ⟨_, rfl, rfl, rfl, hw⟩ hok

/-- WhalingLogs.save()I -/
def wx_X0_save (X : XT) (o : Nat)  (T : xT) (I : xI) (R : xR) (L : xL) (Q : Int → xT → xI → xR → xL → Prop) : Prop :=
  xtag T o = 1 ∧
  ∃ b2 : Nat, R o 0 = some b2 ∧ xtag T b2 = 2 ∧ wx_X1_copy X b2 T I R L (fun (r5 : Option Nat) (T6 : xT) (I7 : xI) (R8 : xR) (L9 : xL) => tle T T6 → 
  ∀ R12 : xR, R12 = uR R8 o 1 r5 →
  ∃ b13 : Nat, R12 o 1 = some b13 ∧ xtag T6 b13 = 2 ∧
  ∃ b16 : Nat, R12 b13 1 = some b16 ∧ xtag T6 b16 = 4 ∧ wx_J4_size X b16 T6 I7 R12 L9 (fun (r19 : Int) => 
  Q r19 T6 I7 R12 L9))
theorem hx_X0_save : yX0_save.cls = RX0 ∧ yX0_save.cls ≠ "java/lang/invoke/MethodHandle" ∧ yX0_save.cls ≠ "java/lang/invoke/VarHandle" ∧ (parseMethodDescriptor yX0_save.desc).map (fun d => d.parameters.length) = some 0 := by decide +kernel
set_option maxHeartbeats 4000000 in
theorem tx_X0_save (X : XT) {o : Nat}  {T : xT} {I : xI} {R : xR} {L : xL} {Q : Int → xT → xI → xR → xL → Prop} (hw : wx_X0_save X o T I R L Q) : CtX X yX0_save cX0_save 1 (some .int) (rmX 7 160 1400 147) [aR (some o)] T I R L (PXiTIRL T I R L Q) := by
  refine CtX.intro (by decide) (Nat.le_of_ble_eq_true rfl) (fun E hE hR hN => ?_)
  have hRm := hR.rm
  have hE : OkX E X RX0 cX0_save 1 (some .int) := hE
  have hE1 := hE.1
  show GX E X T I R L 0 0 0 [some (aR (some o))] []
  unfold wx_X0_save at hw
  intro hok
  refine g_aldn0 hE1 dX0_save_0 ?_
  refine g_aldn0 hE1 dX0_save_1 ?_
  obtain ⟨ht1, hw⟩ := hw
  refine gx_getr hE in_X0 (t := 1) rfl (by decide) 0 0 rfl (by decide) rfl (by decide) rfl q353 (Or.inl rfl) ht1 dX0_save_2 ?_ hok
  intro hok
  obtain ⟨b2, hb3, hw⟩ := hw
  rw [hb3]
  obtain ⟨ht4, hw⟩ := hw
  refine gx_callV hE hRm (As := []) ht4 (by decide) (by decide) rfl hx_X1_copy (tx_X1_copy X hw) (lw_V q395 q396 q397 q95 q398) ⟨by decide, by decide⟩ ⟨(by decide), (by decide)⟩ rfl (Nat.le_of_ble_eq_true rfl) dX0_save_5 rfl (fun r9 T6 I7 R8 L9 hΦ => ?_) hok
  obtain ⟨r5, rfl, hl10, hw⟩ := hΦ
  have hw := hw hl10
  show GX E X T6 I7 R8 L9 160 1400 8 [some (aR (some o))] [aR r5, aR (some o)]
  intro hok
  have ht11 := hl10.tag ht1 (by decide)
  refine gx_putr hE in_X0 (t := 1) rfl (by decide) 1 1 rfl (by decide) rfl (by decide) (ty := tyX0 1) tyX0 tyX0_ok nmX0 rfl q354 (Or.inl rfl) rfl (tyX0_ok 1 (by decide)) nar_o fit_o ht11 dX0_save_8 ?_ hok
  intro hok
  have hw := hw _ rfl
  generalize uR R8 o 1 r5 = R12 at hw hok ⊢
  refine g_aldn0 hE1 dX0_save_11 ?_
  refine gx_getr hE in_X0 (t := 1) rfl (by decide) 1 1 rfl (by decide) rfl (by decide) rfl q354 (Or.inl rfl) ht11 dX0_save_12 ?_ hok
  intro hok
  obtain ⟨b13, hb14, hw⟩ := hw
  rw [hb14]
  obtain ⟨ht15, hw⟩ := hw
  refine gx_getrN hE in_X1 (t := 2) rfl (by decide) 1 1 rfl (by decide) rfl (by decide) rfl q225 (Or.inl rfl) ht15 dX0_save_15 ?_ hok
  intro hok
  obtain ⟨b16, hb17, hw⟩ := hw
  rw [hb17]
  obtain ⟨ht18, hw⟩ := hw
  refine gx_callV hE hRm (As := []) ht18 (by decide) (by decide) rfl hx_J4_size (tx_J4_size X hw) (lw_V q1312 q541 q2594 q100 q542) ⟨by decide, by decide⟩ ⟨(by decide), (by decide)⟩ rfl (Nat.le_of_ble_eq_true rfl) dX0_save_18 rfl (fun r9 Tz Iz Rz Lz hΦ => ?_) hok
  obtain ⟨r19, rfl, rfl, rfl, rfl, rfl, hw⟩ := hΦ
  show GX E X T6 I7 R12 L9 160 1400 21 [some (aR (some o))] [aI r19]
  intro hok
  exact gx_iret hE hR dX0_save_21 (by decide) (by decide) rfl ⟨_, rfl, hl10, hw⟩ hok

