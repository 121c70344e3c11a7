set_option maxRecDepth 100000
/-- java/util/BitSet.wordIndex(I)I -/
def wx_J0_wordIndex (X : XT) (x0 : Int) (T : xT) (I : xI) (R : xR) (L : xL) (Q : Int → Prop) : Prop :=
  Q (bShr x0 6)
theorem hx_J0_wordIndex : yJ0_wordIndex.cls ≠ "java/lang/invoke/MethodHandle" ∧ yJ0_wordIndex.cls ≠ "java/lang/invoke/VarHandle" ∧ (parseMethodDescriptor yJ0_wordIndex.desc).map (fun d => d.parameters.length) = some 1 := by decide +kernel
set_option maxHeartbeats 4000000 in
theorem tx_J0_wordIndex (X : XT) {x0 : Int} {T : xT} {I : xI} {R : xR} {L : xL} {Q : Int → Prop} (hw : wx_J0_wordIndex X x0 T I R L Q) : CtX X yJ0_wordIndex cJ0_wordIndex 1 (some .int) (rmX 0 0 0 0) [aI x0] T I R L (PXi T I R L Q) := by
  refine CtX.intro (by decide) (Nat.le_of_ble_eq_true rfl) (fun E hE hR hN => ?_)
  have hRm := hR.rm
  have hE : OkX E X RJ0 cJ0_wordIndex 1 (some .int) := hE
  have hE1 := hE.1
  show GX E X T I R L 0 0 0 [some (aI x0)] []
  unfold wx_J0_wordIndex at hw
  intro hok
  refine g_ildn0 hE1 dJ0_wordIndex_0 ?_
  refine g_bipush hE1 dJ0_wordIndex_1 (by decide) ?_
  refine g_ishr hE1 dJ0_wordIndex_3 ?_
  exact gx_iret hE hR dJ0_wordIndex_4 (by decide) (by decide) rfl ⟨_, rfl, rfl, rfl, rfl, rfl, hw⟩ hok

/-- java/util/BitSet.initWords(I)V -/
def wx_J0_initWords (X : XT) (o : Nat) (x1 : Int) (T : xT) (I : xI) (R : xR) (L : xL) (Q : xT → xR → Prop) : Prop :=
  wx_J0_wordIndex X (x1 - 1) T I R L (fun (r1 : Int) => 
  ∃ N6 : Nat, (r1 + 1) = (N6 : Int) ∧ N6 ≤ 1000000 ∧ 0 + N6 ≤ 3 ∧ ∀ q3 : Nat, xtag T q3 = 0 → bsX X ≤ q3 → ∀ T10 : xT, T10 = xnew T q3 102 N6 →
  xtag T10 o = 3 ∧ ∀ R14 : xR, R14 = uR R o 0 (some q3) →
  Q T10 R14)
theorem hx_J0_initWords : yJ0_initWords.cls = RJ0 ∧ yJ0_initWords.cls ≠ "java/lang/invoke/MethodHandle" ∧ yJ0_initWords.cls ≠ "java/lang/invoke/VarHandle" ∧ (parseMethodDescriptor yJ0_initWords.desc).map (fun d => d.parameters.length) = some 1 := by decide +kernel
set_option maxHeartbeats 4000000 in
theorem tx_J0_initWords (X : XT) {o : Nat} {x1 : Int} {T : xT} {I : xI} {R : xR} {L : xL} {Q : xT → xR → Prop} (hw : wx_J0_initWords X o x1 T I R L Q) : CtX X yJ0_initWords cJ0_initWords 2 none (rmX 1 1 3 20) [aR (some o), aI x1] T I R L (PXvTR T I R L Q) := by
  refine CtX.intro (by decide) (Nat.le_of_ble_eq_true rfl) (fun E hE hR hN => ?_)
  have hRm := hR.rm
  have hE : OkX E X RJ0 cJ0_initWords 2 none := hE
  have hE1 := hE.1
  show GX E X T I R L 0 0 0 [some (aR (some o)), some (aI x1)] []
  unfold wx_J0_initWords at hw
  intro hok
  refine g_aldn0 hE1 dJ0_initWords_0 ?_
  refine g_ildn1 hE1 dJ0_initWords_1 ?_
  refine g_iconst hE1 dJ0_initWords_2 ?_
  refine g_isub hE1 dJ0_initWords_3 ?_
  refine gx_callS hE hRm (As := [aI (x1 - 1)]) hx_J0_wordIndex (tx_J0_wordIndex X hw) (lw_S q169 q170 q96 q171) ⟨by decide, by decide⟩ ⟨(by decide), (by decide)⟩ rfl (Nat.le_of_ble_eq_true rfl) dJ0_initWords_4 rfl (fun r9 Tz Iz Rz Lz hΦ => ?_) hok
  obtain ⟨r1, rfl, rfl, rfl, rfl, rfl, hw⟩ := hΦ
  show GX E X T I R L 0 0 7 [some (aR (some o)), some (aI x1)] [aI r1, aR (some o)]
  intro hok
  refine g_iconst hE1 dJ0_initWords_7 ?_
  refine g_iadd hE1 dJ0_initWords_8 ?_
  obtain ⟨N6, h7, h8, hw⟩ := hw
  obtain ⟨hc9, hw⟩ := hw
  refine gx_newa_long hE hRm (N := N6) q182 h7 h8 (by decide) hc9 dJ0_initWords_9 (fun q3 hq4 hbs5 => ?_) hok
  intro hok
  have hw := hw q3 hq4 hbs5 _ rfl
  have hl11 := tle.new (T := T) (q := q3) (t := 102) (n := N6) hq4
  have hT12 : xtag (xnew T q3 102 N6) q3 = 102 := if_pos rfl
  generalize xnew T q3 102 N6 = T10 at hw hl11 hok hT12 ⊢
  obtain ⟨ht13, hw⟩ := hw
  refine gx_putr hE in_J0 (t := 3) rfl (by decide) 0 0 rfl (by decide) rfl (by decide) (ty := tyJ0 0) tyJ0 tyJ0_ok nmJ0 rfl q172 (Or.inl rfl) rfl (tyJ0_ok 0 (by decide)) nar_a fit_a ht13 dJ0_initWords_11 ?_ hok
  intro hok
  have hw := hw _ rfl
  generalize uR R o 0 (some q3) = R14 at hw hok ⊢
  exact gx_vret hE hR dJ0_initWords_14 (by decide) (show 0 + N6 ≤ 3 by omega) ⟨rfl, rfl, rfl, hl11, hw⟩ hok

/-- java/util/BitSet.<init>(I)V -/
def wx_J0_init (X : XT) (o : Nat) (x1 : Int) (T : xT) (I : xI) (R : xR) (L : xL) (Q : xT → xI → xR → Prop) : Prop :=
  xtag T o = 3 ∧ ∀ I2 : xI, I2 = uI I o 1 0 →
  ∀ I3 : xI, I3 = uI I2 o 2 0 →
  cLt x1 0
    (
    False)
    (
    wx_J0_initWords X o x1 T I3 R L (fun (T4 : xT) (R5 : xR) => tle T T4 → 
    ∀ I8 : xI, I8 = uI I3 o 2 1 →
    Q T4 I8 R5))
theorem hx_J0_init : yJ0_init.cls ≠ "java/lang/invoke/MethodHandle" ∧ yJ0_init.cls ≠ "java/lang/invoke/VarHandle" ∧ (parseMethodDescriptor yJ0_init.desc).map (fun d => d.parameters.length) = some 1 := by decide +kernel
set_option maxHeartbeats 4000000 in
theorem tx_J0_init (X : XT) {o : Nat} {x1 : Int} {T : xT} {I : xI} {R : xR} {L : xL} {Q : xT → xI → xR → Prop} (hw : wx_J0_init X o x1 T I R L Q) : CtX X yJ0_init cJ0_init 2 none (rmX 2 1 3 41) [aR (some o), aI x1] T I R L (PXvTIR T I R L Q) := by
  refine CtX.intro (by decide) (Nat.le_of_ble_eq_true rfl) (fun E hE hR hN => ?_)
  have hRm := hR.rm
  have hE : OkX E X RJ0 cJ0_init 2 none := hE
  have hE1 := hE.1
  have hI : isInit E := hN
  show GX E X T I R L 0 0 0 [some (aR (some o)), some (aI x1)] []
  unfold wx_J0_init at hw
  intro hok
  refine g_aldn0 hE1 dJ0_init_0 ?_
  refine gx_objInit hE hRm rfl q164 q151 q152 (by decide) (by decide) (Nat.le_of_ble_eq_true rfl) dJ0_init_1 ?_ hok
  intro hok
  refine g_aldn0 hE1 dJ0_init_4 ?_
  refine g_iconst hE1 dJ0_init_5 ?_
  obtain ⟨ht1, hw⟩ := hw
  refine gx_puti hE in_J0 (t := 3) rfl (by decide) 1 1 rfl (by decide) rfl (by decide) (ty := tyJ0 1) tyJ0 tyJ0_ok nmJ0 rfl q173 (Or.inl rfl) rfl (tyJ0_ok 1 (by decide)) rfl rfl ht1 dJ0_init_6 ?_ hok
  intro hok
  have hw := hw _ rfl
  generalize uI I o 1 0 = I2 at hw hok ⊢
  refine g_aldn0 hE1 dJ0_init_9 ?_
  refine g_iconst hE1 dJ0_init_10 ?_
  refine gx_puti hE in_J0 (t := 3) rfl (by decide) 2 2 rfl (by decide) rfl (by decide) (ty := tyJ0 2) tyJ0 tyJ0_ok nmJ0 rfl q174 (Or.inl rfl) rfl (tyJ0_ok 2 (by decide)) (narrow_bl (by decide)) (fits_bl (by decide)) ht1 dJ0_init_11 ?_ hok
  intro hok
  have hw := hw _ rfl
  generalize uI I2 o 2 0 = I3 at hw hok ⊢
  refine g_ildn1 hE1 dJ0_init_14 ?_
  obtain ⟨h9, h10, hT11, hN12⟩ := hw
  refine g_if_ge hE1 (tgt := 45) dJ0_init_15 (by decide) h9 (fun q => ?_) (fun q => ?_)
  · have hw := hT11 q
    exact hw.elim
  · have hw := hN12 q
    refine g_aldn0 hE1 dJ0_init_45 ?_
    refine g_ildn1 hE1 dJ0_init_46 ?_
    refine gx_callV hE hRm (As := [aI x1]) ht1 (by decide) (by decide) rfl hx_J0_initWords (tx_J0_initWords X hw) (lw_V q165 q167 qs0 q96 q168) ⟨by decide, by decide⟩ ⟨(by decide), (by decide)⟩ rfl (Nat.le_of_ble_eq_true rfl) dJ0_init_47 rfl (fun r9 T4 Iz R5 Lz hΦ => ?_) hok
    obtain ⟨rfl, rfl, rfl, hl6, hw⟩ := hΦ
    have hw := hw hl6
    show GX E X T4 I3 R5 L 1 3 50 [some (aR (some o)), some (aI x1)] []
    intro hok
    refine g_aldn0 hE1 dJ0_init_50 ?_
    refine g_iconst hE1 dJ0_init_51 ?_
    have ht7 := hl6.tag ht1 (by decide)
    refine gx_puti hE in_J0 (t := 3) rfl (by decide) 2 2 rfl (by decide) rfl (by decide) (ty := tyJ0 2) tyJ0 tyJ0_ok nmJ0 rfl q174 (Or.inl rfl) rfl (tyJ0_ok 2 (by decide)) (narrow_bl (by decide)) (fits_bl (by decide)) ht7 dJ0_init_52 ?_ hok
    intro hok
    have hw := hw _ rfl
    generalize uI I3 o 2 1 = I8 at hw hok ⊢
    exact gx_vret hE hR dJ0_init_55 (by decide) (by decide) ⟨rfl, rfl, hl6, hw⟩ hok

/-- java/util/AbstractCollection.<init>()V -/
def wx_J1_init_J4 (X : XT) (o : Nat)  (T : xT) (I : xI) (R : xR) (L : xL) (Q : Prop) : Prop :=
  Q
theorem hx_J1_init_J4 : yJ1_init.cls ≠ "java/lang/invoke/MethodHandle" ∧ yJ1_init.cls ≠ "java/lang/invoke/VarHandle" ∧ (parseMethodDescriptor yJ1_init.desc).map (fun d => d.parameters.length) = some 0 := by decide +kernel
set_option maxHeartbeats 4000000 in
theorem tx_J1_init_J4 (X : XT) {o : Nat}  {T : xT} {I : xI} {R : xR} {L : xL} {Q : Prop} (hw : wx_J1_init_J4 X o T I R L Q) : CtX X yJ1_init cJ1_init 1 none (rmX 1 0 0 20) [aR (some o)] T I R L (PXv T I R L Q) := by
  refine CtX.intro (by decide) (Nat.le_of_ble_eq_true rfl) (fun E hE hR hN => ?_)
  have hRm := hR.rm
  have hE : OkX E X RJ1 cJ1_init 1 none := hE
  have hE1 := hE.1
  have hI : isInit E := hN
  show GX E X T I R L 0 0 0 [some (aR (some o))] []
  unfold wx_J1_init_J4 at hw
  intro hok
  refine g_aldn0 hE1 dJ1_init_0 ?_
  refine gx_objInit hE hRm rfl q197 q151 q152 (by decide) (by decide) (Nat.le_of_ble_eq_true rfl) dJ1_init_1 ?_ hok
  intro hok
  exact gx_vret hE hR dJ1_init_4 (by decide) (by decide) ⟨rfl, rfl, rfl, rfl, rfl, hw⟩ hok

/-- java/util/AbstractList.<init>()V -/
def wx_J2_init_J4 (X : XT) (o : Nat)  (T : xT) (I : xI) (R : xR) (L : xL) (Q : xI → Prop) : Prop :=
  wx_J1_init_J4 X o T I R L (
  xtag T o = 4 ∧ ∀ I3 : xI, I3 = uI I o 0 0 →
  Q I3)
theorem hx_J2_init_J4 : yJ2_init.cls ≠ "java/lang/invoke/MethodHandle" ∧ yJ2_init.cls ≠ "java/lang/invoke/VarHandle" ∧ (parseMethodDescriptor yJ2_init.desc).map (fun d => d.parameters.length) = some 0 := by decide +kernel
set_option maxHeartbeats 4000000 in
theorem tx_J2_init_J4 (X : XT) {o : Nat}  {T : xT} {I : xI} {R : xR} {L : xL} {Q : xI → Prop} (hw : wx_J2_init_J4 X o T I R L Q) : CtX X yJ2_init cJ2_init 1 none (rmX 2 0 0 40) [aR (some o)] T I R L (PXvI T I R L Q) := by
  refine CtX.intro (by decide) (Nat.le_of_ble_eq_true rfl) (fun E hE hR hN => ?_)
  have hRm := hR.rm
  have hE : OkX E X RJ2 cJ2_init 1 none := hE
  have hE1 := hE.1
  have hI : isInit E := hN
  show GX E X T I R L 0 0 0 [some (aR (some o))] []
  unfold wx_J2_init_J4 at hw
  intro hok
  refine g_aldn0 hE1 dJ2_init_0 ?_
  refine gx_callI hE hRm (As := []) (b := o) hx_J1_init_J4 (lw_meth q196) q194 q97 q195 rfl (tx_J1_init_J4 X hw) ⟨by decide, by decide⟩ ⟨(by decide), (by decide)⟩ rfl (Nat.le_of_ble_eq_true rfl) dJ2_init_1 rfl (fun r9 Tz Iz Rz Lz hΦ => ?_) hok
  obtain ⟨rfl, rfl, rfl, rfl, rfl, hw⟩ := hΦ
  show GX E X T I R L 0 0 4 [some (aR (some o))] []
  intro hok
  refine g_aldn0 hE1 dJ2_init_4 ?_
  refine g_iconst hE1 dJ2_init_5 ?_
  obtain ⟨ht2, hw⟩ := hw
  refine gx_puti hE in_J4 (t := 4) rfl (by decide) 0 0 rfl (by decide) rfl (by decide) (ty := tyJ4 0) tyJ4 tyJ4_ok nmJ4 rfl q203 (Or.inl rfl) rfl (tyJ4_ok 0 (by decide)) rfl rfl ht2 dJ2_init_6 ?_ hok
  intro hok
  have hw := hw _ rfl
  generalize uI I o 0 0 = I3 at hw hok ⊢
  exact gx_vret hE hR dJ2_init_9 (by decide) (by decide) ⟨rfl, rfl, rfl, rfl, hw⟩ hok

/-- java/util/AbstractSequentialList.<init>()V -/
def wx_J3_init_J4 (X : XT) (o : Nat)  (T : xT) (I : xI) (R : xR) (L : xL) (Q : xI → Prop) : Prop :=
  wx_J2_init_J4 X o T I R L (fun (I1 : xI) => 
  Q I1)
theorem hx_J3_init_J4 : yJ3_init.cls ≠ "java/lang/invoke/MethodHandle" ∧ yJ3_init.cls ≠ "java/lang/invoke/VarHandle" ∧ (parseMethodDescriptor yJ3_init.desc).map (fun d => d.parameters.length) = some 0 := by decide +kernel
set_option maxHeartbeats 4000000 in
theorem tx_J3_init_J4 (X : XT) {o : Nat}  {T : xT} {I : xI} {R : xR} {L : xL} {Q : xI → Prop} (hw : wx_J3_init_J4 X o T I R L Q) : CtX X yJ3_init cJ3_init 1 none (rmX 3 0 0 60) [aR (some o)] T I R L (PXvI T I R L Q) := by
  refine CtX.intro (by decide) (Nat.le_of_ble_eq_true rfl) (fun E hE hR hN => ?_)
  have hRm := hR.rm
  have hE : OkX E X RJ3 cJ3_init 1 none := hE
  have hE1 := hE.1
  have hI : isInit E := hN
  show GX E X T I R L 0 0 0 [some (aR (some o))] []
  unfold wx_J3_init_J4 at hw
  intro hok
  refine g_aldn0 hE1 dJ3_init_0 ?_
  refine gx_callI hE hRm (As := []) (b := o) hx_J2_init_J4 (lw_meth q193) q191 q98 q192 rfl (tx_J2_init_J4 X hw) ⟨by decide, by decide⟩ ⟨(by decide), (by decide)⟩ rfl (Nat.le_of_ble_eq_true rfl) dJ3_init_1 rfl (fun r9 Tz I1 Rz Lz hΦ => ?_) hok
  obtain ⟨rfl, rfl, rfl, rfl, hw⟩ := hΦ
  show GX E X T I1 R L 0 0 4 [some (aR (some o))] []
  intro hok
  exact gx_vret hE hR dJ3_init_4 (by decide) (by decide) ⟨rfl, rfl, rfl, rfl, hw⟩ hok

/-- java/util/LinkedList.<init>()V -/
def wx_J4_init (X : XT) (o : Nat)  (T : xT) (I : xI) (R : xR) (L : xL) (Q : xI → Prop) : Prop :=
  wx_J3_init_J4 X o T I R L (fun (I1 : xI) => 
  xtag T o = 4 ∧ ∀ I4 : xI, I4 = uI I1 o 1 0 →
  Q I4)
theorem hx_J4_init : yJ4_init.cls ≠ "java/lang/invoke/MethodHandle" ∧ yJ4_init.cls ≠ "java/lang/invoke/VarHandle" ∧ (parseMethodDescriptor yJ4_init.desc).map (fun d => d.parameters.length) = some 0 := by decide +kernel
set_option maxHeartbeats 4000000 in
theorem tx_J4_init (X : XT) {o : Nat}  {T : xT} {I : xI} {R : xR} {L : xL} {Q : xI → Prop} (hw : wx_J4_init X o T I R L Q) : CtX X yJ4_init cJ4_init 1 none (rmX 4 0 0 80) [aR (some o)] T I R L (PXvI T I R L Q) := by
  refine CtX.intro (by decide) (Nat.le_of_ble_eq_true rfl) (fun E hE hR hN => ?_)
  have hRm := hR.rm
  have hE : OkX E X RJ4 cJ4_init 1 none := hE
  have hE1 := hE.1
  have hI : isInit E := hN
  show GX E X T I R L 0 0 0 [some (aR (some o))] []
  unfold wx_J4_init at hw
  intro hok
  refine g_aldn0 hE1 dJ4_init_0 ?_
  refine gx_callI hE hRm (As := []) (b := o) hx_J3_init_J4 (lw_meth q190) q188 q99 q189 rfl (tx_J3_init_J4 X hw) ⟨by decide, by decide⟩ ⟨(by decide), (by decide)⟩ rfl (Nat.le_of_ble_eq_true rfl) dJ4_init_1 rfl (fun r9 Tz I1 Rz Lz hΦ => ?_) hok
  obtain ⟨rfl, rfl, rfl, rfl, hw⟩ := hΦ
  show GX E X T I1 R L 0 0 4 [some (aR (some o))] []
  intro hok
  refine g_aldn0 hE1 dJ4_init_4 ?_
  refine g_iconst hE1 dJ4_init_5 ?_
  obtain ⟨ht3, hw⟩ := hw
  refine gx_puti hE in_J4 (t := 4) rfl (by decide) 1 1 rfl (by decide) rfl (by decide) (ty := tyJ4 1) tyJ4 tyJ4_ok nmJ4 rfl q198 (Or.inl rfl) rfl (tyJ4_ok 1 (by decide)) rfl rfl ht3 dJ4_init_6 ?_ hok
  intro hok
  have hw := hw _ rfl
  generalize uI I1 o 1 0 = I4 at hw hok ⊢
  exact gx_vret hE hR dJ4_init_9 (by decide) (by decide) ⟨rfl, rfl, rfl, rfl, hw⟩ hok

/-- WhalingLogs$Archive.<init>()V -/
def wx_X1_init (X : XT) (o : Nat)  (T : xT) (I : xI) (R : xR) (L : xL) (Q : xT → xI → xR → Prop) : Prop :=
  ∀ q1 : Nat, xtag T q1 = 0 → bsX X ≤ q1 → ∀ T4 : xT, T4 = xnew T q1 3 0 →
  wx_J0_init X q1 192 T4 I R L (fun (T7 : xT) (I8 : xI) (R9 : xR) => tle T4 T7 → 
  xtag T7 o = 2 ∧ ∀ R12 : xR, R12 = uR R9 o 0 (some q1) →
  ∀ q13 : Nat, xtag T7 q13 = 0 → bsX X ≤ q13 → ∀ T16 : xT, T16 = xnew T7 q13 4 0 →
  wx_J4_init X q13 T16 I8 R12 L (fun (I19 : xI) => 
  ∀ R22 : xR, R22 = uR R12 o 1 (some q13) →
  ∀ q23 : Nat, xtag T16 q23 = 0 → bsX X ≤ q23 → ∀ T26 : xT, T26 = xnew T16 q23 100 3 →
  ib 0 (xlen T26 q23) ∧ xlen T26 q23 < 2147483648 ∧ ∀ I31 : xI, I31 = uI I19 q23 0 30 →
  ib 1 (xlen T26 q23) ∧ xlen T26 q23 < 2147483648 ∧ ∀ I34 : xI, I34 = uI I31 q23 1 50 →
  ib 2 (xlen T26 q23) ∧ xlen T26 q23 < 2147483648 ∧ ∀ I37 : xI, I37 = uI I34 q23 2 70 →
  ∀ R39 : xR, R39 = uR R22 o 2 (some q23) →
  ∀ q40 : Nat, xtag T26 q40 = 0 → bsX X ≤ q40 → ∀ T43 : xT, T43 = xnew T26 q40 100 6 →
  ∀ R47 : xR, R47 = uR R39 o 3 (some q40) →
  ∀ I48 : xI, I48 = uI I37 o 4 3 →
  Q T43 I48 R47))
theorem hx_X1_init : yX1_init.cls ≠ "java/lang/invoke/MethodHandle" ∧ yX1_init.cls ≠ "java/lang/invoke/VarHandle" ∧ (parseMethodDescriptor yX1_init.desc).map (fun d => d.parameters.length) = some 0 := by decide +kernel
set_option maxHeartbeats 4000000 in
theorem tx_X1_init (X : XT) {o : Nat}  {T : xT} {I : xI} {R : xR} {L : xL} {Q : xT → xI → xR → Prop} (hw : wx_X1_init X o T I R L Q) : CtX X yX1_init cX1_init 1 none (rmX 5 5 19 100) [aR (some o)] T I R L (PXvTIR T I R L Q) := by
  refine CtX.intro (by decide) (Nat.le_of_ble_eq_true rfl) (fun E hE hR hN => ?_)
  have hRm := hR.rm
  have hE : OkX E X RX1 cX1_init 1 none := hE
  have hE1 := hE.1
  have hI : isInit E := hN
  show GX E X T I R L 0 0 0 [some (aR (some o))] []
  unfold wx_X1_init at hw
  intro hok
  refine g_aldn0 hE1 dX1_init_0 ?_
  refine gx_objInit hE hRm rfl q158 q151 q152 (by decide) (by decide) (Nat.le_of_ble_eq_true rfl) dX1_init_1 ?_ hok
  intro hok
  refine g_aldn0 hE1 dX1_init_4 ?_
  refine gx_new hE hRm in_J0 tyJ0 tyJ0_ok (t := 3) rfl (by decide) (by decide) rfl (by decide) q159 q160 q96 (by decide) (by decide) dX1_init_5 (fun q1 hq2 hbs3 => ?_) hok
  intro hok
  have hw := hw q1 hq2 hbs3 _ rfl
  have hl5 := tle.new (T := T) (q := q1) (t := 3) (n := 0) hq2
  have hT6 : xtag (xnew T q1 3 0) q1 = 3 := if_pos rfl
  generalize xnew T q1 3 0 = T4 at hw hl5 hok hT6 ⊢
  refine g_dup hE1 dX1_init_8 rfl ?_
  refine g_sipush hE1 dX1_init_9 (by decide) ?_
  refine gx_callI hE hRm (As := [aI 192]) (b := q1) hx_J0_init (lw_meth q163) q161 q96 q162 rfl (tx_J0_init X hw) ⟨by decide, by decide⟩ ⟨(by decide), (by decide)⟩ rfl (Nat.le_of_ble_eq_true rfl) dX1_init_12 rfl (fun r9 T7 I8 R9 Lz hΦ => ?_) hok
  obtain ⟨rfl, rfl, hl10, hw⟩ := hΦ
  have hw := hw hl10
  show GX E X T7 I8 R9 L 2 6 15 [some (aR (some o))] [aR (some q1), aR (some o)]
  intro hok
  obtain ⟨ht11, hw⟩ := hw
  refine gx_putrF hE in_X1 (t := 2) rfl (by decide) 0 0 rfl (by decide) rfl (by decide) (ty := tyX1 0) tyX1 tyX1_ok nmX1 rfl q220 (Or.inl rfl) rfl hI rfl (tyX1_ok 0 (by decide)) nar_o fit_o ht11 dX1_init_15 ?_ hok
  intro hok
  have hw := hw _ rfl
  generalize uR R9 o 0 (some q1) = R12 at hw hok ⊢
  refine g_aldn0 hE1 dX1_init_18 ?_
  refine gx_new hE hRm in_J4 tyJ4 tyJ4_ok (t := 4) rfl (by decide) (by decide) rfl (by decide) q183 q184 q100 (by decide) (by decide) dX1_init_19 (fun q13 hq14 hbs15 => ?_) hok
  intro hok
  have hw := hw q13 hq14 hbs15 _ rfl
  have hl17 := tle.new (T := T7) (q := q13) (t := 4) (n := 0) hq14
  have hT18 : xtag (xnew T7 q13 4 0) q13 = 4 := if_pos rfl
  generalize xnew T7 q13 4 0 = T16 at hw hl17 hok hT18 ⊢
  refine g_dup hE1 dX1_init_22 rfl ?_
  refine gx_callI hE hRm (As := []) (b := q13) hx_J4_init (lw_meth q187) q185 q100 q186 rfl (tx_J4_init X hw) ⟨by decide, by decide⟩ ⟨(by decide), (by decide)⟩ rfl (Nat.le_of_ble_eq_true rfl) dX1_init_23 rfl (fun r9 Tz I19 Rz Lz hΦ => ?_) hok
  obtain ⟨rfl, rfl, rfl, rfl, hw⟩ := hΦ
  show GX E X T16 I19 R12 L 3 10 26 [some (aR (some o))] [aR (some q13), aR (some o)]
  intro hok
  have ht21 := hl17.tag ht11 (by decide)
  refine gx_putrF hE in_X1 (t := 2) rfl (by decide) 1 1 rfl (by decide) rfl (by decide) (ty := tyX1 1) tyX1 tyX1_ok nmX1 rfl q223 (Or.inl rfl) rfl hI rfl (tyX1_ok 1 (by decide)) nar_o fit_o ht21 dX1_init_26 ?_ hok
  intro hok
  have hw := hw _ rfl
  generalize uR R12 o 1 (some q13) = R22 at hw hok ⊢
  refine g_aldn0 hE1 dX1_init_29 ?_
  refine g_iconst hE1 dX1_init_30 ?_
  refine gx_newa_int hE hRm (N := 3) q249 rfl (by decide) (by decide) (by decide) dX1_init_31 (fun q23 hq24 hbs25 => ?_) hok
  intro hok
  have hw := hw q23 hq24 hbs25 _ rfl
  have hl27 := tle.new (T := T16) (q := q23) (t := 100) (n := 3) hq24
  have hT28 : xtag (xnew T16 q23 100 3) q23 = 100 := if_pos rfl
  generalize xnew T16 q23 100 3 = T26 at hw hl27 hok hT28 ⊢
  refine g_dup hE1 dX1_init_33 rfl ?_
  refine g_iconst hE1 dX1_init_34 ?_
  refine g_bipush hE1 dX1_init_35 (by decide) ?_
  obtain ⟨h29, h30, hw⟩ := hw
  refine gx_iast hE hT28 h29 h30 dX1_init_37 ?_ hok
  intro hok
  have hw := hw _ rfl
  generalize uI I19 q23 0 30 = I31 at hw hok ⊢
  refine g_dup hE1 dX1_init_38 rfl ?_
  refine g_iconst hE1 dX1_init_39 ?_
  refine g_bipush hE1 dX1_init_40 (by decide) ?_
  obtain ⟨h32, h33, hw⟩ := hw
  refine gx_iast hE hT28 h32 h33 dX1_init_42 ?_ hok
  intro hok
  have hw := hw _ rfl
  generalize uI I31 q23 1 50 = I34 at hw hok ⊢
  refine g_dup hE1 dX1_init_43 rfl ?_
  refine g_iconst hE1 dX1_init_44 ?_
  refine g_bipush hE1 dX1_init_45 (by decide) ?_
  obtain ⟨h35, h36, hw⟩ := hw
  refine gx_iast hE hT28 h35 h36 dX1_init_47 ?_ hok
  intro hok
  have hw := hw _ rfl
  generalize uI I34 q23 2 70 = I37 at hw hok ⊢
  have ht38 := (hl17.tr hl27).tag ht11 (by decide)
  refine gx_putrF hE in_X1 (t := 2) rfl (by decide) 2 2 rfl (by decide) rfl (by decide) (ty := tyX1 2) tyX1 tyX1_ok nmX1 rfl q226 (Or.inl rfl) rfl hI rfl (tyX1_ok 2 (by decide)) nar_a fit_a ht38 dX1_init_48 ?_ hok
  intro hok
  have hw := hw _ rfl
  generalize uR R22 o 2 (some q23) = R39 at hw hok ⊢
  refine g_aldn0 hE1 dX1_init_51 ?_
  refine g_bipush hE1 dX1_init_52 (by decide) ?_
  refine gx_newa_int hE hRm (N := 6) q249 rfl (by decide) (by decide) (by decide) dX1_init_54 (fun q40 hq41 hbs42 => ?_) hok
  intro hok
  have hw := hw q40 hq41 hbs42 _ rfl
  have hl44 := tle.new (T := T26) (q := q40) (t := 100) (n := 6) hq41
  have hT45 : xtag (xnew T26 q40 100 6) q40 = 100 := if_pos rfl
  generalize xnew T26 q40 100 6 = T43 at hw hl44 hok hT45 ⊢
  have ht46 := ((hl17.tr hl27).tr hl44).tag ht11 (by decide)
  refine gx_putrF hE in_X1 (t := 2) rfl (by decide) 3 3 rfl (by decide) rfl (by decide) (ty := tyX1 3) tyX1 tyX1_ok nmX1 rfl q228 (Or.inl rfl) rfl hI rfl (tyX1_ok 3 (by decide)) nar_a fit_a ht46 dX1_init_56 ?_ hok
  intro hok
  have hw := hw _ rfl
  generalize uR R39 o 3 (some q40) = R47 at hw hok ⊢
  refine g_aldn0 hE1 dX1_init_59 ?_
  refine g_iconst hE1 dX1_init_60 ?_
  refine gx_puti hE in_X1 (t := 2) rfl (by decide) 4 4 rfl (by decide) rfl (by decide) (ty := tyX1 4) tyX1 tyX1_ok nmX1 rfl q230 (Or.inl rfl) rfl (tyX1_ok 4 (by decide)) rfl rfl ht46 dX1_init_61 ?_ hok
  intro hok
  have hw := hw _ rfl
  generalize uI I37 o 4 3 = I48 at hw hok ⊢
  exact gx_vret hE hR dX1_init_64 (by decide) (by decide) ⟨rfl, rfl, ((((hl5.tr hl10).tr hl17).tr hl27).tr hl44), hw⟩ hok

/-- java/util/AbstractCollection.<init>()V -/
def wx_J1_init_J5 (X : XT) (o : Nat)  (T : xT) (I : xI) (R : xR) (L : xL) (Q : Prop) : Prop :=
  Q
theorem hx_J1_init_J5 : yJ1_init.cls ≠ "java/lang/invoke/MethodHandle" ∧ yJ1_init.cls ≠ "java/lang/invoke/VarHandle" ∧ (parseMethodDescriptor yJ1_init.desc).map (fun d => d.parameters.length) = some 0 := by decide +kernel
set_option maxHeartbeats 4000000 in
theorem tx_J1_init_J5 (X : XT) {o : Nat}  {T : xT} {I : xI} {R : xR} {L : xL} {Q : Prop} (hw : wx_J1_init_J5 X o T I R L Q) : CtX X yJ1_init cJ1_init 1 none (rmX 1 0 0 20) [aR (some o)] T I R L (PXv T I R L Q) := by
  refine CtX.intro (by decide) (Nat.le_of_ble_eq_true rfl) (fun E hE hR hN => ?_)
  have hRm := hR.rm
  have hE : OkX E X RJ1 cJ1_init 1 none := hE
  have hE1 := hE.1
  have hI : isInit E := hN
  show GX E X T I R L 0 0 0 [some (aR (some o))] []
  unfold wx_J1_init_J5 at hw
  intro hok
  refine g_aldn0 hE1 dJ1_init_0 ?_
  refine gx_objInit hE hRm rfl q197 q151 q152 (by decide) (by decide) (Nat.le_of_ble_eq_true rfl) dJ1_init_1 ?_ hok
  intro hok
  exact gx_vret hE hR dJ1_init_4 (by decide) (by decide) ⟨rfl, rfl, rfl, rfl, rfl, hw⟩ hok

/-- java/util/ArrayDeque.<init>()V -/
def wx_J5_init (X : XT) (o : Nat)  (T : xT) (I : xI) (R : xR) (L : xL) (Q : xT → xR → Prop) : Prop :=
  wx_J1_init_J5 X o T I R L (
  ∀ q2 : Nat, xtag T q2 = 0 → bsX X ≤ q2 → ∀ T5 : xT, T5 = xnew T q2 103 17 →
  xtag T5 o = 5 ∧ ∀ R9 : xR, R9 = uR R o 0 (some q2) →
  Q T5 R9)
theorem hx_J5_init : yJ5_init.cls ≠ "java/lang/invoke/MethodHandle" ∧ yJ5_init.cls ≠ "java/lang/invoke/VarHandle" ∧ (parseMethodDescriptor yJ5_init.desc).map (fun d => d.parameters.length) = some 0 := by decide +kernel
set_option maxHeartbeats 4000000 in
theorem tx_J5_init (X : XT) {o : Nat}  {T : xT} {I : xI} {R : xR} {L : xL} {Q : xT → xR → Prop} (hw : wx_J5_init X o T I R L Q) : CtX X yJ5_init cJ5_init 1 none (rmX 2 1 17 40) [aR (some o)] T I R L (PXvTR T I R L Q) := by
  refine CtX.intro (by decide) (Nat.le_of_ble_eq_true rfl) (fun E hE hR hN => ?_)
  have hRm := hR.rm
  have hE : OkX E X RJ5 cJ5_init 1 none := hE
  have hE1 := hE.1
  have hI : isInit E := hN
  show GX E X T I R L 0 0 0 [some (aR (some o))] []
  unfold wx_J5_init at hw
  intro hok
  refine g_aldn0 hE1 dJ5_init_0 ?_
  refine gx_callI hE hRm (As := []) (b := o) hx_J1_init_J5 (lw_meth q196) q255 q97 q195 rfl (tx_J1_init_J5 X hw) ⟨by decide, by decide⟩ ⟨(by decide), (by decide)⟩ rfl (Nat.le_of_ble_eq_true rfl) dJ5_init_1 rfl (fun r9 Tz Iz Rz Lz hΦ => ?_) hok
  obtain ⟨rfl, rfl, rfl, rfl, rfl, hw⟩ := hΦ
  show GX E X T I R L 0 0 4 [some (aR (some o))] []
  intro hok
  refine g_aldn0 hE1 dJ5_init_4 ?_
  refine g_bipush hE1 dJ5_init_5 (by decide) ?_
  refine gx_newq_O hE hRm (N := 17) q256 rfl (by decide) (by decide) (by decide) dJ5_init_7 (fun q2 hq3 hbs4 => ?_) hok
  intro hok
  have hw := hw q2 hq3 hbs4 _ rfl
  have hl6 := tle.new (T := T) (q := q2) (t := 103) (n := 17) hq3
  have hT7 : xtag (xnew T q2 103 17) q2 = 103 := if_pos rfl
  generalize xnew T q2 103 17 = T5 at hw hl6 hok hT7 ⊢
  obtain ⟨ht8, hw⟩ := hw
  refine gx_putr hE in_J5 (t := 5) rfl (by decide) 0 0 rfl (by decide) rfl (by decide) (ty := tyJ5 0) tyJ5 tyJ5_ok nmJ5 rfl q258 (Or.inl rfl) rfl (tyJ5_ok 0 (by decide)) nar_a fit_a ht8 dJ5_init_10 ?_ hok
  intro hok
  have hw := hw _ rfl
  generalize uR R o 0 (some q2) = R9 at hw hok ⊢
  exact gx_vret hE hR dJ5_init_13 (by decide) (by decide) ⟨rfl, rfl, rfl, hl6, hw⟩ hok

/-- WhalingLogs$Waters.<init>()V -/
def wx_X2_init (X : XT) (o : Nat)  (T : xT) (I : xI) (R : xR) (L : xL) (Q : xT → xR → Prop) : Prop :=
  ∀ q1 : Nat, xtag T q1 = 0 → bsX X ≤ q1 → ∀ T4 : xT, T4 = xnew T q1 100 192 →
  xtag T4 o = 6 ∧ ∀ R8 : xR, R8 = uR R o 0 (some q1) →
  Q T4 R8
theorem hx_X2_init : yX2_init.cls ≠ "java/lang/invoke/MethodHandle" ∧ yX2_init.cls ≠ "java/lang/invoke/VarHandle" ∧ (parseMethodDescriptor yX2_init.desc).map (fun d => d.parameters.length) = some 0 := by decide +kernel
set_option maxHeartbeats 4000000 in
theorem tx_X2_init (X : XT) {o : Nat}  {T : xT} {I : xI} {R : xR} {L : xL} {Q : xT → xR → Prop} (hw : wx_X2_init X o T I R L Q) : CtX X yX2_init cX2_init 1 none (rmX 1 1 192 20) [aR (some o)] T I R L (PXvTR T I R L Q) := by
  refine CtX.intro (by decide) (Nat.le_of_ble_eq_true rfl) (fun E hE hR hN => ?_)
  have hRm := hR.rm
  have hE : OkX E X RX2 cX2_init 1 none := hE
  have hE1 := hE.1
  have hI : isInit E := hN
  show GX E X T I R L 0 0 0 [some (aR (some o))] []
  unfold wx_X2_init at hw
  intro hok
  refine g_aldn0 hE1 dX2_init_0 ?_
  refine gx_objInit hE hRm rfl q273 q151 q152 (by decide) (by decide) (Nat.le_of_ble_eq_true rfl) dX2_init_1 ?_ hok
  intro hok
  refine g_aldn0 hE1 dX2_init_4 ?_
  refine g_sipush hE1 dX2_init_5 (by decide) ?_
  refine gx_newa_int hE hRm (N := 192) q249 rfl (by decide) (by decide) (by decide) dX2_init_8 (fun q1 hq2 hbs3 => ?_) hok
  intro hok
  have hw := hw q1 hq2 hbs3 _ rfl
  have hl5 := tle.new (T := T) (q := q1) (t := 100) (n := 192) hq2
  have hT6 : xtag (xnew T q1 100 192) q1 = 100 := if_pos rfl
  generalize xnew T q1 100 192 = T4 at hw hl5 hok hT6 ⊢
  obtain ⟨ht7, hw⟩ := hw
  refine gx_putrF hE in_X2 (t := 6) rfl (by decide) 0 0 rfl (by decide) rfl (by decide) (ty := tyX2 0) tyX2 tyX2_ok nmX2 rfl q274 (Or.inl rfl) rfl hI rfl (tyX2_ok 0 (by decide)) nar_a fit_a ht7 dX2_init_10 ?_ hok
  intro hok
  have hw := hw _ rfl
  generalize uR R o 0 (some q1) = R8 at hw hok ⊢
  exact gx_vret hE hR dX2_init_13 (by decide) (by decide) ⟨rfl, rfl, rfl, hl5, hw⟩ hok

/-- WhalingLogs$Listing.<init>()V -/
def wx_X3_init (X : XT) (o : Nat)  (T : xT) (I : xI) (R : xR) (L : xL) (Q : xT → xR → Prop) : Prop :=
  ∀ q1 : Nat, xtag T q1 = 0 → bsX X ≤ q1 → ∀ T4 : xT, T4 = xnew T q1 104 30 →
  xtag T4 o = 7 ∧ ∀ R8 : xR, R8 = uR R o 0 (some q1) →
  ∀ q9 : Nat, xtag T4 q9 = 0 → bsX X ≤ q9 → ∀ T12 : xT, T12 = xnew T4 q9 100 30 →
  ∀ R16 : xR, R16 = uR R8 o 1 (some q9) →
  ∀ q17 : Nat, xtag T12 q17 = 0 → bsX X ≤ q17 → ∀ T20 : xT, T20 = xnew T12 q17 100 30 →
  ∀ R24 : xR, R24 = uR R16 o 2 (some q17) →
  ∀ q25 : Nat, xtag T20 q25 = 0 → bsX X ≤ q25 → ∀ T28 : xT, T28 = xnew T20 q25 100 5760 →
  ∀ R32 : xR, R32 = uR R24 o 3 (some q25) →
  ∀ q33 : Nat, xtag T28 q33 = 0 → bsX X ≤ q33 → ∀ T36 : xT, T36 = xnew T28 q33 100 30 →
  ∀ R40 : xR, R40 = uR R32 o 4 (some q33) →
  ∀ q41 : Nat, xtag T36 q41 = 0 → bsX X ≤ q41 → ∀ T44 : xT, T44 = xnew T36 q41 100 30 →
  ∀ R48 : xR, R48 = uR R40 o 5 (some q41) →
  Q T44 R48
theorem hx_X3_init : yX3_init.cls ≠ "java/lang/invoke/MethodHandle" ∧ yX3_init.cls ≠ "java/lang/invoke/VarHandle" ∧ (parseMethodDescriptor yX3_init.desc).map (fun d => d.parameters.length) = some 0 := by decide +kernel
set_option maxHeartbeats 4000000 in
theorem tx_X3_init (X : XT) {o : Nat}  {T : xT} {I : xI} {R : xR} {L : xL} {Q : xT → xR → Prop} (hw : wx_X3_init X o T I R L Q) : CtX X yX3_init cX3_init 1 none (rmX 1 6 5910 20) [aR (some o)] T I R L (PXvTR T I R L Q) := by
  refine CtX.intro (by decide) (Nat.le_of_ble_eq_true rfl) (fun E hE hR hN => ?_)
  have hRm := hR.rm
  have hE : OkX E X RX3 cX3_init 1 none := hE
  have hE1 := hE.1
  have hI : isInit E := hN
  show GX E X T I R L 0 0 0 [some (aR (some o))] []
  unfold wx_X3_init at hw
  intro hok
  refine g_aldn0 hE1 dX3_init_0 ?_
  refine gx_objInit hE hRm rfl q283 q151 q152 (by decide) (by decide) (Nat.le_of_ble_eq_true rfl) dX3_init_1 ?_ hok
  intro hok
  refine g_aldn0 hE1 dX3_init_4 ?_
  refine g_bipush hE1 dX3_init_5 (by decide) ?_
  refine gx_newq_E hE hRm (N := 30) q284 rfl (by decide) (by decide) (by decide) dX3_init_7 (fun q1 hq2 hbs3 => ?_) hok
  intro hok
  have hw := hw q1 hq2 hbs3 _ rfl
  have hl5 := tle.new (T := T) (q := q1) (t := 104) (n := 30) hq2
  have hT6 : xtag (xnew T q1 104 30) q1 = 104 := if_pos rfl
  generalize xnew T q1 104 30 = T4 at hw hl5 hok hT6 ⊢
  obtain ⟨ht7, hw⟩ := hw
  refine gx_putrF hE in_X3 (t := 7) rfl (by decide) 0 0 rfl (by decide) rfl (by decide) (ty := tyX3 0) tyX3 tyX3_ok nmX3 rfl q286 (Or.inl rfl) rfl hI rfl (tyX3_ok 0 (by decide)) nar_a fit_a ht7 dX3_init_10 ?_ hok
  intro hok
  have hw := hw _ rfl
  generalize uR R o 0 (some q1) = R8 at hw hok ⊢
  refine g_aldn0 hE1 dX3_init_13 ?_
  refine g_bipush hE1 dX3_init_14 (by decide) ?_
  refine gx_newa_int hE hRm (N := 30) q249 rfl (by decide) (by decide) (by decide) dX3_init_16 (fun q9 hq10 hbs11 => ?_) hok
  intro hok
  have hw := hw q9 hq10 hbs11 _ rfl
  have hl13 := tle.new (T := T4) (q := q9) (t := 100) (n := 30) hq10
  have hT14 : xtag (xnew T4 q9 100 30) q9 = 100 := if_pos rfl
  generalize xnew T4 q9 100 30 = T12 at hw hl13 hok hT14 ⊢
  have ht15 := hl13.tag ht7 (by decide)
  refine gx_putrF hE in_X3 (t := 7) rfl (by decide) 1 1 rfl (by decide) rfl (by decide) (ty := tyX3 1) tyX3 tyX3_ok nmX3 rfl q288 (Or.inl rfl) rfl hI rfl (tyX3_ok 1 (by decide)) nar_a fit_a ht15 dX3_init_18 ?_ hok
  intro hok
  have hw := hw _ rfl
  generalize uR R8 o 1 (some q9) = R16 at hw hok ⊢
  refine g_aldn0 hE1 dX3_init_21 ?_
  refine g_bipush hE1 dX3_init_22 (by decide) ?_
  refine gx_newa_int hE hRm (N := 30) q249 rfl (by decide) (by decide) (by decide) dX3_init_24 (fun q17 hq18 hbs19 => ?_) hok
  intro hok
  have hw := hw q17 hq18 hbs19 _ rfl
  have hl21 := tle.new (T := T12) (q := q17) (t := 100) (n := 30) hq18
  have hT22 : xtag (xnew T12 q17 100 30) q17 = 100 := if_pos rfl
  generalize xnew T12 q17 100 30 = T20 at hw hl21 hok hT22 ⊢
  have ht23 := (hl13.tr hl21).tag ht7 (by decide)
  refine gx_putrF hE in_X3 (t := 7) rfl (by decide) 2 2 rfl (by decide) rfl (by decide) (ty := tyX3 2) tyX3 tyX3_ok nmX3 rfl q290 (Or.inl rfl) rfl hI rfl (tyX3_ok 2 (by decide)) nar_a fit_a ht23 dX3_init_26 ?_ hok
  intro hok
  have hw := hw _ rfl
  generalize uR R16 o 2 (some q17) = R24 at hw hok ⊢
  refine g_aldn0 hE1 dX3_init_29 ?_
  refine g_sipush hE1 dX3_init_30 (by decide) ?_
  refine gx_newa_int hE hRm (N := 5760) q249 rfl (by decide) (by decide) (by decide) dX3_init_33 (fun q25 hq26 hbs27 => ?_) hok
  intro hok
  have hw := hw q25 hq26 hbs27 _ rfl
  have hl29 := tle.new (T := T20) (q := q25) (t := 100) (n := 5760) hq26
  have hT30 : xtag (xnew T20 q25 100 5760) q25 = 100 := if_pos rfl
  generalize xnew T20 q25 100 5760 = T28 at hw hl29 hok hT30 ⊢
  have ht31 := ((hl13.tr hl21).tr hl29).tag ht7 (by decide)
  refine gx_putrF hE in_X3 (t := 7) rfl (by decide) 3 3 rfl (by decide) rfl (by decide) (ty := tyX3 3) tyX3 tyX3_ok nmX3 rfl q292 (Or.inl rfl) rfl hI rfl (tyX3_ok 3 (by decide)) nar_a fit_a ht31 dX3_init_35 ?_ hok
  intro hok
  have hw := hw _ rfl
  generalize uR R24 o 3 (some q25) = R32 at hw hok ⊢
  refine g_aldn0 hE1 dX3_init_38 ?_
  refine g_bipush hE1 dX3_init_39 (by decide) ?_
  refine gx_newa_int hE hRm (N := 30) q249 rfl (by decide) (by decide) (by decide) dX3_init_41 (fun q33 hq34 hbs35 => ?_) hok
  intro hok
  have hw := hw q33 hq34 hbs35 _ rfl
  have hl37 := tle.new (T := T28) (q := q33) (t := 100) (n := 30) hq34
  have hT38 : xtag (xnew T28 q33 100 30) q33 = 100 := if_pos rfl
  generalize xnew T28 q33 100 30 = T36 at hw hl37 hok hT38 ⊢
  have ht39 := (((hl13.tr hl21).tr hl29).tr hl37).tag ht7 (by decide)
  refine gx_putrF hE in_X3 (t := 7) rfl (by decide) 4 4 rfl (by decide) rfl (by decide) (ty := tyX3 4) tyX3 tyX3_ok nmX3 rfl q293 (Or.inl rfl) rfl hI rfl (tyX3_ok 4 (by decide)) nar_a fit_a ht39 dX3_init_43 ?_ hok
  intro hok
  have hw := hw _ rfl
  generalize uR R32 o 4 (some q33) = R40 at hw hok ⊢
  refine g_aldn0 hE1 dX3_init_46 ?_
  refine g_bipush hE1 dX3_init_47 (by decide) ?_
  refine gx_newa_int hE hRm (N := 30) q249 rfl (by decide) (by decide) (by decide) dX3_init_49 (fun q41 hq42 hbs43 => ?_) hok
  intro hok
  have hw := hw q41 hq42 hbs43 _ rfl
  have hl45 := tle.new (T := T36) (q := q41) (t := 100) (n := 30) hq42
  have hT46 : xtag (xnew T36 q41 100 30) q41 = 100 := if_pos rfl
  generalize xnew T36 q41 100 30 = T44 at hw hl45 hok hT46 ⊢
  have ht47 := ((((hl13.tr hl21).tr hl29).tr hl37).tr hl45).tag ht7 (by decide)
  refine gx_putrF hE in_X3 (t := 7) rfl (by decide) 5 5 rfl (by decide) rfl (by decide) (ty := tyX3 5) tyX3 tyX3_ok nmX3 rfl q294 (Or.inl rfl) rfl hI rfl (tyX3_ok 5 (by decide)) nar_a fit_a ht47 dX3_init_51 ?_ hok
  intro hok
  have hw := hw _ rfl
  generalize uR R40 o 5 (some q41) = R48 at hw hok ⊢
  exact gx_vret hE hR dX3_init_54 (by decide) (by decide) ⟨rfl, rfl, rfl, (((((hl5.tr hl13).tr hl21).tr hl29).tr hl37).tr hl45), hw⟩ hok

/-- java/lang/AbstractStringBuilder.<init>(I)V -/
def wx_J6_init_J7 (X : XT) (o : Nat) (x1 : Int) (T : xT) (I : xI) (R : xR) (L : xL) (Q : xT → xI → xR → Prop) : Prop :=
  ∃ N4 : Nat, x1 = (N4 : Int) ∧ N4 ≤ 1000000 ∧ 0 + N4 ≤ 16 ∧ ∀ q1 : Nat, xtag T q1 = 0 → bsX X ≤ q1 → ∀ T8 : xT, T8 = xnew T q1 101 N4 →
  xtag T8 o = 8 ∧ ∀ R12 : xR, R12 = uR R o 0 (some q1) →
  ∀ I13 : xI, I13 = uI I o 1 0 →
  Q T8 I13 R12
theorem hx_J6_init_J7 : yJ6_init.cls ≠ "java/lang/invoke/MethodHandle" ∧ yJ6_init.cls ≠ "java/lang/invoke/VarHandle" ∧ (parseMethodDescriptor yJ6_init.desc).map (fun d => d.parameters.length) = some 1 := by decide +kernel
set_option maxHeartbeats 4000000 in
theorem tx_J6_init_J7 (X : XT) {o : Nat} {x1 : Int} {T : xT} {I : xI} {R : xR} {L : xL} {Q : xT → xI → xR → Prop} (hw : wx_J6_init_J7 X o x1 T I R L Q) : CtX X yJ6_init cJ6_init 2 none (rmX 1 1 16 20) [aR (some o), aI x1] T I R L (PXvTIR T I R L Q) := by
  refine CtX.intro (by decide) (Nat.le_of_ble_eq_true rfl) (fun E hE hR hN => ?_)
  have hRm := hR.rm
  have hE : OkX E X RJ6 cJ6_init 2 none := hE
  have hE1 := hE.1
  have hI : isInit E := hN
  show GX E X T I R L 0 0 0 [some (aR (some o)), some (aI x1)] []
  unfold wx_J6_init_J7 at hw
  intro hok
  refine g_aldn0 hE1 dJ6_init_0 ?_
  refine gx_objInit hE hRm rfl q328 q151 q152 (by decide) (by decide) (Nat.le_of_ble_eq_true rfl) dJ6_init_1 ?_ hok
  intro hok
  refine gx_gets_i hE (List.mem_of_getElem? (i := 1) rfl : ("java/lang/String", "COMPACT_STRINGS", "Z", Sum.inl (1 : Int)) ∈ stL) q329 dJ6_init_4 ?_ hok
  intro hok
  refine g_if_eq hE1 (tgt := 25) dJ6_init_7 (by decide) (by decide) (fun q => absurd q (by decide)) (fun _ => ?_)
  refine g_aldn0 hE1 dJ6_init_10 ?_
  refine g_ildn1 hE1 dJ6_init_11 ?_
  obtain ⟨N4, h5, h6, hw⟩ := hw
  obtain ⟨hc7, hw⟩ := hw
  refine gx_newa_byte hE hRm (N := N4) q352 h5 h6 (by decide) hc7 dJ6_init_12 (fun q1 hq2 hbs3 => ?_) hok
  intro hok
  have hw := hw q1 hq2 hbs3 _ rfl
  have hl9 := tle.new (T := T) (q := q1) (t := 101) (n := N4) hq2
  have hT10 : xtag (xnew T q1 101 N4) q1 = 101 := if_pos rfl
  generalize xnew T q1 101 N4 = T8 at hw hl9 hok hT10 ⊢
  obtain ⟨ht11, hw⟩ := hw
  refine gx_putr hE in_J7 (t := 8) rfl (by decide) 0 0 rfl (by decide) rfl (by decide) (ty := tyJ7 0) tyJ7 tyJ7_ok nmJ7 rfl q338 (Or.inl rfl) rfl (tyJ7_ok 0 (by decide)) nar_a fit_a ht11 dJ6_init_14 ?_ hok
  intro hok
  have hw := hw _ rfl
  generalize uR R o 0 (some q1) = R12 at hw hok ⊢
  refine g_aldn0 hE1 dJ6_init_17 ?_
  refine g_iconst hE1 dJ6_init_18 ?_
  refine gx_puti hE in_J7 (t := 8) rfl (by decide) 1 1 rfl (by decide) rfl (by decide) (ty := tyJ7 1) tyJ7 tyJ7_ok nmJ7 rfl q339 (Or.inl rfl) rfl (tyJ7_ok 1 (by decide)) (narrow_by (by decide)) (fits_by (by decide)) ht11 dJ6_init_19 ?_ hok
  intro hok
  have hw := hw _ rfl
  generalize uI I o 1 0 = I13 at hw hok ⊢
  refine g_goto hE1 (tgt := 38) dJ6_init_22 (by decide) ?_
  exact gx_vret hE hR dJ6_init_38 (by decide) (show 0 + N4 ≤ 16 by omega) ⟨rfl, rfl, hl9, hw⟩ hok

/-- java/lang/StringBuilder.<init>()V -/
def wx_J7_init (X : XT) (o : Nat)  (T : xT) (I : xI) (R : xR) (L : xL) (Q : xT → xI → xR → Prop) : Prop :=
  wx_J6_init_J7 X o 16 T I R L (fun (T1 : xT) (I2 : xI) (R3 : xR) => tle T T1 → 
  Q T1 I2 R3)
theorem hx_J7_init : yJ7_init.cls ≠ "java/lang/invoke/MethodHandle" ∧ yJ7_init.cls ≠ "java/lang/invoke/VarHandle" ∧ (parseMethodDescriptor yJ7_init.desc).map (fun d => d.parameters.length) = some 0 := by decide +kernel
set_option maxHeartbeats 4000000 in
theorem tx_J7_init (X : XT) {o : Nat}  {T : xT} {I : xI} {R : xR} {L : xL} {Q : xT → xI → xR → Prop} (hw : wx_J7_init X o T I R L Q) : CtX X yJ7_init cJ7_init 1 none (rmX 2 1 16 41) [aR (some o)] T I R L (PXvTIR T I R L Q) := by
  refine CtX.intro (by decide) (Nat.le_of_ble_eq_true rfl) (fun E hE hR hN => ?_)
  have hRm := hR.rm
  have hE : OkX E X RJ7 cJ7_init 1 none := hE
  have hE1 := hE.1
  have hI : isInit E := hN
  show GX E X T I R L 0 0 0 [some (aR (some o))] []
  unfold wx_J7_init at hw
  intro hok
  refine g_aldn0 hE1 dJ7_init_0 ?_
  refine g_bipush hE1 dJ7_init_1 (by decide) ?_
  refine gx_callI hE hRm (As := [aI 16]) (b := o) hx_J6_init_J7 (lw_meth q327) q325 q104 q326 rfl (tx_J6_init_J7 X hw) ⟨by decide, by decide⟩ ⟨(by decide), (by decide)⟩ rfl (Nat.le_of_ble_eq_true rfl) dJ7_init_3 rfl (fun r9 T1 I2 R3 Lz hΦ => ?_) hok
  obtain ⟨rfl, rfl, hl4, hw⟩ := hΦ
  have hw := hw hl4
  show GX E X T1 I2 R3 L 1 16 6 [some (aR (some o))] []
  intro hok
  exact gx_vret hE hR dJ7_init_6 (by decide) (by decide) ⟨rfl, rfl, hl4, hw⟩ hok

/-- WhalingLogs.<init>()V -/
def wx_X0_init (X : XT) (o : Nat)  (T : xT) (I : xI) (R : xR) (L : xL) (Q : xT → xI → xR → Prop) : Prop :=
  ∀ q1 : Nat, xtag T q1 = 0 → bsX X ≤ q1 → ∀ T4 : xT, T4 = xnew T q1 2 0 →
  wx_X1_init X q1 T4 I R L (fun (T7 : xT) (I8 : xI) (R9 : xR) => tle T4 T7 → 
  xtag T7 o = 1 ∧ ∀ R12 : xR, R12 = uR R9 o 0 (some q1) →
  ∀ q13 : Nat, xtag T7 q13 = 0 → bsX X ≤ q13 → ∀ T16 : xT, T16 = xnew T7 q13 5 0 →
  wx_J5_init X q13 T16 I8 R12 L (fun (T19 : xT) (R20 : xR) => tle T16 T19 → 
  ∀ R23 : xR, R23 = uR R20 o 2 (some q13) →
  ∀ q24 : Nat, xtag T19 q24 = 0 → bsX X ≤ q24 → ∀ T27 : xT, T27 = xnew T19 q24 6 0 →
  wx_X2_init X q24 T27 I8 R23 L (fun (T30 : xT) (R31 : xR) => tle T27 T30 → 
  ∀ R34 : xR, R34 = uR R31 o 5 (some q24) →
  ∀ q35 : Nat, xtag T30 q35 = 0 → bsX X ≤ q35 → ∀ T38 : xT, T38 = xnew T30 q35 7 0 →
  wx_X3_init X q35 T38 I8 R34 L (fun (T41 : xT) (R42 : xR) => tle T38 T41 → 
  ∀ R45 : xR, R45 = uR R42 o 6 (some q35) →
  ∀ q46 : Nat, xtag T41 q46 = 0 → bsX X ≤ q46 → ∀ T49 : xT, T49 = xnew T41 q46 100 192 →
  ∀ R53 : xR, R53 = uR R45 o 7 (some q46) →
  ∀ q54 : Nat, xtag T49 q54 = 0 → bsX X ≤ q54 → ∀ T57 : xT, T57 = xnew T49 q54 8 0 →
  wx_J7_init X q54 T57 I8 R53 L (fun (T60 : xT) (I61 : xI) (R62 : xR) => tle T57 T60 → 
  ∀ R65 : xR, R65 = uR R62 o 8 (some q54) →
  ∀ q66 : Nat, xtag T60 q66 = 0 → bsX X ≤ q66 → ∀ T69 : xT, T69 = xnew T60 q66 8 0 →
  wx_J7_init X q66 T69 I61 R65 L (fun (T72 : xT) (I73 : xI) (R74 : xR) => tle T69 T72 → 
  ∀ R77 : xR, R77 = uR R74 o 9 (some q66) →
  Q T72 I73 R77))))))
theorem hx_X0_init : yX0_init.cls ≠ "java/lang/invoke/MethodHandle" ∧ yX0_init.cls ≠ "java/lang/invoke/VarHandle" ∧ (parseMethodDescriptor yX0_init.desc).map (fun d => d.parameters.length) = some 0 := by decide +kernel
set_option maxHeartbeats 4000000 in
theorem tx_X0_init (X : XT) {o : Nat}  {T : xT} {I : xI} {R : xR} {L : xL} {Q : xT → xI → xR → Prop} (hw : wx_X0_init X o T I R L Q) : CtX X yX0_init cX0_init 1 none (rmX 6 22 6389 120) [aR (some o)] T I R L (PXvTIR T I R L Q) := by
  refine CtX.intro (by decide) (Nat.le_of_ble_eq_true rfl) (fun E hE hR hN => ?_)
  have hRm := hR.rm
  have hE : OkX E X RX0 cX0_init 1 none := hE
  have hE1 := hE.1
  have hI : isInit E := hN
  show GX E X T I R L 0 0 0 [some (aR (some o))] []
  unfold wx_X0_init at hw
  intro hok
  refine g_aldn0 hE1 dX0_init_0 ?_
  refine gx_objInit hE hRm rfl q150 q151 q152 (by decide) (by decide) (Nat.le_of_ble_eq_true rfl) dX0_init_1 ?_ hok
  intro hok
  refine g_aldn0 hE1 dX0_init_4 ?_
  refine gx_new hE hRm in_X1 tyX1 tyX1_ok (t := 2) rfl (by decide) (by decide) rfl (by decide) q153 q154 q95 (by decide) (by decide) dX0_init_5 (fun q1 hq2 hbs3 => ?_) hok
  intro hok
  have hw := hw q1 hq2 hbs3 _ rfl
  have hl5 := tle.new (T := T) (q := q1) (t := 2) (n := 0) hq2
  have hT6 : xtag (xnew T q1 2 0) q1 = 2 := if_pos rfl
  generalize xnew T q1 2 0 = T4 at hw hl5 hok hT6 ⊢
  refine g_dup hE1 dX0_init_8 rfl ?_
  refine gx_callIN hE hRm (As := []) (b := q1) hx_X1_init (lw_meth q157) q155 q95 q156 rfl (tx_X1_init X hw) ⟨by decide, by decide⟩ ⟨(by decide), (by decide)⟩ rfl (Nat.le_of_ble_eq_true rfl) dX0_init_9 rfl (fun r9 T7 I8 R9 Lz hΦ => ?_) hok
  obtain ⟨rfl, rfl, hl10, hw⟩ := hΦ
  have hw := hw hl10
  show GX E X T7 I8 R9 L 6 25 12 [some (aR (some o))] [aR (some q1), aR (some o)]
  intro hok
  obtain ⟨ht11, hw⟩ := hw
  refine gx_putr hE in_X0 (t := 1) rfl (by decide) 0 0 rfl (by decide) rfl (by decide) (ty := tyX0 0) tyX0 tyX0_ok nmX0 rfl q353 (Or.inl rfl) rfl (tyX0_ok 0 (by decide)) nar_o fit_o ht11 dX0_init_12 ?_ hok
  intro hok
  have hw := hw _ rfl
  generalize uR R9 o 0 (some q1) = R12 at hw hok ⊢
  refine g_aldn0 hE1 dX0_init_15 ?_
  refine gx_new hE hRm in_J5 tyJ5 tyJ5_ok (t := 5) rfl (by decide) (by decide) rfl (by decide) q250 q251 q101 (by decide) (by decide) dX0_init_16 (fun q13 hq14 hbs15 => ?_) hok
  intro hok
  have hw := hw q13 hq14 hbs15 _ rfl
  have hl17 := tle.new (T := T7) (q := q13) (t := 5) (n := 0) hq14
  have hT18 : xtag (xnew T7 q13 5 0) q13 = 5 := if_pos rfl
  generalize xnew T7 q13 5 0 = T16 at hw hl17 hok hT18 ⊢
  refine g_dup hE1 dX0_init_19 rfl ?_
  refine gx_callI hE hRm (As := []) (b := q13) hx_J5_init (lw_meth q254) q252 q101 q253 rfl (tx_J5_init X hw) ⟨by decide, by decide⟩ ⟨(by decide), (by decide)⟩ rfl (Nat.le_of_ble_eq_true rfl) dX0_init_20 rfl (fun r9 T19 Iz R20 Lz hΦ => ?_) hok
  obtain ⟨rfl, rfl, rfl, hl21, hw⟩ := hΦ
  have hw := hw hl21
  show GX E X T19 I8 R20 L 8 45 23 [some (aR (some o))] [aR (some q13), aR (some o)]
  intro hok
  have ht22 := (hl17.tr hl21).tag ht11 (by decide)
  refine gx_putrF hE in_X0 (t := 1) rfl (by decide) 2 2 rfl (by decide) rfl (by decide) (ty := tyX0 2) tyX0 tyX0_ok nmX0 rfl q355 (Or.inl rfl) rfl hI rfl (tyX0_ok 2 (by decide)) nar_o fit_o ht22 dX0_init_23 ?_ hok
  intro hok
  have hw := hw _ rfl
  generalize uR R20 o 2 (some q13) = R23 at hw hok ⊢
  refine g_aldn0 hE1 dX0_init_26 ?_
  refine gx_new hE hRm in_X2 tyX2 tyX2_ok (t := 6) rfl (by decide) (by decide) rfl (by decide) q268 q269 q102 (by decide) (by decide) dX0_init_27 (fun q24 hq25 hbs26 => ?_) hok
  intro hok
  have hw := hw q24 hq25 hbs26 _ rfl
  have hl28 := tle.new (T := T19) (q := q24) (t := 6) (n := 0) hq25
  have hT29 : xtag (xnew T19 q24 6 0) q24 = 6 := if_pos rfl
  generalize xnew T19 q24 6 0 = T27 at hw hl28 hok hT29 ⊢
  refine g_dup hE1 dX0_init_30 rfl ?_
  refine gx_callIN hE hRm (As := []) (b := q24) hx_X2_init (lw_meth q272) q270 q102 q271 rfl (tx_X2_init X hw) ⟨by decide, by decide⟩ ⟨(by decide), (by decide)⟩ rfl (Nat.le_of_ble_eq_true rfl) dX0_init_31 rfl (fun r9 T30 Iz R31 Lz hΦ => ?_) hok
  obtain ⟨rfl, rfl, rfl, hl32, hw⟩ := hΦ
  have hw := hw hl32
  show GX E X T30 I8 R31 L 10 238 34 [some (aR (some o))] [aR (some q24), aR (some o)]
  intro hok
  have ht33 := (((hl17.tr hl21).tr hl28).tr hl32).tag ht11 (by decide)
  refine gx_putrF hE in_X0 (t := 1) rfl (by decide) 5 5 rfl (by decide) rfl (by decide) (ty := tyX0 5) tyX0 tyX0_ok nmX0 rfl q358 (Or.inl rfl) rfl hI rfl (tyX0_ok 5 (by decide)) nar_o fit_o ht33 dX0_init_34 ?_ hok
  intro hok
  have hw := hw _ rfl
  generalize uR R31 o 5 (some q24) = R34 at hw hok ⊢
  refine g_aldn0 hE1 dX0_init_37 ?_
  refine gx_new hE hRm in_X3 tyX3 tyX3_ok (t := 7) rfl (by decide) (by decide) rfl (by decide) q278 q279 q103 (by decide) (by decide) dX0_init_38 (fun q35 hq36 hbs37 => ?_) hok
  intro hok
  have hw := hw q35 hq36 hbs37 _ rfl
  have hl39 := tle.new (T := T30) (q := q35) (t := 7) (n := 0) hq36
  have hT40 : xtag (xnew T30 q35 7 0) q35 = 7 := if_pos rfl
  generalize xnew T30 q35 7 0 = T38 at hw hl39 hok hT40 ⊢
  refine g_dup hE1 dX0_init_41 rfl ?_
  refine gx_callIN hE hRm (As := []) (b := q35) hx_X3_init (lw_meth q282) q280 q103 q281 rfl (tx_X3_init X hw) ⟨by decide, by decide⟩ ⟨(by decide), (by decide)⟩ rfl (Nat.le_of_ble_eq_true rfl) dX0_init_42 rfl (fun r9 T41 Iz R42 Lz hΦ => ?_) hok
  obtain ⟨rfl, rfl, rfl, hl43, hw⟩ := hΦ
  have hw := hw hl43
  show GX E X T41 I8 R42 L 17 6157 45 [some (aR (some o))] [aR (some q35), aR (some o)]
  intro hok
  have ht44 := (((((hl17.tr hl21).tr hl28).tr hl32).tr hl39).tr hl43).tag ht11 (by decide)
  refine gx_putrF hE in_X0 (t := 1) rfl (by decide) 6 6 rfl (by decide) rfl (by decide) (ty := tyX0 6) tyX0 tyX0_ok nmX0 rfl q359 (Or.inl rfl) rfl hI rfl (tyX0_ok 6 (by decide)) nar_o fit_o ht44 dX0_init_45 ?_ hok
  intro hok
  have hw := hw _ rfl
  generalize uR R42 o 6 (some q35) = R45 at hw hok ⊢
  refine g_aldn0 hE1 dX0_init_48 ?_
  refine g_sipush hE1 dX0_init_49 (by decide) ?_
  refine gx_newa_int hE hRm (N := 192) q249 rfl (by decide) (by decide) (by decide) dX0_init_52 (fun q46 hq47 hbs48 => ?_) hok
  intro hok
  have hw := hw q46 hq47 hbs48 _ rfl
  have hl50 := tle.new (T := T41) (q := q46) (t := 100) (n := 192) hq47
  have hT51 : xtag (xnew T41 q46 100 192) q46 = 100 := if_pos rfl
  generalize xnew T41 q46 100 192 = T49 at hw hl50 hok hT51 ⊢
  have ht52 := ((((((hl17.tr hl21).tr hl28).tr hl32).tr hl39).tr hl43).tr hl50).tag ht11 (by decide)
  refine gx_putrF hE in_X0 (t := 1) rfl (by decide) 7 7 rfl (by decide) rfl (by decide) (ty := tyX0 7) tyX0 tyX0_ok nmX0 rfl q360 (Or.inl rfl) rfl hI rfl (tyX0_ok 7 (by decide)) nar_a fit_a ht52 dX0_init_54 ?_ hok
  intro hok
  have hw := hw _ rfl
  generalize uR R45 o 7 (some q46) = R53 at hw hok ⊢
  refine g_aldn0 hE1 dX0_init_57 ?_
  refine gx_new hE hRm in_J7 tyJ7 tyJ7_ok (t := 8) rfl (by decide) (by decide) rfl (by decide) q320 q321 q105 (by decide) (by decide) dX0_init_58 (fun q54 hq55 hbs56 => ?_) hok
  intro hok
  have hw := hw q54 hq55 hbs56 _ rfl
  have hl58 := tle.new (T := T49) (q := q54) (t := 8) (n := 0) hq55
  have hT59 : xtag (xnew T49 q54 8 0) q54 = 8 := if_pos rfl
  generalize xnew T49 q54 8 0 = T57 at hw hl58 hok hT59 ⊢
  refine g_dup hE1 dX0_init_61 rfl ?_
  refine gx_callI hE hRm (As := []) (b := q54) hx_J7_init (lw_meth q324) q322 q105 q323 rfl (tx_J7_init X hw) ⟨by decide, by decide⟩ ⟨(by decide), (by decide)⟩ rfl (Nat.le_of_ble_eq_true rfl) dX0_init_62 rfl (fun r9 T60 I61 R62 Lz hΦ => ?_) hok
  obtain ⟨rfl, rfl, hl63, hw⟩ := hΦ
  have hw := hw hl63
  show GX E X T60 I61 R62 L 20 6369 65 [some (aR (some o))] [aR (some q54), aR (some o)]
  intro hok
  have ht64 := ((((((((hl17.tr hl21).tr hl28).tr hl32).tr hl39).tr hl43).tr hl50).tr hl58).tr hl63).tag ht11 (by decide)
  refine gx_putrF hE in_X0 (t := 1) rfl (by decide) 8 8 rfl (by decide) rfl (by decide) (ty := tyX0 8) tyX0 tyX0_ok nmX0 rfl q361 (Or.inl rfl) rfl hI rfl (tyX0_ok 8 (by decide)) nar_o fit_o ht64 dX0_init_65 ?_ hok
  intro hok
  have hw := hw _ rfl
  generalize uR R62 o 8 (some q54) = R65 at hw hok ⊢
  refine g_aldn0 hE1 dX0_init_68 ?_
  refine gx_new hE hRm in_J7 tyJ7 tyJ7_ok (t := 8) rfl (by decide) (by decide) rfl (by decide) q320 q321 q105 (by decide) (by decide) dX0_init_69 (fun q66 hq67 hbs68 => ?_) hok
  intro hok
  have hw := hw q66 hq67 hbs68 _ rfl
  have hl70 := tle.new (T := T60) (q := q66) (t := 8) (n := 0) hq67
  have hT71 : xtag (xnew T60 q66 8 0) q66 = 8 := if_pos rfl
  generalize xnew T60 q66 8 0 = T69 at hw hl70 hok hT71 ⊢
  refine g_dup hE1 dX0_init_72 rfl ?_
  refine gx_callI hE hRm (As := []) (b := q66) hx_J7_init (lw_meth q324) q322 q105 q323 rfl (tx_J7_init X hw) ⟨by decide, by decide⟩ ⟨(by decide), (by decide)⟩ rfl (Nat.le_of_ble_eq_true rfl) dX0_init_73 rfl (fun r9 T72 I73 R74 Lz hΦ => ?_) hok
  obtain ⟨rfl, rfl, hl75, hw⟩ := hΦ
  have hw := hw hl75
  show GX E X T72 I73 R74 L 22 6389 76 [some (aR (some o))] [aR (some q66), aR (some o)]
  intro hok
  have ht76 := ((((((((((hl17.tr hl21).tr hl28).tr hl32).tr hl39).tr hl43).tr hl50).tr hl58).tr hl63).tr hl70).tr hl75).tag ht11 (by decide)
  refine gx_putrF hE in_X0 (t := 1) rfl (by decide) 9 9 rfl (by decide) rfl (by decide) (ty := tyX0 9) tyX0 tyX0_ok nmX0 rfl q362 (Or.inl rfl) rfl hI rfl (tyX0_ok 9 (by decide)) nar_o fit_o ht76 dX0_init_76 ?_ hok
  intro hok
  have hw := hw _ rfl
  generalize uR R74 o 9 (some q66) = R77 at hw hok ⊢
  exact gx_vret hE hR dX0_init_79 (by decide) (by decide) ⟨rfl, rfl, ((((((((((((hl5.tr hl10).tr hl17).tr hl21).tr hl28).tr hl32).tr hl39).tr hl43).tr hl50).tr hl58).tr hl63).tr hl70).tr hl75), hw⟩ hok

/-- WhalingLogs.isIn(III)Z -/
def wx_X0_isIn (X : XT) (x0 : Int) (x1 : Int) (x2 : Int) (T : xT) (I : xI) (R : xR) (L : xL) (Q : Int → Prop) : Prop :=
  jn1 (fun (y0_15 : Int) => 
      bl y0_15 ∧ Q y0_15)
    (fun (J_15 : Int → Prop) =>
    jn0 (
        J_15 0)
      (fun (J_14 : Prop) =>
      cLt x0 x1
        (
        J_14)
        (
        cLt x2 x0
          (
          J_14)
          (
          J_15 1))))
theorem hx_X0_isIn : yX0_isIn.cls ≠ "java/lang/invoke/MethodHandle" ∧ yX0_isIn.cls ≠ "java/lang/invoke/VarHandle" ∧ (parseMethodDescriptor yX0_isIn.desc).map (fun d => d.parameters.length) = some 3 := by decide +kernel
set_option maxHeartbeats 4000000 in
theorem tx_X0_isIn (X : XT) {x0 : Int} {x1 : Int} {x2 : Int} {T : xT} {I : xI} {R : xR} {L : xL} {Q : Int → Prop} (hw : wx_X0_isIn X x0 x1 x2 T I R L Q) : CtX X yX0_isIn cX0_isIn 3 (some .boolean) (rmX 0 0 0 0) [aI x0, aI x1, aI x2] T I R L (PXi T I R L Q) := by
  refine CtX.intro (by decide) (Nat.le_of_ble_eq_true rfl) (fun E hE hR hN => ?_)
  have hRm := hR.rm
  have hE : OkX E X RX0 cX0_isIn 3 (some .boolean) := hE
  have hE1 := hE.1
  show GX E X T I R L 0 0 0 [some (aI x0), some (aI x1), some (aI x2)] []
  unfold wx_X0_isIn at hw
  intro hok
  refine g_ildn0 hE1 dX0_isIn_0 ?_
  refine g_ildn1 hE1 dX0_isIn_1 ?_
  refine jn1_walk (fun (y0_15 : Int) => GX E X T I R L 0 0 15 [some (aI x0), some (aI x1), some (aI x2)] [aI y0_15]) hw (fun y0_15 hw => ?_) (fun J_15 hj_15 hw => ?_)
  · intro hok
    obtain ⟨h1, hw⟩ := hw
    exact gx_iret hE hR dX0_isIn_15 (by decide) (by decide) (narrow_bl h1) ⟨_, rfl, rfl, rfl, rfl, rfl, hw⟩ hok
  · skip
    refine jn0_walk (GX E X T I R L 0 0 14 [some (aI x0), some (aI x1), some (aI x2)] []) hw (fun  hw => ?_) (fun J_14 hj_14 hw => ?_)
    · intro hok
      refine g_iconst hE1 dX0_isIn_14 ?_
      exact hj_15 _ hw hok
    · skip
      obtain ⟨h6, h7, hT8, hN9⟩ := hw
      refine g_icmp_lt hE1 (tgt := 14) dX0_isIn_2 (by decide) h6 h7 (fun q => ?_) (fun q => ?_)
      · have hw := hT8 q
        exact hj_14  hw hok
      · have hw := hN9 q
        refine g_ildn0 hE1 dX0_isIn_5 ?_
        refine g_ildn2 hE1 dX0_isIn_6 ?_
        obtain ⟨h2, h3, hT4, hN5⟩ := hw
        refine g_icmp_gt hE1 (tgt := 14) dX0_isIn_7 (by decide) h3 h2 (fun q => ?_) (fun q => ?_)
        · have hw := hT4 q
          exact hj_14  hw hok
        · have hw := hN5 q
          refine g_iconst hE1 dX0_isIn_10 ?_
          refine g_goto hE1 (tgt := 15) dX0_isIn_11 (by decide) ?_
          exact hj_15 _ hw hok

/-- WhalingLogs.isCell(I)Z -/
def wx_X0_isCell (X : XT) (x0 : Int) (T : xT) (I : xI) (R : xR) (L : xL) (Q : Int → Prop) : Prop :=
  wx_X0_isIn X x0 0 191 T I R L (fun (r1 : Int) => 
  bl r1 ∧ Q r1)
theorem hx_X0_isCell : yX0_isCell.cls ≠ "java/lang/invoke/MethodHandle" ∧ yX0_isCell.cls ≠ "java/lang/invoke/VarHandle" ∧ (parseMethodDescriptor yX0_isCell.desc).map (fun d => d.parameters.length) = some 1 := by decide +kernel
set_option maxHeartbeats 4000000 in
theorem tx_X0_isCell (X : XT) {x0 : Int} {T : xT} {I : xI} {R : xR} {L : xL} {Q : Int → Prop} (hw : wx_X0_isCell X x0 T I R L Q) : CtX X yX0_isCell cX0_isCell 1 (some .boolean) (rmX 1 0 0 22) [aI x0] T I R L (PXi T I R L Q) := by
  refine CtX.intro (by decide) (Nat.le_of_ble_eq_true rfl) (fun E hE hR hN => ?_)
  have hRm := hR.rm
  have hE : OkX E X RX0 cX0_isCell 1 (some .boolean) := hE
  have hE1 := hE.1
  show GX E X T I R L 0 0 0 [some (aI x0)] []
  unfold wx_X0_isCell at hw
  intro hok
  refine g_ildn0 hE1 dX0_isCell_0 ?_
  refine g_iconst hE1 dX0_isCell_1 ?_
  refine g_sipush hE1 dX0_isCell_2 (by decide) ?_
  refine gx_callS hE hRm (As := [aI x0, aI 0, aI 191]) hx_X0_isIn (tx_X0_isIn X hw) (lw_S q392 q393 q94 q394) ⟨by decide, by decide⟩ ⟨(by decide), (by decide)⟩ rfl (Nat.le_of_ble_eq_true rfl) dX0_isCell_5 rfl (fun r9 Tz Iz Rz Lz hΦ => ?_) hok
  obtain ⟨r1, rfl, rfl, rfl, rfl, rfl, hw⟩ := hΦ
  show GX E X T I R L 0 0 8 [some (aI x0)] [aI r1]
  intro hok
  obtain ⟨h3, hw⟩ := hw
  exact gx_iret hE hR dX0_isCell_8 (by decide) (by decide) (narrow_bl h3) ⟨_, rfl, rfl, rfl, rfl, rfl, hw⟩ hok

/-- java/util/BitSet.ensureCapacity(I)V -/
def wx_J0_ensureCapacity (X : XT) (o : Nat) (x1 : Int) (T : xT) (I : xI) (R : xR) (L : xL) (Q : Prop) : Prop :=
  xtag T o = 3 ∧
  ∃ b2 : Nat, R o 0 = some b2 ∧ xtag T b2 = 102 ∧
  cLt (xlen T b2 : Int) x1
    (
    ∃ b5 : Nat, R o 0 = some b5 ∧ xtag T b5 = 102 ∧
    inR (2 * (xlen T b5 : Int)) ∧ inR x1 ∧
    False)
    (
    Q)
theorem hx_J0_ensureCapacity : yJ0_ensureCapacity.cls = RJ0 ∧ yJ0_ensureCapacity.cls ≠ "java/lang/invoke/MethodHandle" ∧ yJ0_ensureCapacity.cls ≠ "java/lang/invoke/VarHandle" ∧ (parseMethodDescriptor yJ0_ensureCapacity.desc).map (fun d => d.parameters.length) = some 1 := by decide +kernel
set_option maxHeartbeats 4000000 in
theorem tx_J0_ensureCapacity (X : XT) {o : Nat} {x1 : Int} {T : xT} {I : xI} {R : xR} {L : xL} {Q : Prop} (hw : wx_J0_ensureCapacity X o x1 T I R L Q) : CtX X yJ0_ensureCapacity cJ0_ensureCapacity 3 none (rmX 1 0 0 64) [aR (some o), aI x1] T I R L (PXv T I R L Q) := by
  refine CtX.intro (by decide) (Nat.le_of_ble_eq_true rfl) (fun E hE hR hN => ?_)
  have hRm := hR.rm
  have hE : OkX E X RJ0 cJ0_ensureCapacity 3 none := hE
  have hE1 := hE.1
  show GX E X T I R L 0 0 0 [some (aR (some o)), some (aI x1), none] []
  unfold wx_J0_ensureCapacity at hw
  intro hok
  refine g_aldn0 hE1 dJ0_ensureCapacity_0 ?_
  obtain ⟨ht1, hw⟩ := hw
  refine gx_getr hE in_J0 (t := 3) rfl (by decide) 0 0 rfl (by decide) rfl (by decide) rfl q172 (Or.inl rfl) ht1 dJ0_ensureCapacity_1 ?_ hok
  intro hok
  obtain ⟨b2, hb3, hw⟩ := hw
  rw [hb3]
  obtain ⟨ht4, hw⟩ := hw
  refine gx_alen hE ht4 (by decide) dJ0_ensureCapacity_4 ?_ hok
  intro hok
  refine g_ildn1 hE1 dJ0_ensureCapacity_5 ?_
  obtain ⟨h10, h11, hT12, hN13⟩ := hw
  refine g_icmp_ge hE1 (tgt := 38) dJ0_ensureCapacity_6 (by decide) h10 h11 (fun q => ?_) (fun q => ?_)
  · have hw := hT12 q
    refine g_iconst hE1 dJ0_ensureCapacity_9 ?_
    refine g_aldn0 hE1 dJ0_ensureCapacity_10 ?_
    refine gx_getr hE in_J0 (t := 3) rfl (by decide) 0 0 rfl (by decide) rfl (by decide) rfl q172 (Or.inl rfl) ht1 dJ0_ensureCapacity_11 ?_ hok
    intro hok
    obtain ⟨b5, hb6, hw⟩ := hw
    rw [hb6]
    obtain ⟨ht7, hw⟩ := hw
    refine gx_alen hE ht7 (by decide) dJ0_ensureCapacity_14 ?_ hok
    intro hok
    refine g_imul hE1 dJ0_ensureCapacity_15 ?_
    refine g_ildn1 hE1 dJ0_ensureCapacity_16 ?_
    obtain ⟨h8, h9, hw⟩ := hw
    refine gx_max hE hRm h8 h9 q412 q413 q109 q414 (by decide) (by decide) (by decide) (by decide) (Nat.le_of_ble_eq_true rfl) dJ0_ensureCapacity_17 ?_ hok
    intro hok
    refine g_istn2 hE1 dJ0_ensureCapacity_20 (by decide) rfl ?_
    refine g_aldn0 hE1 dJ0_ensureCapacity_21 ?_
    refine g_aldn0 hE1 dJ0_ensureCapacity_22 ?_
    refine gx_getr hE in_J0 (t := 3) rfl (by decide) 0 0 rfl (by decide) rfl (by decide) rfl q172 (Or.inl rfl) ht1 dJ0_ensureCapacity_23 ?_ hok
    intro hok
    refine g_ildn2 hE1 dJ0_ensureCapacity_26 ?_
    exact hw.elim
  · have hw := hN13 q
    exact gx_vret hE hR dJ0_ensureCapacity_38 (by decide) (by decide) ⟨rfl, rfl, rfl, rfl, rfl, hw⟩ hok

/-- java/util/BitSet.checkInvariants()V -/
def wx_J0_checkInvariants (X : XT) (o : Nat)  (T : xT) (I : xI) (R : xR) (L : xL) (Q : Prop) : Prop :=
  jn0 (
      jn0 (
          jn0 (
              Q)
            (fun (J_110 : Prop) =>
            J_110))
        (fun (J_70 : Prop) =>
        J_70))
    (fun (J_37 : Prop) =>
    J_37)
theorem hx_J0_checkInvariants : yJ0_checkInvariants.cls = RJ0 ∧ yJ0_checkInvariants.cls ≠ "java/lang/invoke/MethodHandle" ∧ yJ0_checkInvariants.cls ≠ "java/lang/invoke/VarHandle" ∧ (parseMethodDescriptor yJ0_checkInvariants.desc).map (fun d => d.parameters.length) = some 0 := by decide +kernel
set_option maxHeartbeats 4000000 in
theorem tx_J0_checkInvariants (X : XT) {o : Nat}  {T : xT} {I : xI} {R : xR} {L : xL} {Q : Prop} (hw : wx_J0_checkInvariants X o T I R L Q) : CtX X yJ0_checkInvariants cJ0_checkInvariants 1 none (rmX 0 0 0 0) [aR (some o)] T I R L (PXv T I R L Q) := by
  refine CtX.intro (by decide) (Nat.le_of_ble_eq_true rfl) (fun E hE hR hN => ?_)
  have hRm := hR.rm
  have hE : OkX E X RJ0 cJ0_checkInvariants 1 none := hE
  have hE1 := hE.1
  show GX E X T I R L 0 0 0 [some (aR (some o))] []
  unfold wx_J0_checkInvariants at hw
  intro hok
  refine gx_gets_i hE (List.mem_of_getElem? (i := 0) rfl : ("java/util/BitSet", "$assertionsDisabled", "Z", Sum.inl (1 : Int)) ∈ stL) q434 dJ0_checkInvariants_0 ?_ hok
  intro hok
  refine jn0_walk (GX E X T I R L 0 0 37 [some (aR (some o))] []) hw (fun  hw => ?_) (fun J_37 hj_37 hw => ?_)
  · intro hok
    refine gx_gets_i hE (List.mem_of_getElem? (i := 0) rfl : ("java/util/BitSet", "$assertionsDisabled", "Z", Sum.inl (1 : Int)) ∈ stL) q434 dJ0_checkInvariants_37 ?_ hok
    intro hok
    refine jn0_walk (GX E X T I R L 0 0 70 [some (aR (some o))] []) hw (fun  hw => ?_) (fun J_70 hj_70 hw => ?_)
    · intro hok
      refine gx_gets_i hE (List.mem_of_getElem? (i := 0) rfl : ("java/util/BitSet", "$assertionsDisabled", "Z", Sum.inl (1 : Int)) ∈ stL) q434 dJ0_checkInvariants_70 ?_ hok
      intro hok
      refine jn0_walk (GX E X T I R L 0 0 110 [some (aR (some o))] []) hw (fun  hw => ?_) (fun J_110 hj_110 hw => ?_)
      · intro hok
        exact gx_vret hE hR dJ0_checkInvariants_110 (by decide) (by decide) ⟨rfl, rfl, rfl, rfl, rfl, hw⟩ hok
      · skip
        refine g_if_ne hE1 (tgt := 110) dJ0_checkInvariants_73 (by decide) (by decide) (fun q => absurd q (by decide)) (fun _ => ?_)
        exact hj_110  hw hok
    · skip
      refine g_if_ne hE1 (tgt := 70) dJ0_checkInvariants_40 (by decide) (by decide) (fun q => absurd q (by decide)) (fun _ => ?_)
      exact hj_70  hw hok
  · skip
    refine g_if_ne hE1 (tgt := 37) dJ0_checkInvariants_3 (by decide) (by decide) (fun q => absurd q (by decide)) (fun _ => ?_)
    exact hj_37  hw hok

/-- java/util/BitSet.or(Ljava/util/BitSet;)V -/
def wx_J0_or (X : XT) (o : Nat) (x1 : Option Nat) (T : xT) (I : xI) (R : xR) (L : xL) (Q : xI → xL → Prop) : Prop :=
  cIf ((some o) = x1)
    (
    Q I L)
    (
    xtag T o = 3 ∧
    ∃ b2 : Nat, x1 = some b2 ∧ xtag T b2 = 3 ∧
    inR (I o 1) ∧ inR (I b2 1) ∧
    jn1 (fun (I_45 : xI) => 
        lq2 (fun (x3_47 : Int) (L_47 : xL) (K_47 : Int → xL → Prop) =>
          cLt x3_47 (if (I b2 1) < (I o 1) then (I b2 1) else (I o 1))
            (
            ∃ b7 : Nat, R o 0 = some b7 ∧ xtag T b7 = 102 ∧ ib x3_47 (xlen T b7) ∧ xlen T b7 < 2147483648 ∧
            ∃ b12 : Nat, R b2 0 = some b12 ∧ xtag T b12 = 102 ∧ ib x3_47 (xlen T b12) ∧ xlen T b12 < 2147483648 ∧
            ib x3_47 (xlen T b7) ∧ xlen T b7 < 2147483648 ∧ ∀ L19 : xL, L19 = uL L_47 b7 x3_47 ((L_47 b7 x3_47) ||| (L_47 b12 x3_47)) →
            K_47 (x3_47 + 1) L19)
            (
            jn1 (fun (L_100 : xL) => 
                wx_J0_checkInvariants X o T I_45 R L_100 (
                Q I_45 L_100))
              (fun (J_100 : xL → Prop) =>
              cLt (if (I b2 1) < (I o 1) then (I b2 1) else (I o 1)) (I_45 b2 1)
                (
                ∃ b21 : Nat, R b2 0 = some b21 ∧ xtag T b21 = 102 ∧ ∃ b24 : Nat, R o 0 = some b24 ∧ xtag T b24 = 102 ∧ ((0 : Int) ≤ (if (I b2 1) < (I o 1) then (I b2 1) else (I o 1)) ∧ ((if (I b2 1) < (I o 1) then (I b2 1) else (I o 1)) : Int) < 2147483648) ∧ ((0 : Int) ≤ (if (I b2 1) < (I o 1) then (I b2 1) else (I o 1)) ∧ ((if (I b2 1) < (I o 1) then (I b2 1) else (I o 1)) : Int) < 2147483648) ∧ ((0 : Int) ≤ ((I_45 o 1) - (if (I b2 1) < (I o 1) then (I b2 1) else (I o 1))) ∧ (((I_45 o 1) - (if (I b2 1) < (I o 1) then (I b2 1) else (I o 1))) : Int) < 2147483648) ∧ ((if (I b2 1) < (I o 1) then (I b2 1) else (I o 1)) : Int) + ((I_45 o 1) - (if (I b2 1) < (I o 1) then (I b2 1) else (I o 1))) ≤ xlen T b21 ∧ ((if (I b2 1) < (I o 1) then (I b2 1) else (I o 1)) : Int) + ((I_45 o 1) - (if (I b2 1) < (I o 1) then (I b2 1) else (I o 1))) ≤ xlen T b24 ∧ ∀ L33 : xL, L33 = cpL L_47 b21 (if (I b2 1) < (I o 1) then (I b2 1) else (I o 1)) b24 (if (I b2 1) < (I o 1) then (I b2 1) else (I o 1)) ((I_45 o 1) - (if (I b2 1) < (I o 1) then (I b2 1) else (I o 1))) →
                J_100 L33)
                (
                J_100 L_47)))) 0 L)
      (fun (J_45 : xI → Prop) =>
      cLt (I o 1) (I b2 1)
        (
        wx_J0_ensureCapacity X o (I b2 1) T I R L (
        ∀ I43 : xI, I43 = uI I o 1 (I b2 1) →
        J_45 I43))
        (
        J_45 I)))
theorem hx_J0_or : yJ0_or.cls = RJ0 ∧ yJ0_or.cls ≠ "java/lang/invoke/MethodHandle" ∧ yJ0_or.cls ≠ "java/lang/invoke/VarHandle" ∧ (parseMethodDescriptor yJ0_or.desc).map (fun d => d.parameters.length) = some 1 := by decide +kernel
set_option maxHeartbeats 4000000 in
theorem tx_J0_or (X : XT) {o : Nat} {x1 : Option Nat} {T : xT} {I : xI} {R : xR} {L : xL} {Q : xI → xL → Prop} (hw : wx_J0_or X o x1 T I R L Q) : CtX X yJ0_or cJ0_or 4 none (rmX 2 0 0 86) [aR (some o), aR x1] T I R L (PXvIL T I R L Q) := by
  refine CtX.intro (by decide) (Nat.le_of_ble_eq_true rfl) (fun E hE hR hN => ?_)
  have hRm := hR.rm
  have hE : OkX E X RJ0 cJ0_or 4 none := hE
  have hE1 := hE.1
  show GX E X T I R L 0 0 0 [some (aR (some o)), some (aR x1), none, none] []
  unfold wx_J0_or at hw
  intro hok
  refine g_aldn0 hE1 dJ0_or_0 ?_
  refine g_aldn1 hE1 dJ0_or_1 ?_
  refine g_acmp_ne hE1 (tgt := 6) dJ0_or_2 (by decide) (fun q => ?_) (fun q => ?_)
  · have hw := hw.1 q
    exact gx_vret hE hR dJ0_or_5 (by decide) (by decide) ⟨rfl, rfl, rfl, hw⟩ hok
  · have hw := hw.2 q
    refine g_aldn0 hE1 dJ0_or_6 ?_
    obtain ⟨ht1, hw⟩ := hw
    refine gx_geti hE in_J0 (t := 3) rfl (by decide) 1 1 rfl (by decide) rfl (by decide) rfl q173 (Or.inl rfl) ht1 dJ0_or_7 ?_ hok
    intro hok
    refine g_aldn1 hE1 dJ0_or_10 ?_
    obtain ⟨b2, hb3, hw⟩ := hw
    rw [hb3]
    obtain ⟨ht4, hw⟩ := hw
    refine gx_geti hE in_J0 (t := 3) rfl (by decide) 1 1 rfl (by decide) rfl (by decide) rfl q173 (Or.inl rfl) ht4 dJ0_or_11 ?_ hok
    intro hok
    obtain ⟨h5, h6, hw⟩ := hw
    refine gx_min hE hRm h5 h6 q405 q406 q109 q407 (by decide) (by decide) (by decide) (by decide) (Nat.le_of_ble_eq_true rfl) dJ0_or_14 ?_ hok
    intro hok
    refine g_istn2 hE1 dJ0_or_17 (by decide) rfl ?_
    refine g_aldn0 hE1 dJ0_or_18 ?_
    refine gx_geti hE in_J0 (t := 3) rfl (by decide) 1 1 rfl (by decide) rfl (by decide) rfl q173 (Or.inl rfl) ht1 dJ0_or_19 ?_ hok
    intro hok
    refine g_aldn1 hE1 dJ0_or_22 ?_
    refine gx_geti hE in_J0 (t := 3) rfl (by decide) 1 1 rfl (by decide) rfl (by decide) rfl q173 (Or.inl rfl) ht4 dJ0_or_23 ?_ hok
    intro hok
    refine jn1_walk (fun (I_45 : xI) => GX E X T I_45 R L 0 0 45 [some (aR (some o)), some (aR (some b2)), some (aI (if (I b2 1) < (I o 1) then (I b2 1) else (I o 1))), none] []) hw (fun I_45 hw => ?_) (fun J_45 hj_45 hw => ?_)
    · intro hok
      refine g_iconst hE1 dJ0_or_45 ?_
      refine g_istn3 hE1 dJ0_or_46 (by decide) rfl ?_
      refine lq2_walk (fun (x3_47 : Int) (L_47 : xL) => GX E X T I_45 R L_47 0 0 47 [some (aR (some o)), some (aR (some b2)), some (aI (if (I b2 1) < (I o 1) then (I b2 1) else (I o 1))), some (aI x3_47)] []) (fun K_47 hk_47 x3_47 L_47 hw => ?_) _ _ hw hok
      intro hok
      refine g_ildn3 hE1 dJ0_or_47 ?_
      refine g_ildn2 hE1 dJ0_or_48 ?_
      obtain ⟨h38, h39, hT40, hN41⟩ := hw
      refine g_icmp_ge hE1 (tgt := 73) dJ0_or_49 (by decide) h38 h39 (fun q => ?_) (fun q => ?_)
      · have hw := hT40 q
        refine g_aldn0 hE1 dJ0_or_52 ?_
        refine gx_getr hE in_J0 (t := 3) rfl (by decide) 0 0 rfl (by decide) rfl (by decide) rfl q172 (Or.inl rfl) ht1 dJ0_or_53 ?_ hok
        intro hok
        refine g_ildn3 hE1 dJ0_or_56 ?_
        refine g_dup2 hE1 dJ0_or_57 rfl rfl ?_
        obtain ⟨b7, hb8, hw⟩ := hw
        rw [hb8]
        obtain ⟨ht9, hw⟩ := hw
        obtain ⟨h10, h11, hw⟩ := hw
        refine gx_lald hE ht9 h10 h11 dJ0_or_58 ?_ hok
        intro hok
        refine g_aldn1 hE1 dJ0_or_59 ?_
        refine gx_getr hE in_J0 (t := 3) rfl (by decide) 0 0 rfl (by decide) rfl (by decide) rfl q172 (Or.inl rfl) ht4 dJ0_or_60 ?_ hok
        intro hok
        refine g_ildn3 hE1 dJ0_or_63 ?_
        obtain ⟨b12, hb13, hw⟩ := hw
        rw [hb13]
        obtain ⟨ht14, hw⟩ := hw
        obtain ⟨h15, h16, hw⟩ := hw
        refine gx_lald hE ht14 h15 h16 dJ0_or_64 ?_ hok
        intro hok
        refine g_lor hE1 dJ0_or_65 ?_
        obtain ⟨h17, h18, hw⟩ := hw
        refine gx_last hE ht9 h17 h18 dJ0_or_66 ?_ hok
        intro hok
        have hw := hw _ rfl
        generalize uL L_47 b7 x3_47 ((L_47 b7 x3_47) ||| (L_47 b12 x3_47)) = L19 at hw hok ⊢
        refine g_iinc3 hE1 dJ0_or_67 (by decide) rfl ?_
        refine g_goto hE1 (tgt := 47) dJ0_or_70 (by decide) ?_
        exact hk_47 _ _ hw hok
      · have hw := hN41 q
        refine g_ildn2 hE1 dJ0_or_73 ?_
        refine g_aldn1 hE1 dJ0_or_74 ?_
        refine gx_geti hE in_J0 (t := 3) rfl (by decide) 1 1 rfl (by decide) rfl (by decide) rfl q173 (Or.inl rfl) ht4 dJ0_or_75 ?_ hok
        intro hok
        refine jn1_walk (fun (L_100 : xL) => GX E X T I_45 R L_100 0 0 100 [some (aR (some o)), some (aR (some b2)), some (aI (if (I b2 1) < (I o 1) then (I b2 1) else (I o 1))), some (aI x3_47)] []) hw (fun L_100 hw => ?_) (fun J_100 hj_100 hw => ?_)
        · intro hok
          refine g_aldn0 hE1 dJ0_or_100 ?_
          refine gx_callV hE hRm (As := []) ht1 (by decide) (by decide) rfl hx_J0_checkInvariants (tx_J0_checkInvariants X hw) (lw_V q430 q432 qs2 q96 q433) ⟨by decide, by decide⟩ ⟨(by decide), (by decide)⟩ rfl (Nat.le_of_ble_eq_true rfl) dJ0_or_101 rfl (fun r9 Tz Iz Rz Lz hΦ => ?_) hok
          obtain ⟨rfl, rfl, rfl, rfl, rfl, hw⟩ := hΦ
          show GX E X T I_45 R L_100 0 0 104 [some (aR (some o)), some (aR (some b2)), some (aI (if (I b2 1) < (I o 1) then (I b2 1) else (I o 1))), some (aI x3_47)] []
          intro hok
          exact gx_vret hE hR dJ0_or_104 (by decide) (by decide) ⟨rfl, rfl, rfl, hw⟩ hok
        · skip
          obtain ⟨h34, h35, hT36, hN37⟩ := hw
          refine g_icmp_ge hE1 (tgt := 100) dJ0_or_78 (by decide) h34 h35 (fun q => ?_) (fun q => ?_)
          · have hw := hT36 q
            refine g_aldn1 hE1 dJ0_or_81 ?_
            refine gx_getr hE in_J0 (t := 3) rfl (by decide) 0 0 rfl (by decide) rfl (by decide) rfl q172 (Or.inl rfl) ht4 dJ0_or_82 ?_ hok
            intro hok
            refine g_ildn2 hE1 dJ0_or_85 ?_
            refine g_aldn0 hE1 dJ0_or_86 ?_
            refine gx_getr hE in_J0 (t := 3) rfl (by decide) 0 0 rfl (by decide) rfl (by decide) rfl q172 (Or.inl rfl) ht1 dJ0_or_87 ?_ hok
            intro hok
            refine g_ildn2 hE1 dJ0_or_90 ?_
            refine g_aldn0 hE1 dJ0_or_91 ?_
            refine gx_geti hE in_J0 (t := 3) rfl (by decide) 1 1 rfl (by decide) rfl (by decide) rfl q173 (Or.inl rfl) ht1 dJ0_or_92 ?_ hok
            intro hok
            refine g_ildn2 hE1 dJ0_or_95 ?_
            refine g_isub hE1 dJ0_or_96 ?_
            obtain ⟨b21, hb22, hw⟩ := hw
            rw [hb22]
            obtain ⟨ht23, hw⟩ := hw
            obtain ⟨b24, hb25, hw⟩ := hw
            rw [hb25]
            obtain ⟨ht26, hw⟩ := hw
            obtain ⟨h27, h28, h29, h30, h31, hw⟩ := hw
            refine gx_copyL hE hRm q429 q428 q427 q111 ht23 ht26 h27 h28 h29 h30 h31  (by decide) (by decide) (Nat.le_of_ble_eq_true rfl) dJ0_or_97 ?_ hok
            intro hok
            have hw := hw _ rfl
            generalize cpL L_47 b21 (if (I b2 1) < (I o 1) then (I b2 1) else (I o 1)) b24 (if (I b2 1) < (I o 1) then (I b2 1) else (I o 1)) ((I_45 o 1) - (if (I b2 1) < (I o 1) then (I b2 1) else (I o 1))) = L33 at hw hok ⊢
            exact hj_100 _ hw hok
          · have hw := hN37 q
            exact hj_100 _ hw hok
    · skip
      obtain ⟨h44, h45, hT46, hN47⟩ := hw
      refine g_icmp_ge hE1 (tgt := 45) dJ0_or_26 (by decide) h44 h45 (fun q => ?_) (fun q => ?_)
      · have hw := hT46 q
        refine g_aldn0 hE1 dJ0_or_29 ?_
        refine g_aldn1 hE1 dJ0_or_30 ?_
        refine gx_geti hE in_J0 (t := 3) rfl (by decide) 1 1 rfl (by decide) rfl (by decide) rfl q173 (Or.inl rfl) ht4 dJ0_or_31 ?_ hok
        intro hok
        refine gx_callV hE hRm (As := [aI (I b2 1)]) ht1 (by decide) (by decide) rfl hx_J0_ensureCapacity (tx_J0_ensureCapacity X hw) (lw_V q408 q410 qs1 q96 q411) ⟨by decide, by decide⟩ ⟨(by decide), (by decide)⟩ rfl (Nat.le_of_ble_eq_true rfl) dJ0_or_34 rfl (fun r9 Tz Iz Rz Lz hΦ => ?_) hok
        obtain ⟨rfl, rfl, rfl, rfl, rfl, hw⟩ := hΦ
        show GX E X T I R L 0 0 37 [some (aR (some o)), some (aR (some b2)), some (aI (if (I b2 1) < (I o 1) then (I b2 1) else (I o 1))), none] []
        intro hok
        refine g_aldn0 hE1 dJ0_or_37 ?_
        refine g_aldn1 hE1 dJ0_or_38 ?_
        refine gx_geti hE in_J0 (t := 3) rfl (by decide) 1 1 rfl (by decide) rfl (by decide) rfl q173 (Or.inl rfl) ht4 dJ0_or_39 ?_ hok
        intro hok
        refine gx_puti hE in_J0 (t := 3) rfl (by decide) 1 1 rfl (by decide) rfl (by decide) (ty := tyJ0 1) tyJ0 tyJ0_ok nmJ0 rfl q173 (Or.inl rfl) rfl (tyJ0_ok 1 (by decide)) rfl rfl ht1 dJ0_or_42 ?_ hok
        intro hok
        have hw := hw _ rfl
        generalize uI I o 1 (I b2 1) = I43 at hw hok ⊢
        exact hj_45 _ hw hok
      · have hw := hN47 q
        exact hj_45 _ hw hok

/-- java/util/LinkedList.isPositionIndex(I)Z -/
def wx_J4_isPositionIndex (X : XT) (o : Nat) (x1 : Int) (T : xT) (I : xI) (R : xR) (L : xL) (Q : Int → Prop) : Prop :=
  jn1 (fun (y0_17 : Int) => 
      bl y0_17 ∧ Q y0_17)
    (fun (J_17 : Int → Prop) =>
    jn0 (
        J_17 0)
      (fun (J_16 : Prop) =>
      cLt x1 0
        (
        J_16)
        (
        xtag T o = 4 ∧
        cLt (I o 1) x1
          (
          J_16)
          (
          J_17 1))))
theorem hx_J4_isPositionIndex : yJ4_isPositionIndex.cls = RJ4 ∧ yJ4_isPositionIndex.cls ≠ "java/lang/invoke/MethodHandle" ∧ yJ4_isPositionIndex.cls ≠ "java/lang/invoke/VarHandle" ∧ (parseMethodDescriptor yJ4_isPositionIndex.desc).map (fun d => d.parameters.length) = some 1 := by decide +kernel
set_option maxHeartbeats 4000000 in
theorem tx_J4_isPositionIndex (X : XT) {o : Nat} {x1 : Int} {T : xT} {I : xI} {R : xR} {L : xL} {Q : Int → Prop} (hw : wx_J4_isPositionIndex X o x1 T I R L Q) : CtX X yJ4_isPositionIndex cJ4_isPositionIndex 2 (some .boolean) (rmX 0 0 0 0) [aR (some o), aI x1] T I R L (PXi T I R L Q) := by
  refine CtX.intro (by decide) (Nat.le_of_ble_eq_true rfl) (fun E hE hR hN => ?_)
  have hRm := hR.rm
  have hE : OkX E X RJ4 cJ4_isPositionIndex 2 (some .boolean) := hE
  have hE1 := hE.1
  show GX E X T I R L 0 0 0 [some (aR (some o)), some (aI x1)] []
  unfold wx_J4_isPositionIndex at hw
  intro hok
  refine g_ildn1 hE1 dJ4_isPositionIndex_0 ?_
  refine jn1_walk (fun (y0_17 : Int) => GX E X T I R L 0 0 17 [some (aR (some o)), some (aI x1)] [aI y0_17]) hw (fun y0_17 hw => ?_) (fun J_17 hj_17 hw => ?_)
  · intro hok
    obtain ⟨h1, hw⟩ := hw
    exact gx_iret hE hR dJ4_isPositionIndex_17 (by decide) (by decide) (narrow_bl h1) ⟨_, rfl, rfl, rfl, rfl, rfl, hw⟩ hok
  · skip
    refine jn0_walk (GX E X T I R L 0 0 16 [some (aR (some o)), some (aI x1)] []) hw (fun  hw => ?_) (fun J_16 hj_16 hw => ?_)
    · intro hok
      refine g_iconst hE1 dJ4_isPositionIndex_16 ?_
      exact hj_17 _ hw hok
    · skip
      obtain ⟨h7, h8, hT9, hN10⟩ := hw
      refine g_if_lt hE1 (tgt := 16) dJ4_isPositionIndex_1 (by decide) h7 (fun q => ?_) (fun q => ?_)
      · have hw := hT9 q
        exact hj_16  hw hok
      · have hw := hN10 q
        refine g_ildn1 hE1 dJ4_isPositionIndex_4 ?_
        refine g_aldn0 hE1 dJ4_isPositionIndex_5 ?_
        obtain ⟨ht2, hw⟩ := hw
        refine gx_geti hE in_J4 (t := 4) rfl (by decide) 1 1 rfl (by decide) rfl (by decide) rfl q198 (Or.inl rfl) ht2 dJ4_isPositionIndex_6 ?_ hok
        intro hok
        obtain ⟨h3, h4, hT5, hN6⟩ := hw
        refine g_icmp_gt hE1 (tgt := 16) dJ4_isPositionIndex_9 (by decide) h4 h3 (fun q => ?_) (fun q => ?_)
        · have hw := hT5 q
          exact hj_16  hw hok
        · have hw := hN6 q
          refine g_iconst hE1 dJ4_isPositionIndex_12 ?_
          refine g_goto hE1 (tgt := 17) dJ4_isPositionIndex_13 (by decide) ?_
          exact hj_17 _ hw hok

/-- java/util/LinkedList.checkPositionIndex(I)V -/
def wx_J4_checkPositionIndex (X : XT) (o : Nat) (x1 : Int) (T : xT) (I : xI) (R : xR) (L : xL) (Q : Prop) : Prop :=
  xtag T o = 4 ∧ wx_J4_isPositionIndex X o x1 T I R L (fun (r2 : Int) => 
  cEq r2 0
    (
    False)
    (
    Q))
theorem hx_J4_checkPositionIndex : yJ4_checkPositionIndex.cls = RJ4 ∧ yJ4_checkPositionIndex.cls ≠ "java/lang/invoke/MethodHandle" ∧ yJ4_checkPositionIndex.cls ≠ "java/lang/invoke/VarHandle" ∧ (parseMethodDescriptor yJ4_checkPositionIndex.desc).map (fun d => d.parameters.length) = some 1 := by decide +kernel
set_option maxHeartbeats 4000000 in
theorem tx_J4_checkPositionIndex (X : XT) {o : Nat} {x1 : Int} {T : xT} {I : xI} {R : xR} {L : xL} {Q : Prop} (hw : wx_J4_checkPositionIndex X o x1 T I R L Q) : CtX X yJ4_checkPositionIndex cJ4_checkPositionIndex 2 none (rmX 1 0 0 21) [aR (some o), aI x1] T I R L (PXv T I R L Q) := by
  refine CtX.intro (by decide) (Nat.le_of_ble_eq_true rfl) (fun E hE hR hN => ?_)
  have hRm := hR.rm
  have hE : OkX E X RJ4 cJ4_checkPositionIndex 2 none := hE
  have hE1 := hE.1
  show GX E X T I R L 0 0 0 [some (aR (some o)), some (aI x1)] []
  unfold wx_J4_checkPositionIndex at hw
  intro hok
  refine g_aldn0 hE1 dJ4_checkPositionIndex_0 ?_
  refine g_ildn1 hE1 dJ4_checkPositionIndex_1 ?_
  obtain ⟨ht1, hw⟩ := hw
  refine gx_callV hE hRm (As := [aI x1]) ht1 (by decide) (by decide) rfl hx_J4_isPositionIndex (tx_J4_isPositionIndex X hw) (lw_V q493 q495 qs5 q100 q496) ⟨by decide, by decide⟩ ⟨(by decide), (by decide)⟩ rfl (Nat.le_of_ble_eq_true rfl) dJ4_checkPositionIndex_2 rfl (fun r9 Tz Iz Rz Lz hΦ => ?_) hok
  obtain ⟨r2, rfl, rfl, rfl, rfl, rfl, hw⟩ := hΦ
  show GX E X T I R L 0 0 5 [some (aR (some o)), some (aI x1)] [aI r2]
  intro hok
  obtain ⟨h4, h5, hT6, hN7⟩ := hw
  refine g_if_ne hE1 (tgt := 21) dJ4_checkPositionIndex_5 (by decide) h4 (fun q => ?_) (fun q => ?_)
  · have hw := hT6 q
    exact hw.elim
  · have hw := hN7 q
    exact gx_vret hE hR dJ4_checkPositionIndex_21 (by decide) (by decide) ⟨rfl, rfl, rfl, rfl, rfl, hw⟩ hok

/-- java/util/LinkedList.node(I)Ljava/util/LinkedList$Node; -/
def wx_J4_node (X : XT) (o : Nat) (x1 : Int) (T : xT) (I : xI) (R : xR) (L : xL) (Q : Option Nat → Prop) : Prop :=
  xtag T o = 4 ∧
  cLt x1 (bShr (I o 1) 1)
    (
    lq2 (fun (x2_17 : Option Nat) (x3_17 : Int) (K_17 : Option Nat → Int → Prop) =>
      cLt x3_17 x1
        (
        ∃ b2 : Nat, x2_17 = some b2 ∧ xtag T b2 = 13 ∧
        K_17 (R b2 1) (x3_17 + 1))
        (
        Q x2_17)) (R o 2) 0)
    (
    lq2 (fun (x2_47 : Option Nat) (x3_47 : Int) (K_47 : Option Nat → Int → Prop) =>
      cLt x1 x3_47
        (
        ∃ b9 : Nat, x2_47 = some b9 ∧ xtag T b9 = 13 ∧
        K_47 (R b9 2) (x3_47 + (-1)))
        (
        Q x2_47)) (R o 3) ((I o 1) - 1))
theorem hx_J4_node : yJ4_node.cls = RJ4 ∧ yJ4_node.cls ≠ "java/lang/invoke/MethodHandle" ∧ yJ4_node.cls ≠ "java/lang/invoke/VarHandle" ∧ (parseMethodDescriptor yJ4_node.desc).map (fun d => d.parameters.length) = some 1 := by decide +kernel
set_option maxHeartbeats 4000000 in
theorem tx_J4_node (X : XT) {o : Nat} {x1 : Int} {T : xT} {I : xI} {R : xR} {L : xL} {Q : Option Nat → Prop} (hw : wx_J4_node X o x1 T I R L Q) : CtX X yJ4_node cJ4_node 4 (some (.object "java/util/LinkedList$Node")) (rmX 0 0 0 0) [aR (some o), aI x1] T I R L (PXq T I R L Q) := by
  refine CtX.intro (by decide) (Nat.le_of_ble_eq_true rfl) (fun E hE hR hN => ?_)
  have hRm := hR.rm
  have hE : OkX E X RJ4 cJ4_node 4 (some (.object "java/util/LinkedList$Node")) := hE
  have hE1 := hE.1
  show GX E X T I R L 0 0 0 [some (aR (some o)), some (aI x1), none, none] []
  unfold wx_J4_node at hw
  intro hok
  refine g_ildn1 hE1 dJ4_node_0 ?_
  refine g_aldn0 hE1 dJ4_node_1 ?_
  obtain ⟨ht1, hw⟩ := hw
  refine gx_geti hE in_J4 (t := 4) rfl (by decide) 1 1 rfl (by decide) rfl (by decide) rfl q198 (Or.inl rfl) ht1 dJ4_node_2 ?_ hok
  intro hok
  refine g_iconst hE1 dJ4_node_5 ?_
  refine g_ishr hE1 dJ4_node_6 ?_
  obtain ⟨h16, h17, hT18, hN19⟩ := hw
  refine g_icmp_ge hE1 (tgt := 35) dJ4_node_7 (by decide) h16 h17 (fun q => ?_) (fun q => ?_)
  · have hw := hT18 q
    refine g_aldn0 hE1 dJ4_node_10 ?_
    refine gx_getr hE in_J4 (t := 4) rfl (by decide) 2 2 rfl (by decide) rfl (by decide) rfl q200 (Or.inl rfl) ht1 dJ4_node_11 ?_ hok
    intro hok
    refine g_astn2 hE1 dJ4_node_14 (by decide) rfl ?_
    refine g_iconst hE1 dJ4_node_15 ?_
    refine g_istn3 hE1 dJ4_node_16 (by decide) rfl ?_
    refine lq2_walk (fun (x2_17 : Option Nat) (x3_17 : Int) => GX E X T I R L 0 0 17 [some (aR (some o)), some (aI x1), some (aR x2_17), some (aI x3_17)] []) (fun K_17 hk_17 x2_17 x3_17 hw => ?_) _ _ hw hok
    intro hok
    refine g_ildn3 hE1 dJ4_node_17 ?_
    refine g_ildn1 hE1 dJ4_node_18 ?_
    obtain ⟨h5, h6, hT7, hN8⟩ := hw
    refine g_icmp_ge hE1 (tgt := 33) dJ4_node_19 (by decide) h5 h6 (fun q => ?_) (fun q => ?_)
    · have hw := hT7 q
      refine g_aldn2 hE1 dJ4_node_22 ?_
      obtain ⟨b2, hb3, hw⟩ := hw
      rw [hb3]
      obtain ⟨ht4, hw⟩ := hw
      refine gx_getr hE in_J25 (t := 13) rfl (by decide) 1 1 rfl (by decide) rfl (by decide) rfl q1062 (Or.inl rfl) ht4 dJ4_node_23 ?_ hok
      intro hok
      refine g_astn2 hE1 dJ4_node_26 (by decide) rfl ?_
      refine g_iinc3 hE1 dJ4_node_27 (by decide) rfl ?_
      refine g_goto hE1 (tgt := 17) dJ4_node_30 (by decide) ?_
      exact hk_17 _ _ hw hok
    · have hw := hN8 q
      refine g_aldn2 hE1 dJ4_node_33 ?_
      exact gx_aret hE hR dJ4_node_34 (by decide) (by decide) (Or.inl ⟨_, rfl⟩) ⟨_, rfl, rfl, rfl, rfl, rfl, hw⟩ hok
  · have hw := hN19 q
    refine g_aldn0 hE1 dJ4_node_35 ?_
    refine gx_getr hE in_J4 (t := 4) rfl (by decide) 3 3 rfl (by decide) rfl (by decide) rfl q201 (Or.inl rfl) ht1 dJ4_node_36 ?_ hok
    intro hok
    refine g_astn2 hE1 dJ4_node_39 (by decide) rfl ?_
    refine g_aldn0 hE1 dJ4_node_40 ?_
    refine gx_geti hE in_J4 (t := 4) rfl (by decide) 1 1 rfl (by decide) rfl (by decide) rfl q198 (Or.inl rfl) ht1 dJ4_node_41 ?_ hok
    intro hok
    refine g_iconst hE1 dJ4_node_44 ?_
    refine g_isub hE1 dJ4_node_45 ?_
    refine g_istn3 hE1 dJ4_node_46 (by decide) rfl ?_
    refine lq2_walk (fun (x2_47 : Option Nat) (x3_47 : Int) => GX E X T I R L 0 0 47 [some (aR (some o)), some (aI x1), some (aR x2_47), some (aI x3_47)] []) (fun K_47 hk_47 x2_47 x3_47 hw => ?_) _ _ hw hok
    intro hok
    refine g_ildn3 hE1 dJ4_node_47 ?_
    refine g_ildn1 hE1 dJ4_node_48 ?_
    obtain ⟨h12, h13, hT14, hN15⟩ := hw
    refine g_icmp_le hE1 (tgt := 63) dJ4_node_49 (by decide) h13 h12 (fun q => ?_) (fun q => ?_)
    · have hw := hT14 q
      refine g_aldn2 hE1 dJ4_node_52 ?_
      obtain ⟨b9, hb10, hw⟩ := hw
      rw [hb10]
      obtain ⟨ht11, hw⟩ := hw
      refine gx_getr hE in_J25 (t := 13) rfl (by decide) 2 2 rfl (by decide) rfl (by decide) rfl q1064 (Or.inl rfl) ht11 dJ4_node_53 ?_ hok
      intro hok
      refine g_astn2 hE1 dJ4_node_56 (by decide) rfl ?_
      refine g_iinc3 hE1 dJ4_node_57 (by decide) rfl ?_
      refine g_goto hE1 (tgt := 47) dJ4_node_60 (by decide) ?_
      exact hk_47 _ _ hw hok
    · have hw := hN15 q
      refine g_aldn2 hE1 dJ4_node_63 ?_
      exact gx_aret hE hR dJ4_node_64 (by decide) (by decide) (Or.inl ⟨_, rfl⟩) ⟨_, rfl, rfl, rfl, rfl, rfl, hw⟩ hok

/-- java/util/LinkedList$ListItr.<init>(Ljava/util/LinkedList;I)V -/
def wx_J15_init (X : XT) (o : Nat) (x1 : Option Nat) (x2 : Int) (T : xT) (I : xI) (R : xR) (L : xL) (Q : xI → xR → Prop) : Prop :=
  xtag T o = 9 ∧ ∀ R2 : xR, R2 = uR R o 4 x1 →
  ∃ b3 : Nat, R2 o 4 = some b3 ∧ xtag T b3 = 4 ∧
  ∀ I6 : xI, I6 = uI I o 3 (I b3 0) →
  ∃ b7 : Nat, x1 = some b7 ∧ xtag T b7 = 4 ∧
  jn1 (fun (y1_38 : Option Nat) => 
      ∀ R10 : xR, R10 = uR R2 o 1 y1_38 →
      ∀ I11 : xI, I11 = uI I6 o 2 x2 →
      Q I11 R10)
    (fun (J_38 : Option Nat → Prop) =>
    cEq x2 (I6 b7 1)
      (
      J_38 none)
      (
      wx_J4_node X b7 x2 T I6 R2 L (fun (r12 : Option Nat) => 
      J_38 r12)))
theorem hx_J15_init : yJ15_init.cls ≠ "java/lang/invoke/MethodHandle" ∧ yJ15_init.cls ≠ "java/lang/invoke/VarHandle" ∧ (parseMethodDescriptor yJ15_init.desc).map (fun d => d.parameters.length) = some 2 := by decide +kernel
set_option maxHeartbeats 4000000 in
theorem tx_J15_init (X : XT) {o : Nat} {x1 : Option Nat} {x2 : Int} {T : xT} {I : xI} {R : xR} {L : xL} {Q : xI → xR → Prop} (hw : wx_J15_init X o x1 x2 T I R L Q) : CtX X yJ15_init cJ15_init 3 none (rmX 1 0 0 23) [aR (some o), aR x1, aI x2] T I R L (PXvIR T I R L Q) := by
  refine CtX.intro (by decide) (Nat.le_of_ble_eq_true rfl) (fun E hE hR hN => ?_)
  have hRm := hR.rm
  have hE : OkX E X RJ15 cJ15_init 3 none := hE
  have hE1 := hE.1
  have hI : isInit E := hN
  show GX E X T I R L 0 0 0 [some (aR (some o)), some (aR x1), some (aI x2)] []
  unfold wx_J15_init at hw
  intro hok
  refine g_aldn0 hE1 dJ15_init_0 ?_
  refine g_aldn1 hE1 dJ15_init_1 ?_
  obtain ⟨ht1, hw⟩ := hw
  refine gx_putrF hE in_J15 (t := 9) rfl (by decide) 4 4 rfl (by decide) rfl (by decide) (ty := tyJ15 4) tyJ15 tyJ15_ok nmJ15 rfl q511 (Or.inl rfl) rfl hI rfl (tyJ15_ok 4 (by decide)) nar_o fit_o ht1 dJ15_init_2 ?_ hok
  intro hok
  have hw := hw _ rfl
  generalize uR R o 4 x1 = R2 at hw hok ⊢
  refine g_aldn0 hE1 dJ15_init_5 ?_
  refine gx_objInit hE hRm rfl q502 q151 q152 (by decide) (by decide) (Nat.le_of_ble_eq_true rfl) dJ15_init_6 ?_ hok
  intro hok
  refine g_aldn0 hE1 dJ15_init_9 ?_
  refine g_aldn0 hE1 dJ15_init_10 ?_
  refine gx_getr hE in_J15 (t := 9) rfl (by decide) 4 4 rfl (by decide) rfl (by decide) rfl q511 (Or.inl rfl) ht1 dJ15_init_11 ?_ hok
  intro hok
  obtain ⟨b3, hb4, hw⟩ := hw
  rw [hb4]
  obtain ⟨ht5, hw⟩ := hw
  refine gx_geti hE in_J4 (t := 4) rfl (by decide) 0 0 rfl (by decide) rfl (by decide) rfl q204 (Or.inr q205) ht5 dJ15_init_14 ?_ hok
  intro hok
  refine gx_puti hE in_J15 (t := 9) rfl (by decide) 3 3 rfl (by decide) rfl (by decide) (ty := tyJ15 3) tyJ15 tyJ15_ok nmJ15 rfl q510 (Or.inl rfl) rfl (tyJ15_ok 3 (by decide)) rfl rfl ht1 dJ15_init_17 ?_ hok
  intro hok
  have hw := hw _ rfl
  generalize uI I o 3 (I b3 0) = I6 at hw hok ⊢
  refine g_aldn0 hE1 dJ15_init_20 ?_
  refine g_ildn2 hE1 dJ15_init_21 ?_
  refine g_aldn1 hE1 dJ15_init_22 ?_
  obtain ⟨b7, hb8, hw⟩ := hw
  rw [hb8]
  obtain ⟨ht9, hw⟩ := hw
  refine gx_geti hE in_J4 (t := 4) rfl (by decide) 1 1 rfl (by decide) rfl (by decide) rfl q199 (Or.inl rfl) ht9 dJ15_init_23 ?_ hok
  intro hok
  refine jn1_walk (fun (y1_38 : Option Nat) => GX E X T I6 R2 L 0 0 38 [some (aR (some o)), some (aR (some b7)), some (aI x2)] [aR y1_38, aR (some o)]) hw (fun y1_38 hw => ?_) (fun J_38 hj_38 hw => ?_)
  · intro hok
    refine gx_putr hE in_J15 (t := 9) rfl (by decide) 1 1 rfl (by decide) rfl (by decide) (ty := tyJ15 1) tyJ15 tyJ15_ok nmJ15 rfl q508 (Or.inl rfl) rfl (tyJ15_ok 1 (by decide)) nar_o fit_o ht1 dJ15_init_38 ?_ hok
    intro hok
    have hw := hw _ rfl
    generalize uR R2 o 1 y1_38 = R10 at hw hok ⊢
    refine g_aldn0 hE1 dJ15_init_41 ?_
    refine g_ildn2 hE1 dJ15_init_42 ?_
    refine gx_puti hE in_J15 (t := 9) rfl (by decide) 2 2 rfl (by decide) rfl (by decide) (ty := tyJ15 2) tyJ15 tyJ15_ok nmJ15 rfl q509 (Or.inl rfl) rfl (tyJ15_ok 2 (by decide)) rfl rfl ht1 dJ15_init_43 ?_ hok
    intro hok
    have hw := hw _ rfl
    generalize uI I6 o 2 x2 = I11 at hw hok ⊢
    exact gx_vret hE hR dJ15_init_46 (by decide) (by decide) ⟨rfl, rfl, rfl, hw⟩ hok
  · skip
    obtain ⟨h14, h15, hT16, hN17⟩ := hw
    refine g_icmp_ne hE1 (tgt := 33) dJ15_init_26 (by decide) h14 h15 (fun q => ?_) (fun q => ?_)
    · have hw := hT16 q
      refine g_null hE1 dJ15_init_29 ?_
      refine g_goto hE1 (tgt := 38) dJ15_init_30 (by decide) ?_
      exact hj_38 _ hw hok
    · have hw := hN17 q
      refine g_aldn1 hE1 dJ15_init_33 ?_
      refine g_ildn2 hE1 dJ15_init_34 ?_
      refine gx_callV hE hRm (As := [aI x2]) ht9 (by decide) (by decide) rfl hx_J4_node (tx_J4_node X hw) (lw_V q503 q504 q505 q100 q506) ⟨by decide, by decide⟩ ⟨(by decide), (by decide)⟩ rfl (Nat.le_of_ble_eq_true rfl) dJ15_init_35 rfl (fun r9 Tz Iz Rz Lz hΦ => ?_) hok
      obtain ⟨r12, rfl, rfl, rfl, rfl, rfl, hw⟩ := hΦ
      show GX E X T I6 R2 L 0 0 38 [some (aR (some o)), some (aR (some b7)), some (aI x2)] [aR r12, aR (some o)]
      intro hok
      exact hj_38 _ hw hok

/-- java/util/LinkedList.listIterator(I)Ljava/util/ListIterator; -/
def wx_J4_listIterator (X : XT) (o : Nat) (x1 : Int) (T : xT) (I : xI) (R : xR) (L : xL) (Q : Option Nat → xT → xI → xR → Prop) : Prop :=
  xtag T o = 4 ∧ wx_J4_checkPositionIndex X o x1 T I R L (
  ∀ q3 : Nat, xtag T q3 = 0 → bsX X ≤ q3 → ∀ T6 : xT, T6 = xnew T q3 9 0 →
  wx_J15_init X q3 (some o) x1 T6 I R L (fun (I9 : xI) (R10 : xR) => 
  Q (some q3) T6 I9 R10))
theorem hx_J4_listIterator : yJ4_listIterator.cls = RJ4 ∧ yJ4_listIterator.cls ≠ "java/lang/invoke/MethodHandle" ∧ yJ4_listIterator.cls ≠ "java/lang/invoke/VarHandle" ∧ (parseMethodDescriptor yJ4_listIterator.desc).map (fun d => d.parameters.length) = some 1 := by decide +kernel
set_option maxHeartbeats 4000000 in
theorem tx_J4_listIterator (X : XT) {o : Nat} {x1 : Int} {T : xT} {I : xI} {R : xR} {L : xL} {Q : Option Nat → xT → xI → xR → Prop} (hw : wx_J4_listIterator X o x1 T I R L Q) : CtX X yJ4_listIterator cJ4_listIterator 2 (some (.object "java/util/ListIterator")) (rmX 2 1 5 45) [aR (some o), aI x1] T I R L (PXqTIR T I R L Q) := by
  refine CtX.intro (by decide) (Nat.le_of_ble_eq_true rfl) (fun E hE hR hN => ?_)
  have hRm := hR.rm
  have hE : OkX E X RJ4 cJ4_listIterator 2 (some (.object "java/util/ListIterator")) := hE
  have hE1 := hE.1
  show GX E X T I R L 0 0 0 [some (aR (some o)), some (aI x1)] []
  unfold wx_J4_listIterator at hw
  intro hok
  refine g_aldn0 hE1 dJ4_listIterator_0 ?_
  refine g_ildn1 hE1 dJ4_listIterator_1 ?_
  obtain ⟨ht1, hw⟩ := hw
  refine gx_callV hE hRm (As := [aI x1]) ht1 (by decide) (by decide) rfl hx_J4_checkPositionIndex (tx_J4_checkPositionIndex X hw) (lw_V q489 q491 qs4 q100 q492) ⟨by decide, by decide⟩ ⟨(by decide), (by decide)⟩ rfl (Nat.le_of_ble_eq_true rfl) dJ4_listIterator_2 rfl (fun r9 Tz Iz Rz Lz hΦ => ?_) hok
  obtain ⟨rfl, rfl, rfl, rfl, rfl, hw⟩ := hΦ
  show GX E X T I R L 0 0 5 [some (aR (some o)), some (aI x1)] []
  intro hok
  refine gx_new hE hRm in_J15 tyJ15 tyJ15_ok (t := 9) rfl (by decide) (by decide) rfl (by decide) q497 q498 q116 (by decide) (by decide) dJ4_listIterator_5 (fun q3 hq4 hbs5 => ?_) hok
  intro hok
  have hw := hw q3 hq4 hbs5 _ rfl
  have hl7 := tle.new (T := T) (q := q3) (t := 9) (n := 0) hq4
  have hT8 : xtag (xnew T q3 9 0) q3 = 9 := if_pos rfl
  generalize xnew T q3 9 0 = T6 at hw hl7 hok hT8 ⊢
  refine g_dup hE1 dJ4_listIterator_8 rfl ?_
  refine g_aldn0 hE1 dJ4_listIterator_9 ?_
  refine g_ildn1 hE1 dJ4_listIterator_10 ?_
  refine gx_callI hE hRm (As := [aR (some o), aI x1]) (b := q3) hx_J15_init (lw_meth q501) q499 q116 q500 rfl (tx_J15_init X hw) ⟨by decide, by decide⟩ ⟨(by decide), (by decide)⟩ rfl (Nat.le_of_ble_eq_true rfl) dJ4_listIterator_11 rfl (fun r9 Tz I9 R10 Lz hΦ => ?_) hok
  obtain ⟨rfl, rfl, rfl, hw⟩ := hΦ
  show GX E X T6 I9 R10 L 1 5 14 [some (aR (some o)), some (aI x1)] [aR (some q3)]
  intro hok
  exact gx_aret hE hR dJ4_listIterator_14 (by decide) (by decide) (Or.inl ⟨_, rfl⟩) ⟨_, rfl, rfl, hl7, hw⟩ hok

/-- java/util/AbstractList.listIterator()Ljava/util/ListIterator; -/
def wx_J2_listIterator_J4 (X : XT) (o : Nat)  (T : xT) (I : xI) (R : xR) (L : xL) (Q : Option Nat → xT → xI → xR → Prop) : Prop :=
  xtag T o = 4 ∧ wx_J4_listIterator X o 0 T I R L (fun (r2 : Option Nat) (T3 : xT) (I4 : xI) (R5 : xR) => tle T T3 → 
  Q r2 T3 I4 R5)
theorem hx_J2_listIterator_J4 : yJ2_listIterator.cls = RJ2 ∧ yJ2_listIterator.cls ≠ "java/lang/invoke/MethodHandle" ∧ yJ2_listIterator.cls ≠ "java/lang/invoke/VarHandle" ∧ (parseMethodDescriptor yJ2_listIterator.desc).map (fun d => d.parameters.length) = some 0 := by decide +kernel
set_option maxHeartbeats 4000000 in
theorem tx_J2_listIterator_J4 (X : XT) {o : Nat}  {T : xT} {I : xI} {R : xR} {L : xL} {Q : Option Nat → xT → xI → xR → Prop} (hw : wx_J2_listIterator_J4 X o T I R L Q) : CtX X yJ2_listIterator cJ2_listIterator 1 (some (.object "java/util/ListIterator")) (rmX 3 1 5 66) [aR (some o)] T I R L (PXqTIR T I R L Q) := by
  refine CtX.intro (by decide) (Nat.le_of_ble_eq_true rfl) (fun E hE hR hN => ?_)
  have hRm := hR.rm
  have hE : OkX E X RJ2 cJ2_listIterator 1 (some (.object "java/util/ListIterator")) := hE
  have hE1 := hE.1
  show GX E X T I R L 0 0 0 [some (aR (some o))] []
  unfold wx_J2_listIterator_J4 at hw
  intro hok
  refine g_aldn0 hE1 dJ2_listIterator_0 ?_
  refine g_iconst hE1 dJ2_listIterator_1 ?_
  obtain ⟨ht1, hw⟩ := hw
  refine gx_callA hE hRm (na := 1) (As := [aI 0]) ht1 (by decide) (by decide) rfl (owner := "java/util/AbstractList") (x := ⟨"java/util/AbstractList", "listIterator", "(I)Ljava/util/ListIterator;"⟩) (by decide +kernel) (tx_J4_listIterator X hw) (lw_U q448 q450 q486 q487 q100 q488) q523 ⟨by decide, by decide⟩ ⟨(by decide), (by decide)⟩ rfl (Nat.le_of_ble_eq_true rfl) dJ2_listIterator_2 rfl (fun r9 T3 I4 R5 Lz hΦ => ?_) hok
  obtain ⟨r2, rfl, rfl, hl6, hw⟩ := hΦ
  have hw := hw hl6
  show GX E X T3 I4 R5 L 1 5 5 [some (aR (some o))] [aR r2]
  intro hok
  exact gx_aret hE hR dJ2_listIterator_5 (by decide) (by decide) (Or.inl ⟨_, rfl⟩) ⟨_, rfl, rfl, hl6, hw⟩ hok

