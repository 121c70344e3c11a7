set_option maxRecDepth 100000
/-- java/util/AbstractSequentialList.iterator()Ljava/util/Iterator; -/
def wx_J3_iterator_J4 (X : XT) (o : Nat)  (T : xT) (I : xI) (R : xR) (L : xL) (Q : Option Nat → xT → xI → xR → Prop) : Prop :=
  xtag T o = 4 ∧ wx_J2_listIterator_J4 X o T I R L (fun (r2 : Option Nat) (T3 : xT) (I4 : xI) (R5 : xR) => tle T T3 → 
  Q r2 T3 I4 R5)
theorem hx_J3_iterator_J4 : yJ3_iterator.cls = RJ3 ∧ yJ3_iterator.cls ≠ "java/lang/invoke/MethodHandle" ∧ yJ3_iterator.cls ≠ "java/lang/invoke/VarHandle" ∧ (parseMethodDescriptor yJ3_iterator.desc).map (fun d => d.parameters.length) = some 0 := by decide +kernel
set_option maxHeartbeats 4000000 in
theorem tx_J3_iterator_J4 (X : XT) {o : Nat}  {T : xT} {I : xI} {R : xR} {L : xL} {Q : Option Nat → xT → xI → xR → Prop} (hw : wx_J3_iterator_J4 X o T I R L Q) : CtX X yJ3_iterator cJ3_iterator 1 (some (.object "java/util/Iterator")) (rmX 4 1 5 86) [aR (some o)] T I R L (PXqTIR T I R L Q) := by
  refine CtX.intro (by decide) (Nat.le_of_ble_eq_true rfl) (fun E hE hR hN => ?_)
  have hRm := hR.rm
  have hE : OkX E X RJ3 cJ3_iterator 1 (some (.object "java/util/Iterator")) := hE
  have hE1 := hE.1
  show GX E X T I R L 0 0 0 [some (aR (some o))] []
  unfold wx_J3_iterator_J4 at hw
  intro hok
  refine g_aldn0 hE1 dJ3_iterator_0 ?_
  obtain ⟨ht1, hw⟩ := hw
  refine gx_callU hE hRm (na := 0) (As := []) ht1 (by decide) (by decide) rfl (owner := "java/util/AbstractList") (x := ⟨"java/util/AbstractSequentialList", "listIterator", "()Ljava/util/ListIterator;"⟩) (by decide +kernel) (tx_J2_listIterator_J4 X hw) (lw_U q442 q443 q445 q446 q98 q447) rfl ⟨by decide, by decide⟩ ⟨(by decide), (by decide)⟩ rfl (Nat.le_of_ble_eq_true rfl) dJ3_iterator_1 rfl (fun r9 T3 I4 R5 Lz hΦ => ?_) hok
  obtain ⟨r2, rfl, rfl, hl6, hw⟩ := hΦ
  have hw := hw hl6
  show GX E X T3 I4 R5 L 1 5 4 [some (aR (some o))] [aR r2]
  intro hok
  exact gx_aret hE hR dJ3_iterator_4 (by decide) (by decide) (Or.inl ⟨_, rfl⟩) ⟨_, rfl, rfl, hl6, hw⟩ hok

/-- java/util/LinkedList$ListItr.hasNext()Z -/
def wx_J15_hasNext (X : XT) (o : Nat)  (T : xT) (I : xI) (R : xR) (L : xL) (Q : Int → Prop) : Prop :=
  xtag T o = 9 ∧
  ∃ b2 : Nat, R o 4 = some b2 ∧ xtag T b2 = 4 ∧
  jn1 (fun (y0_19 : Int) => 
      bl y0_19 ∧ Q y0_19)
    (fun (J_19 : Int → Prop) =>
    cLt (I o 2) (I b2 1)
      (
      J_19 1)
      (
      J_19 0))
theorem hx_J15_hasNext : yJ15_hasNext.cls = RJ15 ∧ yJ15_hasNext.cls ≠ "java/lang/invoke/MethodHandle" ∧ yJ15_hasNext.cls ≠ "java/lang/invoke/VarHandle" ∧ (parseMethodDescriptor yJ15_hasNext.desc).map (fun d => d.parameters.length) = some 0 := by decide +kernel
set_option maxHeartbeats 4000000 in
theorem tx_J15_hasNext (X : XT) {o : Nat}  {T : xT} {I : xI} {R : xR} {L : xL} {Q : Int → Prop} (hw : wx_J15_hasNext X o T I R L Q) : CtX X yJ15_hasNext cJ15_hasNext 1 (some .boolean) (rmX 0 0 0 0) [aR (some o)] T I R L (PXi T I R L Q) := by
  refine CtX.intro (by decide) (Nat.le_of_ble_eq_true rfl) (fun E hE hR hN => ?_)
  have hRm := hR.rm
  have hE : OkX E X RJ15 cJ15_hasNext 1 (some .boolean) := hE
  have hE1 := hE.1
  show GX E X T I R L 0 0 0 [some (aR (some o))] []
  unfold wx_J15_hasNext at hw
  intro hok
  refine g_aldn0 hE1 dJ15_hasNext_0 ?_
  obtain ⟨ht1, hw⟩ := hw
  refine gx_geti hE in_J15 (t := 9) rfl (by decide) 2 2 rfl (by decide) rfl (by decide) rfl q509 (Or.inl rfl) ht1 dJ15_hasNext_1 ?_ hok
  intro hok
  refine g_aldn0 hE1 dJ15_hasNext_4 ?_
  refine gx_getr hE in_J15 (t := 9) rfl (by decide) 4 4 rfl (by decide) rfl (by decide) rfl q511 (Or.inl rfl) ht1 dJ15_hasNext_5 ?_ hok
  intro hok
  obtain ⟨b2, hb3, hw⟩ := hw
  rw [hb3]
  obtain ⟨ht4, hw⟩ := hw
  refine gx_geti hE in_J4 (t := 4) rfl (by decide) 1 1 rfl (by decide) rfl (by decide) rfl q199 (Or.inl rfl) ht4 dJ15_hasNext_8 ?_ hok
  intro hok
  refine jn1_walk (fun (y0_19 : Int) => GX E X T I R L 0 0 19 [some (aR (some o))] [aI y0_19]) hw (fun y0_19 hw => ?_) (fun J_19 hj_19 hw => ?_)
  · intro hok
    obtain ⟨h5, hw⟩ := hw
    exact gx_iret hE hR dJ15_hasNext_19 (by decide) (by decide) (narrow_bl h5) ⟨_, rfl, rfl, rfl, rfl, rfl, hw⟩ hok
  · skip
    obtain ⟨h6, h7, hT8, hN9⟩ := hw
    refine g_icmp_ge hE1 (tgt := 18) dJ15_hasNext_11 (by decide) h6 h7 (fun q => ?_) (fun q => ?_)
    · have hw := hT8 q
      refine g_iconst hE1 dJ15_hasNext_14 ?_
      refine g_goto hE1 (tgt := 19) dJ15_hasNext_15 (by decide) ?_
      exact hj_19 _ hw hok
    · have hw := hN9 q
      refine g_iconst hE1 dJ15_hasNext_18 ?_
      exact hj_19 _ hw hok

/-- java/util/LinkedList$ListItr.checkForComodification()V -/
def wx_J15_checkForComodification (X : XT) (o : Nat)  (T : xT) (I : xI) (R : xR) (L : xL) (Q : Prop) : Prop :=
  xtag T o = 9 ∧
  ∃ b2 : Nat, R o 4 = some b2 ∧ xtag T b2 = 4 ∧
  cEq (I b2 0) (I o 3)
    (
    Q)
    (
    False)
theorem hx_J15_checkForComodification : yJ15_checkForComodification.cls = RJ15 ∧ yJ15_checkForComodification.cls ≠ "java/lang/invoke/MethodHandle" ∧ yJ15_checkForComodification.cls ≠ "java/lang/invoke/VarHandle" ∧ (parseMethodDescriptor yJ15_checkForComodification.desc).map (fun d => d.parameters.length) = some 0 := by decide +kernel
set_option maxHeartbeats 4000000 in
theorem tx_J15_checkForComodification (X : XT) {o : Nat}  {T : xT} {I : xI} {R : xR} {L : xL} {Q : Prop} (hw : wx_J15_checkForComodification X o T I R L Q) : CtX X yJ15_checkForComodification cJ15_checkForComodification 1 none (rmX 0 0 0 0) [aR (some o)] T I R L (PXv T I R L Q) := by
  refine CtX.intro (by decide) (Nat.le_of_ble_eq_true rfl) (fun E hE hR hN => ?_)
  have hRm := hR.rm
  have hE : OkX E X RJ15 cJ15_checkForComodification 1 none := hE
  have hE1 := hE.1
  show GX E X T I R L 0 0 0 [some (aR (some o))] []
  unfold wx_J15_checkForComodification at hw
  intro hok
  refine g_aldn0 hE1 dJ15_checkForComodification_0 ?_
  obtain ⟨ht1, hw⟩ := hw
  refine gx_getr hE in_J15 (t := 9) rfl (by decide) 4 4 rfl (by decide) rfl (by decide) rfl q511 (Or.inl rfl) ht1 dJ15_checkForComodification_1 ?_ hok
  intro hok
  obtain ⟨b2, hb3, hw⟩ := hw
  rw [hb3]
  obtain ⟨ht4, hw⟩ := hw
  refine gx_geti hE in_J4 (t := 4) rfl (by decide) 0 0 rfl (by decide) rfl (by decide) rfl q204 (Or.inr q205) ht4 dJ15_checkForComodification_4 ?_ hok
  intro hok
  refine g_aldn0 hE1 dJ15_checkForComodification_7 ?_
  refine gx_geti hE in_J15 (t := 9) rfl (by decide) 3 3 rfl (by decide) rfl (by decide) rfl q510 (Or.inl rfl) ht1 dJ15_checkForComodification_8 ?_ hok
  intro hok
  obtain ⟨h5, h6, hT7, hN8⟩ := hw
  refine g_icmp_eq hE1 (tgt := 22) dJ15_checkForComodification_11 (by decide) h5 h6 (fun q => ?_) (fun q => ?_)
  · have hw := hT7 q
    exact gx_vret hE hR dJ15_checkForComodification_22 (by decide) (by decide) ⟨rfl, rfl, rfl, rfl, rfl, hw⟩ hok
  · have hw := hN8 q
    exact hw.elim

/-- java/util/LinkedList$ListItr.next()Ljava/lang/Object; -/
def wx_J15_next (X : XT) (o : Nat)  (T : xT) (I : xI) (R : xR) (L : xL) (Q : Option Nat → xI → xR → Prop) : Prop :=
  xtag T o = 9 ∧ wx_J15_checkForComodification X o T I R L (
  wx_J15_hasNext X o T I R L (fun (r3 : Int) => 
  cEq r3 0
    (
    False)
    (
    ∀ R5 : xR, R5 = uR R o 0 (R o 1) →
    ∃ b6 : Nat, R5 o 1 = some b6 ∧ xtag T b6 = 13 ∧
    ∀ R9 : xR, R9 = uR R5 o 1 (R5 b6 1) →
    ∀ I10 : xI, I10 = uI I o 2 ((I o 2) + 1) →
    ∃ b11 : Nat, R9 o 0 = some b11 ∧ xtag T b11 = 13 ∧
    Q (R9 b11 0) I10 R9)))
theorem hx_J15_next : yJ15_next.cls = RJ15 ∧ yJ15_next.cls ≠ "java/lang/invoke/MethodHandle" ∧ yJ15_next.cls ≠ "java/lang/invoke/VarHandle" ∧ (parseMethodDescriptor yJ15_next.desc).map (fun d => d.parameters.length) = some 0 := by decide +kernel
set_option maxHeartbeats 4000000 in
theorem tx_J15_next (X : XT) {o : Nat}  {T : xT} {I : xI} {R : xR} {L : xL} {Q : Option Nat → xI → xR → Prop} (hw : wx_J15_next X o T I R L Q) : CtX X yJ15_next cJ15_next 1 (some (.object "java/lang/Object")) (rmX 1 0 0 20) [aR (some o)] T I R L (PXqIR T I R L Q) := by
  refine CtX.intro (by decide) (Nat.le_of_ble_eq_true rfl) (fun E hE hR hN => ?_)
  have hRm := hR.rm
  have hE : OkX E X RJ15 cJ15_next 1 (some (.object "java/lang/Object")) := hE
  have hE1 := hE.1
  show GX E X T I R L 0 0 0 [some (aR (some o))] []
  unfold wx_J15_next at hw
  intro hok
  refine g_aldn0 hE1 dJ15_next_0 ?_
  obtain ⟨ht1, hw⟩ := hw
  refine gx_callV hE hRm (As := []) ht1 (by decide) (by decide) rfl hx_J15_checkForComodification (tx_J15_checkForComodification X hw) (lw_V q922 q923 q924 q116 q925) ⟨by decide, by decide⟩ ⟨(by decide), (by decide)⟩ rfl (Nat.le_of_ble_eq_true rfl) dJ15_next_1 rfl (fun r9 Tz Iz Rz Lz hΦ => ?_) hok
  obtain ⟨rfl, rfl, rfl, rfl, rfl, hw⟩ := hΦ
  show GX E X T I R L 0 0 4 [some (aR (some o))] []
  intro hok
  refine g_aldn0 hE1 dJ15_next_4 ?_
  refine gx_callV hE hRm (As := []) ht1 (by decide) (by decide) rfl hx_J15_hasNext (tx_J15_hasNext X hw) (lw_V q932 q562 q2591 q116 q564) ⟨by decide, by decide⟩ ⟨(by decide), (by decide)⟩ rfl (Nat.le_of_ble_eq_true rfl) dJ15_next_5 rfl (fun r9 Tz Iz Rz Lz hΦ => ?_) hok
  obtain ⟨r3, rfl, rfl, rfl, rfl, rfl, hw⟩ := hΦ
  show GX E X T I R L 0 0 8 [some (aR (some o))] [aI r3]
  intro hok
  obtain ⟨h14, h15, hT16, hN17⟩ := hw
  refine g_if_ne hE1 (tgt := 19) dJ15_next_8 (by decide) h14 (fun q => ?_) (fun q => ?_)
  · have hw := hT16 q
    exact hw.elim
  · have hw := hN17 q
    refine g_aldn0 hE1 dJ15_next_19 ?_
    refine g_aldn0 hE1 dJ15_next_20 ?_
    refine gx_getr hE in_J15 (t := 9) rfl (by decide) 1 1 rfl (by decide) rfl (by decide) rfl q508 (Or.inl rfl) ht1 dJ15_next_21 ?_ hok
    intro hok
    refine gx_putr hE in_J15 (t := 9) rfl (by decide) 0 0 rfl (by decide) rfl (by decide) (ty := tyJ15 0) tyJ15 tyJ15_ok nmJ15 rfl q507 (Or.inl rfl) rfl (tyJ15_ok 0 (by decide)) nar_o fit_o ht1 dJ15_next_24 ?_ hok
    intro hok
    have hw := hw _ rfl
    generalize uR R o 0 (R o 1) = R5 at hw hok ⊢
    refine g_aldn0 hE1 dJ15_next_27 ?_
    refine g_aldn0 hE1 dJ15_next_28 ?_
    refine gx_getr hE in_J15 (t := 9) rfl (by decide) 1 1 rfl (by decide) rfl (by decide) rfl q508 (Or.inl rfl) ht1 dJ15_next_29 ?_ hok
    intro hok
    obtain ⟨b6, hb7, hw⟩ := hw
    rw [hb7]
    obtain ⟨ht8, hw⟩ := hw
    refine gx_getr hE in_J25 (t := 13) rfl (by decide) 1 1 rfl (by decide) rfl (by decide) rfl q1061 (Or.inl rfl) ht8 dJ15_next_32 ?_ hok
    intro hok
    refine gx_putr hE in_J15 (t := 9) rfl (by decide) 1 1 rfl (by decide) rfl (by decide) (ty := tyJ15 1) tyJ15 tyJ15_ok nmJ15 rfl q508 (Or.inl rfl) rfl (tyJ15_ok 1 (by decide)) nar_o fit_o ht1 dJ15_next_35 ?_ hok
    intro hok
    have hw := hw _ rfl
    generalize uR R5 o 1 (R5 b6 1) = R9 at hw hok ⊢
    refine g_aldn0 hE1 dJ15_next_38 ?_
    refine g_dup hE1 dJ15_next_39 rfl ?_
    refine gx_geti hE in_J15 (t := 9) rfl (by decide) 2 2 rfl (by decide) rfl (by decide) rfl q509 (Or.inl rfl) ht1 dJ15_next_40 ?_ hok
    intro hok
    refine g_iconst hE1 dJ15_next_43 ?_
    refine g_iadd hE1 dJ15_next_44 ?_
    refine gx_puti hE in_J15 (t := 9) rfl (by decide) 2 2 rfl (by decide) rfl (by decide) (ty := tyJ15 2) tyJ15 tyJ15_ok nmJ15 rfl q509 (Or.inl rfl) rfl (tyJ15_ok 2 (by decide)) rfl rfl ht1 dJ15_next_45 ?_ hok
    intro hok
    have hw := hw _ rfl
    generalize uI I o 2 ((I o 2) + 1) = I10 at hw hok ⊢
    refine g_aldn0 hE1 dJ15_next_48 ?_
    refine gx_getr hE in_J15 (t := 9) rfl (by decide) 0 0 rfl (by decide) rfl (by decide) rfl q507 (Or.inl rfl) ht1 dJ15_next_49 ?_ hok
    intro hok
    obtain ⟨b11, hb12, hw⟩ := hw
    rw [hb12]
    obtain ⟨ht13, hw⟩ := hw
    refine gx_getr hE in_J25 (t := 13) rfl (by decide) 0 0 rfl (by decide) rfl (by decide) rfl q1058 (Or.inl rfl) ht13 dJ15_next_52 ?_ hok
    intro hok
    exact gx_aret hE hR dJ15_next_55 (by decide) (by decide) (Or.inl ⟨_, rfl⟩) ⟨_, rfl, rfl, rfl, hw⟩ hok

/-- java/util/AbstractCollection.<init>()V -/
def wx_J1_init_J24 (X : XT) (o : Nat)  (T : xT) (I : xI) (R : xR) (L : xL) (Q : Prop) : Prop :=
  Q
theorem hx_J1_init_J24 : yJ1_init.cls ≠ "java/lang/invoke/MethodHandle" ∧ yJ1_init.cls ≠ "java/lang/invoke/VarHandle" ∧ (parseMethodDescriptor yJ1_init.desc).map (fun d => d.parameters.length) = some 0 := by decide +kernel
set_option maxHeartbeats 4000000 in
theorem tx_J1_init_J24 (X : XT) {o : Nat}  {T : xT} {I : xI} {R : xR} {L : xL} {Q : Prop} (hw : wx_J1_init_J24 X o T I R L Q) : CtX X yJ1_init cJ1_init 1 none (rmX 1 0 0 20) [aR (some o)] T I R L (PXv T I R L Q) := by
  refine CtX.intro (by decide) (Nat.le_of_ble_eq_true rfl) (fun E hE hR hN => ?_)
  have hRm := hR.rm
  have hE : OkX E X RJ1 cJ1_init 1 none := hE
  have hE1 := hE.1
  have hI : isInit E := hN
  show GX E X T I R L 0 0 0 [some (aR (some o))] []
  unfold wx_J1_init_J24 at hw
  intro hok
  refine g_aldn0 hE1 dJ1_init_0 ?_
  refine gx_objInit hE hRm rfl q197 q151 q152 (by decide) (by decide) (Nat.le_of_ble_eq_true rfl) dJ1_init_1 ?_ hok
  intro hok
  exact gx_vret hE hR dJ1_init_4 (by decide) (by decide) ⟨rfl, rfl, rfl, rfl, rfl, hw⟩ hok

/-- java/util/AbstractList.<init>()V -/
def wx_J2_init_J24 (X : XT) (o : Nat)  (T : xT) (I : xI) (R : xR) (L : xL) (Q : xI → Prop) : Prop :=
  wx_J1_init_J24 X o T I R L (
  xtag T o = 11 ∧ ∀ I3 : xI, I3 = uI I o 0 0 →
  Q I3)
theorem hx_J2_init_J24 : yJ2_init.cls ≠ "java/lang/invoke/MethodHandle" ∧ yJ2_init.cls ≠ "java/lang/invoke/VarHandle" ∧ (parseMethodDescriptor yJ2_init.desc).map (fun d => d.parameters.length) = some 0 := by decide +kernel
set_option maxHeartbeats 4000000 in
theorem tx_J2_init_J24 (X : XT) {o : Nat}  {T : xT} {I : xI} {R : xR} {L : xL} {Q : xI → Prop} (hw : wx_J2_init_J24 X o T I R L Q) : CtX X yJ2_init cJ2_init 1 none (rmX 2 0 0 40) [aR (some o)] T I R L (PXvI T I R L Q) := by
  refine CtX.intro (by decide) (Nat.le_of_ble_eq_true rfl) (fun E hE hR hN => ?_)
  have hRm := hR.rm
  have hE : OkX E X RJ2 cJ2_init 1 none := hE
  have hE1 := hE.1
  have hI : isInit E := hN
  show GX E X T I R L 0 0 0 [some (aR (some o))] []
  unfold wx_J2_init_J24 at hw
  intro hok
  refine g_aldn0 hE1 dJ2_init_0 ?_
  refine gx_callI hE hRm (As := []) (b := o) hx_J1_init_J24 (lw_meth q196) q194 q97 q195 rfl (tx_J1_init_J24 X hw) ⟨by decide, by decide⟩ ⟨(by decide), (by decide)⟩ rfl (Nat.le_of_ble_eq_true rfl) dJ2_init_1 rfl (fun r9 Tz Iz Rz Lz hΦ => ?_) hok
  obtain ⟨rfl, rfl, rfl, rfl, rfl, hw⟩ := hΦ
  show GX E X T I R L 0 0 4 [some (aR (some o))] []
  intro hok
  refine g_aldn0 hE1 dJ2_init_4 ?_
  refine g_iconst hE1 dJ2_init_5 ?_
  obtain ⟨ht2, hw⟩ := hw
  refine gx_puti hE in_J24 (t := 11) rfl (by decide) 0 0 rfl (by decide) rfl (by decide) (ty := tyJ24 0) tyJ24 tyJ24_ok nmJ24 rfl q203 (Or.inl rfl) rfl (tyJ24_ok 0 (by decide)) rfl rfl ht2 dJ2_init_6 ?_ hok
  intro hok
  have hw := hw _ rfl
  generalize uI I o 0 0 = I3 at hw hok ⊢
  exact gx_vret hE hR dJ2_init_9 (by decide) (by decide) ⟨rfl, rfl, rfl, rfl, hw⟩ hok

/-- java/util/ArrayList.<init>(I)V -/
def wx_J24_init (X : XT) (o : Nat) (x1 : Int) (T : xT) (I : xI) (R : xR) (L : xL) (Q : xT → xI → xR → Prop) : Prop :=
  wx_J2_init_J24 X o T I R L (fun (I1 : xI) => 
  jn4 (fun (T_60 : xT) (R_60 : xR) (k_60 : Nat) (n_60 : Nat) => 
      Q T_60 I1 R_60)
    (fun (J_60 : xT → xR → Nat → Nat → Prop) =>
    cLt 0 x1
      (
      ∃ N6 : Nat, x1 = (N6 : Int) ∧ N6 ≤ 1000000 ∧ 0 + N6 ≤ 3 ∧ ∀ q3 : Nat, xtag T q3 = 0 → bsX X ≤ q3 → ∀ T10 : xT, T10 = xnew T q3 103 N6 →
      xtag T10 o = 11 ∧ ∀ R14 : xR, R14 = uR R o 1 (some q3) →
      J_60 T10 R14 1 (0 + N6))
      (
      cEq x1 0
        (
        xtag T o = 11 ∧ ∀ R16 : xR, R16 = uR R o 1 (srX X 4) →
        J_60 T R16 0 0)
        (
        False))))
theorem hx_J24_init : yJ24_init.cls ≠ "java/lang/invoke/MethodHandle" ∧ yJ24_init.cls ≠ "java/lang/invoke/VarHandle" ∧ (parseMethodDescriptor yJ24_init.desc).map (fun d => d.parameters.length) = some 1 := by decide +kernel
set_option maxHeartbeats 4000000 in
theorem tx_J24_init (X : XT) {o : Nat} {x1 : Int} {T : xT} {I : xI} {R : xR} {L : xL} {Q : xT → xI → xR → Prop} (hw : wx_J24_init X o x1 T I R L Q) : CtX X yJ24_init cJ24_init 2 none (rmX 3 1 3 60) [aR (some o), aI x1] T I R L (PXvTIR T I R L Q) := by
  refine CtX.intro (by decide) (Nat.le_of_ble_eq_true rfl) (fun E hE hR hN => ?_)
  have hRm := hR.rm
  have hE : OkX E X RJ24 cJ24_init 2 none := hE
  have hE1 := hE.1
  have hI : isInit E := hN
  show GX E X T I R L 0 0 0 [some (aR (some o)), some (aI x1)] []
  unfold wx_J24_init at hw
  intro hok
  refine g_aldn0 hE1 dJ24_init_0 ?_
  refine gx_callI hE hRm (As := []) (b := o) hx_J2_init_J24 (lw_meth q193) q948 q98 q192 rfl (tx_J2_init_J24 X hw) ⟨by decide, by decide⟩ ⟨(by decide), (by decide)⟩ rfl (Nat.le_of_ble_eq_true rfl) dJ24_init_1 rfl (fun r9 Tz I1 Rz Lz hΦ => ?_) hok
  obtain ⟨rfl, rfl, rfl, rfl, hw⟩ := hΦ
  show GX E X T I1 R L 0 0 4 [some (aR (some o)), some (aI x1)] []
  intro hok
  refine g_ildn1 hE1 dJ24_init_4 ?_
  refine jn4_walk (fun (T_60 : xT) (R_60 : xR) (k_60 : Nat) (n_60 : Nat) => tle T T_60 → k_60 ≤ 1 → n_60 ≤ 3 → GX E X T_60 I1 R_60 L k_60 n_60 60 [some (aR (some o)), some (aI x1)] []) hw (fun T_60 R_60 k_60 n_60 hw => ?_) (fun J_60 hj_60 hw => ?_)
  · intro hl_60 hkc_60 hnc_60; intro hok
    exact gx_vret hE hR dJ24_init_60 (show k_60 ≤ 1 by omega) (show n_60 ≤ 3 by omega) ⟨rfl, rfl, hl_60, hw⟩ hok
  · skip
    obtain ⟨h21, h22, hT23, hN24⟩ := hw
    refine g_if_le hE1 (tgt := 19) dJ24_init_5 (by decide) h22 (fun q => ?_) (fun q => ?_)
    · have hw := hT23 q
      refine g_aldn0 hE1 dJ24_init_8 ?_
      refine g_ildn1 hE1 dJ24_init_9 ?_
      obtain ⟨N6, h7, h8, hw⟩ := hw
      obtain ⟨hc9, hw⟩ := hw
      refine gx_newq_O hE hRm (N := N6) q949 h7 h8 (by decide) hc9 dJ24_init_10 (fun q3 hq4 hbs5 => ?_) hok
      intro hok
      have hw := hw q3 hq4 hbs5 _ rfl
      have hl11 := tle.new (T := T) (q := q3) (t := 103) (n := N6) hq4
      have hT12 : xtag (xnew T q3 103 N6) q3 = 103 := if_pos rfl
      generalize xnew T q3 103 N6 = T10 at hw hl11 hok hT12 ⊢
      obtain ⟨ht13, hw⟩ := hw
      refine gx_putr hE in_J24 (t := 11) rfl (by decide) 1 1 rfl (by decide) rfl (by decide) (ty := tyJ24 1) tyJ24 tyJ24_ok nmJ24 rfl q952 (Or.inl rfl) rfl (tyJ24_ok 1 (by decide)) nar_a fit_a ht13 dJ24_init_13 ?_ hok
      intro hok
      have hw := hw _ rfl
      generalize uR R o 1 (some q3) = R14 at hw hok ⊢
      refine g_goto hE1 (tgt := 60) dJ24_init_16 (by decide) ?_
      exact hj_60 _ _ _ _ hw hl11 (by omega) (by omega) hok
    · have hw := hN24 q
      refine g_ildn1 hE1 dJ24_init_19 ?_
      obtain ⟨h17, h18, hT19, hN20⟩ := hw
      refine g_if_ne hE1 (tgt := 33) dJ24_init_20 (by decide) h17 (fun q => ?_) (fun q => ?_)
      · have hw := hT19 q
        refine g_aldn0 hE1 dJ24_init_23 ?_
        refine gx_gets_r hE (List.mem_of_getElem? (i := 6) rfl : ("java/util/ArrayList", "EMPTY_ELEMENTDATA", "[Ljava/lang/Object;", Sum.inr (4 : Nat)) ∈ stL) q950 dJ24_init_24 ?_ hok
        intro hok
        obtain ⟨ht15, hw⟩ := hw
        refine gx_putr hE in_J24 (t := 11) rfl (by decide) 1 1 rfl (by decide) rfl (by decide) (ty := tyJ24 1) tyJ24 tyJ24_ok nmJ24 rfl q952 (Or.inl rfl) rfl (tyJ24_ok 1 (by decide)) nar_a fit_a ht15 dJ24_init_27 ?_ hok
        intro hok
        have hw := hw _ rfl
        generalize uR R o 1 (srX X 4) = R16 at hw hok ⊢
        refine g_goto hE1 (tgt := 60) dJ24_init_30 (by decide) ?_
        exact hj_60 _ _ _ _ hw tle.rf (by omega) (by omega) hok
      · have hw := hN20 q
        exact hw.elim

/-- WhalingLogs$Page.<init>(II)V -/
def wx_X5_init (X : XT) (o : Nat) (x1 : Int) (x2 : Int) (T : xT) (I : xI) (R : xR) (L : xL) (Q : xT → xI → xR → Prop) : Prop :=
  ∀ q1 : Nat, xtag T q1 = 0 → bsX X ≤ q1 → ∀ T4 : xT, T4 = xnew T q1 11 0 →
  wx_J24_init X q1 3 T4 I R L (fun (T7 : xT) (I8 : xI) (R9 : xR) => tle T4 T7 → 
  xtag T7 o = 10 ∧ ∀ R12 : xR, R12 = uR R9 o 1 (some q1) →
  ∀ I13 : xI, I13 = uI I8 o 0 x1 →
  ∀ I14 : xI, I14 = uI I13 o 2 x2 →
  Q T7 I14 R12)
theorem hx_X5_init : yX5_init.cls ≠ "java/lang/invoke/MethodHandle" ∧ yX5_init.cls ≠ "java/lang/invoke/VarHandle" ∧ (parseMethodDescriptor yX5_init.desc).map (fun d => d.parameters.length) = some 2 := by decide +kernel
set_option maxHeartbeats 4000000 in
theorem tx_X5_init (X : XT) {o : Nat} {x1 : Int} {x2 : Int} {T : xT} {I : xI} {R : xR} {L : xL} {Q : xT → xI → xR → Prop} (hw : wx_X5_init X o x1 x2 T I R L Q) : CtX X yX5_init cX5_init 3 none (rmX 4 2 6 81) [aR (some o), aI x1, aI x2] T I R L (PXvTIR T I R L Q) := by
  refine CtX.intro (by decide) (Nat.le_of_ble_eq_true rfl) (fun E hE hR hN => ?_)
  have hRm := hR.rm
  have hE : OkX E X RX5 cX5_init 3 none := hE
  have hE1 := hE.1
  have hI : isInit E := hN
  show GX E X T I R L 0 0 0 [some (aR (some o)), some (aI x1), some (aI x2)] []
  unfold wx_X5_init at hw
  intro hok
  refine g_aldn0 hE1 dX5_init_0 ?_
  refine gx_objInit hE hRm rfl q943 q151 q152 (by decide) (by decide) (Nat.le_of_ble_eq_true rfl) dX5_init_1 ?_ hok
  intro hok
  refine g_aldn0 hE1 dX5_init_4 ?_
  refine gx_new hE hRm in_J24 tyJ24 tyJ24_ok (t := 11) rfl (by decide) (by decide) rfl (by decide) q944 q457 q126 (by decide) (by decide) dX5_init_5 (fun q1 hq2 hbs3 => ?_) hok
  intro hok
  have hw := hw q1 hq2 hbs3 _ rfl
  have hl5 := tle.new (T := T) (q := q1) (t := 11) (n := 0) hq2
  have hT6 : xtag (xnew T q1 11 0) q1 = 11 := if_pos rfl
  generalize xnew T q1 11 0 = T4 at hw hl5 hok hT6 ⊢
  refine g_dup hE1 dX5_init_8 rfl ?_
  refine g_iconst hE1 dX5_init_9 ?_
  refine gx_callI hE hRm (As := [aI 3]) (b := q1) hx_J24_init (lw_meth q947) q945 q126 q946 rfl (tx_J24_init X hw) ⟨by decide, by decide⟩ ⟨(by decide), (by decide)⟩ rfl (Nat.le_of_ble_eq_true rfl) dX5_init_10 rfl (fun r9 T7 I8 R9 Lz hΦ => ?_) hok
  obtain ⟨rfl, rfl, hl10, hw⟩ := hΦ
  have hw := hw hl10
  show GX E X T7 I8 R9 L 2 6 13 [some (aR (some o)), some (aI x1), some (aI x2)] [aR (some q1), aR (some o)]
  intro hok
  obtain ⟨ht11, hw⟩ := hw
  refine gx_putrF hE in_X5 (t := 10) rfl (by decide) 1 1 rfl (by decide) rfl (by decide) (ty := tyX5 1) tyX5 tyX5_ok nmX5 rfl q964 (Or.inl rfl) rfl hI rfl (tyX5_ok 1 (by decide)) nar_o fit_o ht11 dX5_init_13 ?_ hok
  intro hok
  have hw := hw _ rfl
  generalize uR R9 o 1 (some q1) = R12 at hw hok ⊢
  refine g_aldn0 hE1 dX5_init_16 ?_
  refine g_ildn1 hE1 dX5_init_17 ?_
  refine gx_putiF hE in_X5 (t := 10) rfl (by decide) 0 0 rfl (by decide) rfl (by decide) (ty := tyX5 0) tyX5 tyX5_ok nmX5 rfl q962 (Or.inl rfl) rfl hI rfl (tyX5_ok 0 (by decide)) rfl rfl ht11 dX5_init_18 ?_ hok
  intro hok
  have hw := hw _ rfl
  generalize uI I8 o 0 x1 = I13 at hw hok ⊢
  refine g_aldn0 hE1 dX5_init_21 ?_
  refine g_ildn2 hE1 dX5_init_22 ?_
  refine gx_puti hE in_X5 (t := 10) rfl (by decide) 2 2 rfl (by decide) rfl (by decide) (ty := tyX5 2) tyX5 tyX5_ok nmX5 rfl q968 (Or.inl rfl) rfl (tyX5_ok 2 (by decide)) rfl rfl ht11 dX5_init_23 ?_ hok
  intro hok
  have hw := hw _ rfl
  generalize uI I13 o 2 x2 = I14 at hw hok ⊢
  exact gx_vret hE hR dX5_init_26 (by decide) (by decide) ⟨rfl, rfl, (hl5.tr hl10), hw⟩ hok

/-- java/util/ArrayList.size()I -/
def wx_J24_size (X : XT) (o : Nat)  (T : xT) (I : xI) (R : xR) (L : xL) (Q : Int → Prop) : Prop :=
  xtag T o = 11 ∧
  Q (I o 2)
theorem hx_J24_size : yJ24_size.cls = RJ24 ∧ yJ24_size.cls ≠ "java/lang/invoke/MethodHandle" ∧ yJ24_size.cls ≠ "java/lang/invoke/VarHandle" ∧ (parseMethodDescriptor yJ24_size.desc).map (fun d => d.parameters.length) = some 0 := by decide +kernel
set_option maxHeartbeats 4000000 in
theorem tx_J24_size (X : XT) {o : Nat}  {T : xT} {I : xI} {R : xR} {L : xL} {Q : Int → Prop} (hw : wx_J24_size X o T I R L Q) : CtX X yJ24_size cJ24_size 1 (some .int) (rmX 0 0 0 0) [aR (some o)] T I R L (PXi T I R L Q) := by
  refine CtX.intro (by decide) (Nat.le_of_ble_eq_true rfl) (fun E hE hR hN => ?_)
  have hRm := hR.rm
  have hE : OkX E X RJ24 cJ24_size 1 (some .int) := hE
  have hE1 := hE.1
  show GX E X T I R L 0 0 0 [some (aR (some o))] []
  unfold wx_J24_size at hw
  intro hok
  refine g_aldn0 hE1 dJ24_size_0 ?_
  obtain ⟨ht1, hw⟩ := hw
  refine gx_geti hE in_J24 (t := 11) rfl (by decide) 2 2 rfl (by decide) rfl (by decide) rfl q955 (Or.inl rfl) ht1 dJ24_size_1 ?_ hok
  intro hok
  exact gx_iret hE hR dJ24_size_4 (by decide) (by decide) rfl ⟨_, rfl, rfl, rfl, rfl, rfl, hw⟩ hok

/-- jdk/internal/util/Preconditions.checkIndex(IILjava/util/function/BiFunction;)I -/
def wx_J17_checkIndex (X : XT) (x0 : Int) (x1 : Int) (x2 : Option Nat) (T : xT) (I : xI) (R : xR) (L : xL) (Q : Int → Prop) : Prop :=
  jn0 (
      False)
    (fun (J_9 : Prop) =>
    cLt x0 0
      (
      J_9)
      (
      cLt x0 x1
        (
        Q x0)
        (
        J_9)))
theorem hx_J17_checkIndex : yJ17_checkIndex.cls ≠ "java/lang/invoke/MethodHandle" ∧ yJ17_checkIndex.cls ≠ "java/lang/invoke/VarHandle" ∧ (parseMethodDescriptor yJ17_checkIndex.desc).map (fun d => d.parameters.length) = some 3 := by decide +kernel
set_option maxHeartbeats 4000000 in
theorem tx_J17_checkIndex (X : XT) {x0 : Int} {x1 : Int} {x2 : Option Nat} {T : xT} {I : xI} {R : xR} {L : xL} {Q : Int → Prop} (hw : wx_J17_checkIndex X x0 x1 x2 T I R L Q) : CtX X yJ17_checkIndex cJ17_checkIndex 3 (some .int) (rmX 0 0 0 0) [aI x0, aI x1, aR x2] T I R L (PXi T I R L Q) := by
  refine CtX.intro (by decide) (Nat.le_of_ble_eq_true rfl) (fun E hE hR hN => ?_)
  have hRm := hR.rm
  have hE : OkX E X RJ17 cJ17_checkIndex 3 (some .int) := hE
  have hE1 := hE.1
  show GX E X T I R L 0 0 0 [some (aI x0), some (aI x1), some (aR x2)] []
  unfold wx_J17_checkIndex at hw
  intro hok
  refine g_ildn0 hE1 dJ17_checkIndex_0 ?_
  refine jn0_walk (GX E X T I R L 0 0 9 [some (aI x0), some (aI x1), some (aR x2)] []) hw (fun  hw => ?_) (fun J_9 hj_9 hw => ?_)
  · intro hok
    refine g_aldn2 hE1 dJ17_checkIndex_9 ?_
    refine g_ildn0 hE1 dJ17_checkIndex_10 ?_
    refine g_ildn1 hE1 dJ17_checkIndex_11 ?_
    exact hw.elim
  · skip
    obtain ⟨h5, h6, hT7, hN8⟩ := hw
    refine g_if_lt hE1 (tgt := 9) dJ17_checkIndex_1 (by decide) h5 (fun q => ?_) (fun q => ?_)
    · have hw := hT7 q
      exact hj_9  hw hok
    · have hw := hN8 q
      refine g_ildn0 hE1 dJ17_checkIndex_4 ?_
      refine g_ildn1 hE1 dJ17_checkIndex_5 ?_
      obtain ⟨h1, h2, hT3, hN4⟩ := hw
      refine g_icmp_lt hE1 (tgt := 16) dJ17_checkIndex_6 (by decide) h1 h2 (fun q => ?_) (fun q => ?_)
      · have hw := hT3 q
        refine g_ildn0 hE1 dJ17_checkIndex_16 ?_
        exact gx_iret hE hR dJ17_checkIndex_17 (by decide) (by decide) rfl ⟨_, rfl, rfl, rfl, rfl, rfl, hw⟩ hok
      · have hw := hN4 q
        exact hj_9  hw hok

/-- java/util/Objects.checkIndex(II)I -/
def wx_J16_checkIndex (X : XT) (x0 : Int) (x1 : Int) (T : xT) (I : xI) (R : xR) (L : xL) (Q : Int → Prop) : Prop :=
  wx_J17_checkIndex X x0 x1 none T I R L (fun (r1 : Int) => 
  Q r1)
theorem hx_J16_checkIndex : yJ16_checkIndex.cls ≠ "java/lang/invoke/MethodHandle" ∧ yJ16_checkIndex.cls ≠ "java/lang/invoke/VarHandle" ∧ (parseMethodDescriptor yJ16_checkIndex.desc).map (fun d => d.parameters.length) = some 2 := by decide +kernel
set_option maxHeartbeats 4000000 in
theorem tx_J16_checkIndex (X : XT) {x0 : Int} {x1 : Int} {T : xT} {I : xI} {R : xR} {L : xL} {Q : Int → Prop} (hw : wx_J16_checkIndex X x0 x1 T I R L Q) : CtX X yJ16_checkIndex cJ16_checkIndex 2 (some .int) (rmX 1 0 0 22) [aI x0, aI x1] T I R L (PXi T I R L Q) := by
  refine CtX.intro (by decide) (Nat.le_of_ble_eq_true rfl) (fun E hE hR hN => ?_)
  have hRm := hR.rm
  have hE : OkX E X RJ16 cJ16_checkIndex 2 (some .int) := hE
  have hE1 := hE.1
  show GX E X T I R L 0 0 0 [some (aI x0), some (aI x1)] []
  unfold wx_J16_checkIndex at hw
  intro hok
  refine g_ildn0 hE1 dJ16_checkIndex_0 ?_
  refine g_ildn1 hE1 dJ16_checkIndex_1 ?_
  refine g_null hE1 dJ16_checkIndex_2 ?_
  refine gx_callS hE hRm (As := [aI x0, aI x1, aR none]) hx_J17_checkIndex (tx_J17_checkIndex X hw) (lw_S q588 q589 q118 q590) ⟨by decide, by decide⟩ ⟨(by decide), (by decide)⟩ rfl (Nat.le_of_ble_eq_true rfl) dJ16_checkIndex_3 rfl (fun r9 Tz Iz Rz Lz hΦ => ?_) hok
  obtain ⟨r1, rfl, rfl, rfl, rfl, rfl, hw⟩ := hΦ
  show GX E X T I R L 0 0 6 [some (aI x0), some (aI x1)] [aI r1]
  intro hok
  exact gx_iret hE hR dJ16_checkIndex_6 (by decide) (by decide) rfl ⟨_, rfl, rfl, rfl, rfl, rfl, hw⟩ hok

/-- java/util/ArrayList.elementData(I)Ljava/lang/Object; -/
def wx_J24_elementData (X : XT) (o : Nat) (x1 : Int) (T : xT) (I : xI) (R : xR) (L : xL) (Q : Option Nat → Prop) : Prop :=
  xtag T o = 11 ∧
  ∃ b2 : Nat, R o 1 = some b2 ∧ xtag T b2 = 103 ∧ ib x1 (xlen T b2) ∧ xlen T b2 < 2147483648 ∧
  Q (R b2 x1)
theorem hx_J24_elementData : yJ24_elementData.cls = RJ24 ∧ yJ24_elementData.cls ≠ "java/lang/invoke/MethodHandle" ∧ yJ24_elementData.cls ≠ "java/lang/invoke/VarHandle" ∧ (parseMethodDescriptor yJ24_elementData.desc).map (fun d => d.parameters.length) = some 1 := by decide +kernel
set_option maxHeartbeats 4000000 in
theorem tx_J24_elementData (X : XT) {o : Nat} {x1 : Int} {T : xT} {I : xI} {R : xR} {L : xL} {Q : Option Nat → Prop} (hw : wx_J24_elementData X o x1 T I R L Q) : CtX X yJ24_elementData cJ24_elementData 2 (some (.object "java/lang/Object")) (rmX 0 0 0 0) [aR (some o), aI x1] T I R L (PXq T I R L Q) := by
  refine CtX.intro (by decide) (Nat.le_of_ble_eq_true rfl) (fun E hE hR hN => ?_)
  have hRm := hR.rm
  have hE : OkX E X RJ24 cJ24_elementData 2 (some (.object "java/lang/Object")) := hE
  have hE1 := hE.1
  show GX E X T I R L 0 0 0 [some (aR (some o)), some (aI x1)] []
  unfold wx_J24_elementData at hw
  intro hok
  refine g_aldn0 hE1 dJ24_elementData_0 ?_
  obtain ⟨ht1, hw⟩ := hw
  refine gx_getr hE in_J24 (t := 11) rfl (by decide) 1 1 rfl (by decide) rfl (by decide) rfl q952 (Or.inl rfl) ht1 dJ24_elementData_1 ?_ hok
  intro hok
  refine g_ildn1 hE1 dJ24_elementData_4 ?_
  obtain ⟨b2, hb3, hw⟩ := hw
  rw [hb3]
  obtain ⟨ht4, hw⟩ := hw
  obtain ⟨h5, h6, hw⟩ := hw
  refine gx_aald hE ht4 (by decide) h5 h6 dJ24_elementData_5 ?_ hok
  intro hok
  exact gx_aret hE hR dJ24_elementData_6 (by decide) (by decide) (Or.inl ⟨_, rfl⟩) ⟨_, rfl, rfl, rfl, rfl, rfl, hw⟩ hok

/-- java/util/ArrayList.get(I)Ljava/lang/Object; -/
def wx_J24_get (X : XT) (o : Nat) (x1 : Int) (T : xT) (I : xI) (R : xR) (L : xL) (Q : Option Nat → Prop) : Prop :=
  xtag T o = 11 ∧
  wx_J16_checkIndex X x1 (I o 2) T I R L (fun (r2 : Int) => 
  wx_J24_elementData X o x1 T I R L (fun (r4 : Option Nat) => 
  Q r4))
theorem hx_J24_get : yJ24_get.cls = RJ24 ∧ yJ24_get.cls ≠ "java/lang/invoke/MethodHandle" ∧ yJ24_get.cls ≠ "java/lang/invoke/VarHandle" ∧ (parseMethodDescriptor yJ24_get.desc).map (fun d => d.parameters.length) = some 1 := by decide +kernel
set_option maxHeartbeats 4000000 in
theorem tx_J24_get (X : XT) {o : Nat} {x1 : Int} {T : xT} {I : xI} {R : xR} {L : xL} {Q : Option Nat → Prop} (hw : wx_J24_get X o x1 T I R L Q) : CtX X yJ24_get cJ24_get 2 (some (.object "java/lang/Object")) (rmX 2 0 0 43) [aR (some o), aI x1] T I R L (PXq T I R L Q) := by
  refine CtX.intro (by decide) (Nat.le_of_ble_eq_true rfl) (fun E hE hR hN => ?_)
  have hRm := hR.rm
  have hE : OkX E X RJ24 cJ24_get 2 (some (.object "java/lang/Object")) := hE
  have hE1 := hE.1
  show GX E X T I R L 0 0 0 [some (aR (some o)), some (aI x1)] []
  unfold wx_J24_get at hw
  intro hok
  refine g_ildn1 hE1 dJ24_get_0 ?_
  refine g_aldn0 hE1 dJ24_get_1 ?_
  obtain ⟨ht1, hw⟩ := hw
  refine gx_geti hE in_J24 (t := 11) rfl (by decide) 2 2 rfl (by decide) rfl (by decide) rfl q955 (Or.inl rfl) ht1 dJ24_get_2 ?_ hok
  intro hok
  refine gx_callS hE hRm (As := [aI x1, aI (I o 2)]) hx_J16_checkIndex (tx_J16_checkIndex X hw) (lw_S q585 q586 q117 q587) ⟨by decide, by decide⟩ ⟨(by decide), (by decide)⟩ rfl (Nat.le_of_ble_eq_true rfl) dJ24_get_5 rfl (fun r9 Tz Iz Rz Lz hΦ => ?_) hok
  obtain ⟨r2, rfl, rfl, rfl, rfl, rfl, hw⟩ := hΦ
  show GX E X T I R L 0 0 8 [some (aR (some o)), some (aI x1)] [aI r2]
  intro hok
  refine g_pop hE1 dJ24_get_8 rfl ?_
  refine g_aldn0 hE1 dJ24_get_9 ?_
  refine g_ildn1 hE1 dJ24_get_10 ?_
  refine gx_callV hE hRm (As := [aI x1]) ht1 (by decide) (by decide) rfl hx_J24_elementData (tx_J24_elementData X hw) (lw_V q591 q592 q593 q126 q594) ⟨by decide, by decide⟩ ⟨(by decide), (by decide)⟩ rfl (Nat.le_of_ble_eq_true rfl) dJ24_get_11 rfl (fun r9 Tz Iz Rz Lz hΦ => ?_) hok
  obtain ⟨r4, rfl, rfl, rfl, rfl, rfl, hw⟩ := hΦ
  show GX E X T I R L 0 0 14 [some (aR (some o)), some (aI x1)] [aR r4]
  intro hok
  exact gx_aret hE hR dJ24_get_14 (by decide) (by decide) (Or.inl ⟨_, rfl⟩) ⟨_, rfl, rfl, rfl, rfl, rfl, hw⟩ hok

/-- WhalingLogs$Entry.<init>(III)V -/
def wx_X6_init (X : XT) (o : Nat) (x1 : Int) (x2 : Int) (x3 : Int) (T : xT) (I : xI) (R : xR) (L : xL) (Q : xI → Prop) : Prop :=
  xtag T o = 12 ∧ ∀ I2 : xI, I2 = uI I o 0 x1 →
  ∀ I3 : xI, I3 = uI I2 o 1 x2 →
  ∀ I4 : xI, I4 = uI I3 o 2 x3 →
  Q I4
theorem hx_X6_init : yX6_init.cls ≠ "java/lang/invoke/MethodHandle" ∧ yX6_init.cls ≠ "java/lang/invoke/VarHandle" ∧ (parseMethodDescriptor yX6_init.desc).map (fun d => d.parameters.length) = some 3 := by decide +kernel
set_option maxHeartbeats 4000000 in
theorem tx_X6_init (X : XT) {o : Nat} {x1 : Int} {x2 : Int} {x3 : Int} {T : xT} {I : xI} {R : xR} {L : xL} {Q : xI → Prop} (hw : wx_X6_init X o x1 x2 x3 T I R L Q) : CtX X yX6_init cX6_init 4 none (rmX 1 0 0 20) [aR (some o), aI x1, aI x2, aI x3] T I R L (PXvI T I R L Q) := by
  refine CtX.intro (by decide) (Nat.le_of_ble_eq_true rfl) (fun E hE hR hN => ?_)
  have hRm := hR.rm
  have hE : OkX E X RX6 cX6_init 4 none := hE
  have hE1 := hE.1
  have hI : isInit E := hN
  show GX E X T I R L 0 0 0 [some (aR (some o)), some (aI x1), some (aI x2), some (aI x3)] []
  unfold wx_X6_init at hw
  intro hok
  refine g_aldn0 hE1 dX6_init_0 ?_
  refine gx_objInit hE hRm rfl q990 q151 q152 (by decide) (by decide) (Nat.le_of_ble_eq_true rfl) dX6_init_1 ?_ hok
  intro hok
  refine g_aldn0 hE1 dX6_init_4 ?_
  refine g_ildn1 hE1 dX6_init_5 ?_
  obtain ⟨ht1, hw⟩ := hw
  refine gx_putiF hE in_X6 (t := 12) rfl (by decide) 0 0 rfl (by decide) rfl (by decide) (ty := tyX6 0) tyX6 tyX6_ok nmX6 rfl q991 (Or.inl rfl) rfl hI rfl (tyX6_ok 0 (by decide)) rfl rfl ht1 dX6_init_6 ?_ hok
  intro hok
  have hw := hw _ rfl
  generalize uI I o 0 x1 = I2 at hw hok ⊢
  refine g_aldn0 hE1 dX6_init_9 ?_
  refine g_ildn2 hE1 dX6_init_10 ?_
  refine gx_putiF hE in_X6 (t := 12) rfl (by decide) 1 1 rfl (by decide) rfl (by decide) (ty := tyX6 1) tyX6 tyX6_ok nmX6 rfl q994 (Or.inl rfl) rfl hI rfl (tyX6_ok 1 (by decide)) rfl rfl ht1 dX6_init_11 ?_ hok
  intro hok
  have hw := hw _ rfl
  generalize uI I2 o 1 x2 = I3 at hw hok ⊢
  refine g_aldn0 hE1 dX6_init_14 ?_
  refine g_ildn3 hE1 dX6_init_15 ?_
  refine gx_putiF hE in_X6 (t := 12) rfl (by decide) 2 2 rfl (by decide) rfl (by decide) (ty := tyX6 2) tyX6 tyX6_ok nmX6 rfl q997 (Or.inl rfl) rfl hI rfl (tyX6_ok 2 (by decide)) rfl rfl ht1 dX6_init_16 ?_ hok
  intro hok
  have hw := hw _ rfl
  generalize uI I3 o 2 x3 = I4 at hw hok ⊢
  exact gx_vret hE hR dX6_init_19 (by decide) (by decide) ⟨rfl, rfl, rfl, rfl, hw⟩ hok

/-- WhalingLogs$Entry.copy()LWhalingLogs$Entry; -/
def wx_X6_copy (X : XT) (o : Nat)  (T : xT) (I : xI) (R : xR) (L : xL) (Q : Option Nat → xT → xI → Prop) : Prop :=
  ∀ q1 : Nat, xtag T q1 = 0 → bsX X ≤ q1 → ∀ T4 : xT, T4 = xnew T q1 12 0 →
  xtag T4 o = 12 ∧
  wx_X6_init X q1 (I o 0) (I o 1) (I o 2) T4 I R L (fun (I8 : xI) => 
  ∀ I10 : xI, I10 = uI I8 q1 3 (I8 o 3) →
  Q (some q1) T4 I10)
theorem hx_X6_copy : yX6_copy.cls = RX6 ∧ yX6_copy.cls ≠ "java/lang/invoke/MethodHandle" ∧ yX6_copy.cls ≠ "java/lang/invoke/VarHandle" ∧ (parseMethodDescriptor yX6_copy.desc).map (fun d => d.parameters.length) = some 0 := by decide +kernel
set_option maxHeartbeats 4000000 in
theorem tx_X6_copy (X : XT) {o : Nat}  {T : xT} {I : xI} {R : xR} {L : xL} {Q : Option Nat → xT → xI → Prop} (hw : wx_X6_copy X o T I R L Q) : CtX X yX6_copy cX6_copy 2 (some (.object "WhalingLogs$Entry")) (rmX 2 1 4 43) [aR (some o)] T I R L (PXqTI T I R L Q) := by
  refine CtX.intro (by decide) (Nat.le_of_ble_eq_true rfl) (fun E hE hR hN => ?_)
  have hRm := hR.rm
  have hE : OkX E X RX6 cX6_copy 2 (some (.object "WhalingLogs$Entry")) := hE
  have hE1 := hE.1
  show GX E X T I R L 0 0 0 [some (aR (some o)), none] []
  unfold wx_X6_copy at hw
  intro hok
  refine gx_new hE hRm in_X6 tyX6 tyX6_ok (t := 12) rfl (by decide) (by decide) rfl (by decide) q985 q986 q127 (by decide) (by decide) dX6_copy_0 (fun q1 hq2 hbs3 => ?_) hok
  intro hok
  have hw := hw q1 hq2 hbs3 _ rfl
  have hl5 := tle.new (T := T) (q := q1) (t := 12) (n := 0) hq2
  have hT6 : xtag (xnew T q1 12 0) q1 = 12 := if_pos rfl
  generalize xnew T q1 12 0 = T4 at hw hl5 hok hT6 ⊢
  refine g_dup hE1 dX6_copy_3 rfl ?_
  refine g_aldn0 hE1 dX6_copy_4 ?_
  obtain ⟨ht7, hw⟩ := hw
  refine gx_geti hE in_X6 (t := 12) rfl (by decide) 0 0 rfl (by decide) rfl (by decide) rfl q991 (Or.inl rfl) ht7 dX6_copy_5 ?_ hok
  intro hok
  refine g_aldn0 hE1 dX6_copy_8 ?_
  refine gx_geti hE in_X6 (t := 12) rfl (by decide) 1 1 rfl (by decide) rfl (by decide) rfl q994 (Or.inl rfl) ht7 dX6_copy_9 ?_ hok
  intro hok
  refine g_aldn0 hE1 dX6_copy_12 ?_
  refine gx_geti hE in_X6 (t := 12) rfl (by decide) 2 2 rfl (by decide) rfl (by decide) rfl q997 (Or.inl rfl) ht7 dX6_copy_13 ?_ hok
  intro hok
  refine gx_callI hE hRm (As := [aI (I o 0), aI (I o 1), aI (I o 2)]) (b := q1) hx_X6_init (lw_meth q989) q987 q127 q988 rfl (tx_X6_init X hw) ⟨by decide, by decide⟩ ⟨(by decide), (by decide)⟩ rfl (Nat.le_of_ble_eq_true rfl) dX6_copy_16 rfl (fun r9 Tz I8 Rz Lz hΦ => ?_) hok
  obtain ⟨rfl, rfl, rfl, rfl, hw⟩ := hΦ
  show GX E X T4 I8 R L 1 4 19 [some (aR (some o)), none] [aR (some q1)]
  intro hok
  refine g_astn1 hE1 dX6_copy_19 (by decide) rfl ?_
  refine g_aldn1 hE1 dX6_copy_20 ?_
  refine g_aldn0 hE1 dX6_copy_21 ?_
  refine gx_geti hE in_X6 (t := 12) rfl (by decide) 3 3 rfl (by decide) rfl (by decide) rfl q1000 (Or.inl rfl) ht7 dX6_copy_22 ?_ hok
  intro hok
  refine gx_puti hE in_X6 (t := 12) rfl (by decide) 3 3 rfl (by decide) rfl (by decide) (ty := tyX6 3) tyX6 tyX6_ok nmX6 rfl q1000 (Or.inl rfl) rfl (tyX6_ok 3 (by decide)) rfl rfl hT6 dX6_copy_25 ?_ hok
  intro hok
  have hw := hw _ rfl
  generalize uI I8 q1 3 (I8 o 3) = I10 at hw hok ⊢
  refine g_aldn1 hE1 dX6_copy_28 ?_
  exact gx_aret hE hR dX6_copy_29 (by decide) (by decide) (Or.inl ⟨_, rfl⟩) ⟨_, rfl, rfl, rfl, hl5, hw⟩ hok

/-- java/util/ArrayList.add(Ljava/lang/Object;[Ljava/lang/Object;I)V -/
def wx_J24_add_2 (X : XT) (o : Nat) (x1 : Option Nat) (x2 : Option Nat) (x3 : Int) (T : xT) (I : xI) (R : xR) (L : xL) (Q : xI → xR → Prop) : Prop :=
  ∃ b1 : Nat, x2 = some b1 ∧ xtag T b1 = 103 ∧
  cEq x3 (xlen T b1 : Int)
    (
    False)
    (
    ib x3 (xlen T b1) ∧ xlen T b1 < 2147483648 ∧ ∃ b6 : Nat, x1 = some b6 ∧ xOb (xtag T b6) ∧ ∀ R9 : xR, R9 = uR R b1 x3 (some b6) →
    xtag T o = 11 ∧ ∀ I11 : xI, I11 = uI I o 2 (x3 + 1) →
    Q I11 R9)
theorem hx_J24_add_2 : yJ24_add_2.cls = RJ24 ∧ yJ24_add_2.cls ≠ "java/lang/invoke/MethodHandle" ∧ yJ24_add_2.cls ≠ "java/lang/invoke/VarHandle" ∧ (parseMethodDescriptor yJ24_add_2.desc).map (fun d => d.parameters.length) = some 3 := by decide +kernel
set_option maxHeartbeats 4000000 in
theorem tx_J24_add_2 (X : XT) {o : Nat} {x1 : Option Nat} {x2 : Option Nat} {x3 : Int} {T : xT} {I : xI} {R : xR} {L : xL} {Q : xI → xR → Prop} (hw : wx_J24_add_2 X o x1 x2 x3 T I R L Q) : CtX X yJ24_add_2 cJ24_add_2 4 none (rmX 0 0 0 0) [aR (some o), aR x1, aR x2, aI x3] T I R L (PXvIR T I R L Q) := by
  refine CtX.intro (by decide) (Nat.le_of_ble_eq_true rfl) (fun E hE hR hN => ?_)
  have hRm := hR.rm
  have hE : OkX E X RJ24 cJ24_add_2 4 none := hE
  have hE1 := hE.1
  show GX E X T I R L 0 0 0 [some (aR (some o)), some (aR x1), some (aR x2), some (aI x3)] []
  unfold wx_J24_add_2 at hw
  intro hok
  refine g_ildn3 hE1 dJ24_add_2_0 ?_
  refine g_aldn2 hE1 dJ24_add_2_1 ?_
  obtain ⟨b1, hb2, hw⟩ := hw
  rw [hb2]
  obtain ⟨ht3, hw⟩ := hw
  refine gx_alen hE ht3 (by decide) dJ24_add_2_2 ?_ hok
  intro hok
  obtain ⟨h12, h13, hT14, hN15⟩ := hw
  refine g_icmp_ne hE1 (tgt := 11) dJ24_add_2_3 (by decide) h12 h13 (fun q => ?_) (fun q => ?_)
  · have hw := hT14 q
    refine g_aldn0 hE1 dJ24_add_2_6 ?_
    exact hw.elim
  · have hw := hN15 q
    refine g_aldn2 hE1 dJ24_add_2_11 ?_
    refine g_ildn3 hE1 dJ24_add_2_12 ?_
    refine g_aldn1 hE1 dJ24_add_2_13 ?_
    obtain ⟨h4, h5, hw⟩ := hw
    obtain ⟨b6, hb7, hw⟩ := hw
    rw [hb7]
    obtain ⟨h8, hw⟩ := hw
    refine gx_aastA hE ht3 h8 h4 h5 dJ24_add_2_14 ?_ hok
    intro hok
    have hw := hw _ rfl
    generalize uR R b1 x3 (some b6) = R9 at hw hok ⊢
    refine g_aldn0 hE1 dJ24_add_2_15 ?_
    refine g_ildn3 hE1 dJ24_add_2_16 ?_
    refine g_iconst hE1 dJ24_add_2_17 ?_
    refine g_iadd hE1 dJ24_add_2_18 ?_
    obtain ⟨ht10, hw⟩ := hw
    refine gx_puti hE in_J24 (t := 11) rfl (by decide) 2 2 rfl (by decide) rfl (by decide) (ty := tyJ24 2) tyJ24 tyJ24_ok nmJ24 rfl q955 (Or.inl rfl) rfl (tyJ24_ok 2 (by decide)) rfl rfl ht10 dJ24_add_2_19 ?_ hok
    intro hok
    have hw := hw _ rfl
    generalize uI I o 2 (x3 + 1) = I11 at hw hok ⊢
    exact gx_vret hE hR dJ24_add_2_22 (by decide) (by decide) ⟨rfl, rfl, rfl, hw⟩ hok

/-- java/util/ArrayList.add(Ljava/lang/Object;)Z -/
def wx_J24_add (X : XT) (o : Nat) (x1 : Option Nat) (T : xT) (I : xI) (R : xR) (L : xL) (Q : Int → xI → xR → Prop) : Prop :=
  xtag T o = 11 ∧
  ∀ I2 : xI, I2 = uI I o 0 ((I o 0) + 1) →
  wx_J24_add_2 X o x1 (R o 1) (I2 o 2) T I2 R L (fun (I3 : xI) (R4 : xR) => 
  Q 1 I3 R4)
theorem hx_J24_add : yJ24_add.cls = RJ24 ∧ yJ24_add.cls ≠ "java/lang/invoke/MethodHandle" ∧ yJ24_add.cls ≠ "java/lang/invoke/VarHandle" ∧ (parseMethodDescriptor yJ24_add.desc).map (fun d => d.parameters.length) = some 1 := by decide +kernel
set_option maxHeartbeats 4000000 in
theorem tx_J24_add (X : XT) {o : Nat} {x1 : Option Nat} {T : xT} {I : xI} {R : xR} {L : xL} {Q : Int → xI → xR → Prop} (hw : wx_J24_add X o x1 T I R L Q) : CtX X yJ24_add cJ24_add 2 (some .boolean) (rmX 1 0 0 23) [aR (some o), aR x1] T I R L (PXiIR T I R L Q) := by
  refine CtX.intro (by decide) (Nat.le_of_ble_eq_true rfl) (fun E hE hR hN => ?_)
  have hRm := hR.rm
  have hE : OkX E X RJ24 cJ24_add 2 (some .boolean) := hE
  have hE1 := hE.1
  show GX E X T I R L 0 0 0 [some (aR (some o)), some (aR x1)] []
  unfold wx_J24_add at hw
  intro hok
  refine g_aldn0 hE1 dJ24_add_0 ?_
  refine g_dup hE1 dJ24_add_1 rfl ?_
  obtain ⟨ht1, hw⟩ := hw
  refine gx_geti hE in_J24 (t := 11) rfl (by decide) 0 0 rfl (by decide) rfl (by decide) rfl q210 (Or.inr q207) ht1 dJ24_add_2 ?_ hok
  intro hok
  refine g_iconst hE1 dJ24_add_5 ?_
  refine g_iadd hE1 dJ24_add_6 ?_
  refine gx_puti hE in_J24 (t := 11) rfl (by decide) 0 0 rfl (by decide) rfl (by decide) (ty := tyJ24 0) tyJ24 tyJ24_ok nmJ24 rfl q210 (Or.inr q207) rfl (tyJ24_ok 0 (by decide)) rfl rfl ht1 dJ24_add_7 ?_ hok
  intro hok
  have hw := hw _ rfl
  generalize uI I o 0 ((I o 0) + 1) = I2 at hw hok ⊢
  refine g_aldn0 hE1 dJ24_add_10 ?_
  refine g_aldn1 hE1 dJ24_add_11 ?_
  refine g_aldn0 hE1 dJ24_add_12 ?_
  refine gx_getr hE in_J24 (t := 11) rfl (by decide) 1 1 rfl (by decide) rfl (by decide) rfl q952 (Or.inl rfl) ht1 dJ24_add_13 ?_ hok
  intro hok
  refine g_aldn0 hE1 dJ24_add_16 ?_
  refine gx_geti hE in_J24 (t := 11) rfl (by decide) 2 2 rfl (by decide) rfl (by decide) rfl q955 (Or.inl rfl) ht1 dJ24_add_17 ?_ hok
  intro hok
  refine gx_callV hE hRm (As := [aR x1, aR (R o 1), aI (I2 o 2)]) ht1 (by decide) (by decide) rfl hx_J24_add_2 (tx_J24_add_2 X hw) (lw_V q1018 q1020 qs9 q126 q1021) ⟨by decide, by decide⟩ ⟨(by decide), (by decide)⟩ rfl (Nat.le_of_ble_eq_true rfl) dJ24_add_20 rfl (fun r9 Tz I3 R4 Lz hΦ => ?_) hok
  obtain ⟨rfl, rfl, rfl, hw⟩ := hΦ
  show GX E X T I3 R4 L 0 0 23 [some (aR (some o)), some (aR x1)] []
  intro hok
  refine g_iconst hE1 dJ24_add_23 ?_
  exact gx_iret hE hR dJ24_add_24 (by decide) (by decide) (narrow_bl (by decide)) ⟨_, rfl, rfl, rfl, hw⟩ hok

/-- WhalingLogs$Page.copy()LWhalingLogs$Page; -/
def wx_X5_copy (X : XT) (o : Nat)  (T : xT) (I : xI) (R : xR) (L : xL) (Q : Option Nat → xT → xI → xR → Prop) : Prop :=
  ∀ q1 : Nat, xtag T q1 = 0 → bsX X ≤ q1 → ∀ T4 : xT, T4 = xnew T q1 10 0 →
  xtag T4 o = 10 ∧
  wx_X5_init X q1 (I o 0) (I o 2) T4 I R L (fun (T8 : xT) (I9 : xI) (R10 : xR) => tle T4 T8 → 
  lq6 (fun (x2_18 : Int) (T_18 : xT) (I_18 : xI) (R_18 : xR) (k_18 : Nat) (n_18 : Nat) (K_18 : Int → xT → xI → xR → Nat → Nat → Prop) =>
    ∃ b13 : Nat, R_18 o 1 = some b13 ∧ xtag T_18 b13 = 11 ∧ wx_J24_size X b13 T_18 I_18 R_18 L (fun (r16 : Int) => 
    cLt x2_18 r16
      (
      ∃ b19 : Nat, R_18 o 1 = some b19 ∧ xtag T_18 b19 = 11 ∧ wx_J24_get X b19 x2_18 T_18 I_18 R_18 L (fun (r22 : Option Nat) => 
      ∃ b24 : Nat, r22 = some b24 ∧ xtag T_18 b24 = 12 ∧
      k_18 + 1 ≤ 8 ∧ n_18 + 4 ≤ 60 ∧ wx_X6_copy X b24 T_18 I_18 R_18 L (fun (r29 : Option Nat) (T30 : xT) (I31 : xI) => tle T_18 T30 → 
      ∃ b33 : Nat, R_18 q1 1 = some b33 ∧ xtag T30 b33 = 11 ∧ wx_J24_add X b33 r29 T30 I31 R_18 L (fun (r36 : Int) (I37 : xI) (R38 : xR) => 
      K_18 (x2_18 + 1) T30 I37 R38 (k_18 + 1) (n_18 + 4)))))
      (
      Q (some q1) T_18 I_18 R_18))) 0 T8 I9 R10 3 9)
theorem hx_X5_copy : yX5_copy.cls = RX5 ∧ yX5_copy.cls ≠ "java/lang/invoke/MethodHandle" ∧ yX5_copy.cls ≠ "java/lang/invoke/VarHandle" ∧ (parseMethodDescriptor yX5_copy.desc).map (fun d => d.parameters.length) = some 0 := by decide +kernel
set_option maxHeartbeats 4000000 in
theorem tx_X5_copy (X : XT) {o : Nat}  {T : xT} {I : xI} {R : xR} {L : xL} {Q : Option Nat → xT → xI → xR → Prop} (hw : wx_X5_copy X o T I R L Q) : CtX X yX5_copy cX5_copy 3 (some (.object "WhalingLogs$Page")) (rmX 5 8 60 103) [aR (some o)] T I R L (PXqTIR T I R L Q) := by
  refine CtX.intro (by decide) (Nat.le_of_ble_eq_true rfl) (fun E hE hR hN => ?_)
  have hRm := hR.rm
  have hE : OkX E X RX5 cX5_copy 3 (some (.object "WhalingLogs$Page")) := hE
  have hE1 := hE.1
  show GX E X T I R L 0 0 0 [some (aR (some o)), none, none] []
  unfold wx_X5_copy at hw
  intro hok
  refine gx_new hE hRm in_X5 tyX5 tyX5_ok (t := 10) rfl (by decide) (by decide) rfl (by decide) q938 q939 q125 (by decide) (by decide) dX5_copy_0 (fun q1 hq2 hbs3 => ?_) hok
  intro hok
  have hw := hw q1 hq2 hbs3 _ rfl
  have hl5 := tle.new (T := T) (q := q1) (t := 10) (n := 0) hq2
  have hT6 : xtag (xnew T q1 10 0) q1 = 10 := if_pos rfl
  generalize xnew T q1 10 0 = T4 at hw hl5 hok hT6 ⊢
  refine g_dup hE1 dX5_copy_3 rfl ?_
  refine g_aldn0 hE1 dX5_copy_4 ?_
  obtain ⟨ht7, hw⟩ := hw
  refine gx_geti hE in_X5 (t := 10) rfl (by decide) 0 0 rfl (by decide) rfl (by decide) rfl q962 (Or.inl rfl) ht7 dX5_copy_5 ?_ hok
  intro hok
  refine g_aldn0 hE1 dX5_copy_8 ?_
  refine gx_geti hE in_X5 (t := 10) rfl (by decide) 2 2 rfl (by decide) rfl (by decide) rfl q968 (Or.inl rfl) ht7 dX5_copy_9 ?_ hok
  intro hok
  refine gx_callI hE hRm (As := [aI (I o 0), aI (I o 2)]) (b := q1) hx_X5_init (lw_meth q942) q940 q125 q941 rfl (tx_X5_init X hw) ⟨by decide, by decide⟩ ⟨(by decide), (by decide)⟩ rfl (Nat.le_of_ble_eq_true rfl) dX5_copy_12 rfl (fun r9 T8 I9 R10 Lz hΦ => ?_) hok
  obtain ⟨rfl, rfl, hl11, hw⟩ := hΦ
  have hw := hw hl11
  show GX E X T8 I9 R10 L 3 9 15 [some (aR (some o)), none, none] [aR (some q1)]
  intro hok
  refine g_astn1 hE1 dX5_copy_15 (by decide) rfl ?_
  refine g_iconst hE1 dX5_copy_16 ?_
  refine g_istn2 hE1 dX5_copy_17 (by decide) rfl ?_
  refine lq6_walk (fun (x2_18 : Int) (T_18 : xT) (I_18 : xI) (R_18 : xR) (k_18 : Nat) (n_18 : Nat) => tle T8 T_18 → k_18 ≤ 8 → n_18 ≤ 60 → GX E X T_18 I_18 R_18 L k_18 n_18 18 [some (aR (some o)), some (aR (some q1)), some (aI x2_18)] []) (fun K_18 hk_18 x2_18 T_18 I_18 R_18 k_18 n_18 hw => ?_) _ _ _ _ _ _ hw tle.rf (by omega) (by omega) hok
  intro hl_18 hkc_18 hnc_18
  intro hok
  refine g_ildn2 hE1 dX5_copy_18 ?_
  refine g_aldn0 hE1 dX5_copy_19 ?_
  have ht12 := (hl11.tr hl_18).tag ht7 (by decide)
  refine gx_getr hE in_X5 (t := 10) rfl (by decide) 1 1 rfl (by decide) rfl (by decide) rfl q964 (Or.inl rfl) ht12 dX5_copy_20 ?_ hok
  intro hok
  obtain ⟨b13, hb14, hw⟩ := hw
  rw [hb14]
  obtain ⟨ht15, hw⟩ := hw
  refine gx_callV hE hRm (As := []) ht15 (by decide) (by decide) rfl hx_J24_size (tx_J24_size X hw) (lw_V q978 q538 q2592 q126 q539) ⟨by decide, by decide⟩ ⟨(show k_18 + 0 ≤ 8 by omega), (show n_18 + 0 ≤ 60 by omega)⟩ rfl (Nat.le_of_ble_eq_true rfl) dX5_copy_23 rfl (fun r9 Tz Iz Rz Lz hΦ => ?_) hok
  obtain ⟨r16, rfl, rfl, rfl, rfl, rfl, hw⟩ := hΦ
  show GX E X T_18 I_18 R_18 L k_18 n_18 26 [some (aR (some o)), some (aR (some q1)), some (aI x2_18)] [aI r16, aI x2_18]
  intro hok
  obtain ⟨h40, h41, hT42, hN43⟩ := hw
  refine g_icmp_ge hE1 (tgt := 57) dX5_copy_26 (by decide) h40 h41 (fun q => ?_) (fun q => ?_)
  · have hw := hT42 q
    refine g_aldn1 hE1 dX5_copy_29 ?_
    have ht18 := (hl11.tr hl_18).tag hT6 (by decide)
    refine gx_getr hE in_X5 (t := 10) rfl (by decide) 1 1 rfl (by decide) rfl (by decide) rfl q964 (Or.inl rfl) ht18 dX5_copy_30 ?_ hok
    intro hok
    refine g_aldn0 hE1 dX5_copy_33 ?_
    refine gx_getr hE in_X5 (t := 10) rfl (by decide) 1 1 rfl (by decide) rfl (by decide) rfl q964 (Or.inl rfl) ht12 dX5_copy_34 ?_ hok
    intro hok
    refine g_ildn2 hE1 dX5_copy_37 ?_
    obtain ⟨b19, hb20, hw⟩ := hw
    rw [hb20]
    obtain ⟨ht21, hw⟩ := hw
    refine gx_callV hE hRm (As := [aI x2_18]) ht21 (by decide) (by decide) rfl hx_J24_get (tx_J24_get X hw) (lw_V q979 q583 q2593 q126 q584) ⟨by decide, by decide⟩ ⟨(show k_18 + 0 ≤ 8 by omega), (show n_18 + 0 ≤ 60 by omega)⟩ rfl (Nat.le_of_ble_eq_true rfl) dX5_copy_38 rfl (fun r9 Tz Iz Rz Lz hΦ => ?_) hok
    obtain ⟨r22, rfl, rfl, rfl, rfl, rfl, hw⟩ := hΦ
    show GX E X T_18 I_18 R_18 L k_18 n_18 41 [some (aR (some o)), some (aR (some q1)), some (aI x2_18)] [aR r22, aR (R_18 q1 1)]
    intro hok
    obtain ⟨b24, hb25, hw⟩ := hw
    rw [hb25]
    obtain ⟨ht26, hw⟩ := hw
    refine gx_castS hE ht26 (by decide) (by decide) rfl q980 dX5_copy_41 ?_ hok
    intro hok
    obtain ⟨hc27, hw⟩ := hw
    obtain ⟨hc28, hw⟩ := hw
    refine gx_callV hE hRm (As := []) ht26 (by decide) (by decide) rfl hx_X6_copy (tx_X6_copy X hw) (lw_V q981 q982 q983 q127 q984) ⟨by decide, by decide⟩ ⟨hc27, hc28⟩ rfl (Nat.le_of_ble_eq_true rfl) dX5_copy_44 rfl (fun r9 T30 I31 Rz Lz hΦ => ?_) hok
    obtain ⟨r29, rfl, rfl, rfl, hl32, hw⟩ := hΦ
    have hw := hw hl32
    show GX E X T30 I31 R_18 L (k_18 + 1) (n_18 + 4) 47 [some (aR (some o)), some (aR (some q1)), some (aI x2_18)] [aR r29, aR (R_18 q1 1)]
    intro hok
    obtain ⟨b33, hb34, hw⟩ := hw
    rw [hb34]
    obtain ⟨ht35, hw⟩ := hw
    refine gx_callV hE hRm (As := [aR r29]) ht35 (by decide) (by decide) rfl hx_J24_add (tx_J24_add X hw) (lw_V q1014 q1015 q1016 q126 q1017) ⟨by decide, by decide⟩ ⟨(show k_18 + 1 + 0 ≤ 8 by omega), (show n_18 + 4 + 0 ≤ 60 by omega)⟩ rfl (Nat.le_of_ble_eq_true rfl) dX5_copy_47 rfl (fun r9 Tz I37 R38 Lz hΦ => ?_) hok
    obtain ⟨r36, rfl, rfl, rfl, hw⟩ := hΦ
    show GX E X T30 I37 R38 L (k_18 + 1) (n_18 + 4) 50 [some (aR (some o)), some (aR (some q1)), some (aI x2_18)] [aI r36]
    intro hok
    refine g_pop hE1 dX5_copy_50 rfl ?_
    refine g_iinc2 hE1 dX5_copy_51 (by decide) rfl ?_
    refine g_goto hE1 (tgt := 18) dX5_copy_54 (by decide) ?_
    exact hk_18 _ _ _ _ _ _ hw (hl_18.tr hl32) (by omega) (by omega) hok
  · have hw := hN43 q
    refine g_aldn1 hE1 dX5_copy_57 ?_
    exact gx_aret hE hR dX5_copy_58 (show k_18 ≤ 8 by omega) (show n_18 ≤ 60 by omega) (Or.inl ⟨_, rfl⟩) ⟨_, rfl, rfl, ((hl5.tr hl11).tr hl_18), hw⟩ hok

/-- java/util/LinkedList$Node.<init>(Ljava/util/LinkedList$Node;Ljava/lang/Object;Ljava/util/LinkedList$Node;)V -/
def wx_J25_init (X : XT) (o : Nat) (x1 : Option Nat) (x2 : Option Nat) (x3 : Option Nat) (T : xT) (I : xI) (R : xR) (L : xL) (Q : xR → Prop) : Prop :=
  xtag T o = 13 ∧ ∀ R2 : xR, R2 = uR R o 0 x2 →
  ∀ R3 : xR, R3 = uR R2 o 1 x3 →
  ∀ R4 : xR, R4 = uR R3 o 2 x1 →
  Q R4
theorem hx_J25_init : yJ25_init.cls ≠ "java/lang/invoke/MethodHandle" ∧ yJ25_init.cls ≠ "java/lang/invoke/VarHandle" ∧ (parseMethodDescriptor yJ25_init.desc).map (fun d => d.parameters.length) = some 3 := by decide +kernel
set_option maxHeartbeats 4000000 in
theorem tx_J25_init (X : XT) {o : Nat} {x1 : Option Nat} {x2 : Option Nat} {x3 : Option Nat} {T : xT} {I : xI} {R : xR} {L : xL} {Q : xR → Prop} (hw : wx_J25_init X o x1 x2 x3 T I R L Q) : CtX X yJ25_init cJ25_init 4 none (rmX 1 0 0 20) [aR (some o), aR x1, aR x2, aR x3] T I R L (PXvR T I R L Q) := by
  refine CtX.intro (by decide) (Nat.le_of_ble_eq_true rfl) (fun E hE hR hN => ?_)
  have hRm := hR.rm
  have hE : OkX E X RJ25 cJ25_init 4 none := hE
  have hE1 := hE.1
  have hI : isInit E := hN
  show GX E X T I R L 0 0 0 [some (aR (some o)), some (aR x1), some (aR x2), some (aR x3)] []
  unfold wx_J25_init at hw
  intro hok
  refine g_aldn0 hE1 dJ25_init_0 ?_
  refine gx_objInit hE hRm rfl q1056 q151 q152 (by decide) (by decide) (Nat.le_of_ble_eq_true rfl) dJ25_init_1 ?_ hok
  intro hok
  refine g_aldn0 hE1 dJ25_init_4 ?_
  refine g_aldn2 hE1 dJ25_init_5 ?_
  obtain ⟨ht1, hw⟩ := hw
  refine gx_putr hE in_J25 (t := 13) rfl (by decide) 0 0 rfl (by decide) rfl (by decide) (ty := tyJ25 0) tyJ25 tyJ25_ok nmJ25 rfl q1057 (Or.inl rfl) rfl (tyJ25_ok 0 (by decide)) nar_o fit_o ht1 dJ25_init_6 ?_ hok
  intro hok
  have hw := hw _ rfl
  generalize uR R o 0 x2 = R2 at hw hok ⊢
  refine g_aldn0 hE1 dJ25_init_9 ?_
  refine g_aldn3 hE1 dJ25_init_10 ?_
  refine gx_putr hE in_J25 (t := 13) rfl (by decide) 1 1 rfl (by decide) rfl (by decide) (ty := tyJ25 1) tyJ25 tyJ25_ok nmJ25 rfl q1060 (Or.inl rfl) rfl (tyJ25_ok 1 (by decide)) nar_o fit_o ht1 dJ25_init_11 ?_ hok
  intro hok
  have hw := hw _ rfl
  generalize uR R2 o 1 x3 = R3 at hw hok ⊢
  refine g_aldn0 hE1 dJ25_init_14 ?_
  refine g_aldn1 hE1 dJ25_init_15 ?_
  refine gx_putr hE in_J25 (t := 13) rfl (by decide) 2 2 rfl (by decide) rfl (by decide) (ty := tyJ25 2) tyJ25 tyJ25_ok nmJ25 rfl q1063 (Or.inl rfl) rfl (tyJ25_ok 2 (by decide)) nar_o fit_o ht1 dJ25_init_16 ?_ hok
  intro hok
  have hw := hw _ rfl
  generalize uR R3 o 2 x1 = R4 at hw hok ⊢
  exact gx_vret hE hR dJ25_init_19 (by decide) (by decide) ⟨rfl, rfl, rfl, rfl, hw⟩ hok

/-- java/util/LinkedList.linkLast(Ljava/lang/Object;)V -/
def wx_J4_linkLast (X : XT) (o : Nat) (x1 : Option Nat) (T : xT) (I : xI) (R : xR) (L : xL) (Q : xT → xI → xR → Prop) : Prop :=
  xtag T o = 4 ∧
  ∀ q2 : Nat, xtag T q2 = 0 → bsX X ≤ q2 → ∀ T5 : xT, T5 = xnew T q2 13 0 →
  wx_J25_init X q2 (R o 3) x1 none T5 I R L (fun (R8 : xR) => 
  ∀ R11 : xR, R11 = uR R8 o 3 (some q2) →
  jn1 (fun (R_38 : xR) => 
      ∀ I12 : xI, I12 = uI I o 1 ((I o 1) + 1) →
      ∀ I13 : xI, I13 = uI I12 o 0 ((I12 o 0) + 1) →
      Q T5 I13 R_38)
    (fun (J_38 : xR → Prop) =>
    (R o 3 = none →
      ∀ R16 : xR, R16 = uR R11 o 2 (some q2) →
      J_38 R16) ∧
    (∀ b14 : Nat, R o 3 = some b14 →
      xtag T5 b14 = 13 ∧ ∀ R18 : xR, R18 = uR R11 b14 1 (some q2) →
      J_38 R18)))
theorem hx_J4_linkLast : yJ4_linkLast.cls = RJ4 ∧ yJ4_linkLast.cls ≠ "java/lang/invoke/MethodHandle" ∧ yJ4_linkLast.cls ≠ "java/lang/invoke/VarHandle" ∧ (parseMethodDescriptor yJ4_linkLast.desc).map (fun d => d.parameters.length) = some 1 := by decide +kernel
set_option maxHeartbeats 4000000 in
theorem tx_J4_linkLast (X : XT) {o : Nat} {x1 : Option Nat} {T : xT} {I : xI} {R : xR} {L : xL} {Q : xT → xI → xR → Prop} (hw : wx_J4_linkLast X o x1 T I R L Q) : CtX X yJ4_linkLast cJ4_linkLast 4 none (rmX 2 1 3 43) [aR (some o), aR x1] T I R L (PXvTIR T I R L Q) := by
  refine CtX.intro (by decide) (Nat.le_of_ble_eq_true rfl) (fun E hE hR hN => ?_)
  have hRm := hR.rm
  have hE : OkX E X RJ4 cJ4_linkLast 4 none := hE
  have hE1 := hE.1
  show GX E X T I R L 0 0 0 [some (aR (some o)), some (aR x1), none, none] []
  unfold wx_J4_linkLast at hw
  intro hok
  refine g_aldn0 hE1 dJ4_linkLast_0 ?_
  obtain ⟨ht1, hw⟩ := hw
  refine gx_getr hE in_J4 (t := 4) rfl (by decide) 3 3 rfl (by decide) rfl (by decide) rfl q201 (Or.inl rfl) ht1 dJ4_linkLast_1 ?_ hok
  intro hok
  refine g_astn2 hE1 dJ4_linkLast_4 (by decide) rfl ?_
  refine gx_new hE hRm in_J25 tyJ25 tyJ25_ok (t := 13) rfl (by decide) (by decide) rfl (by decide) q1051 q1052 q128 (by decide) (by decide) dJ4_linkLast_5 (fun q2 hq3 hbs4 => ?_) hok
  intro hok
  have hw := hw q2 hq3 hbs4 _ rfl
  have hl6 := tle.new (T := T) (q := q2) (t := 13) (n := 0) hq3
  have hT7 : xtag (xnew T q2 13 0) q2 = 13 := if_pos rfl
  generalize xnew T q2 13 0 = T5 at hw hl6 hok hT7 ⊢
  refine g_dup hE1 dJ4_linkLast_8 rfl ?_
  refine g_aldn2 hE1 dJ4_linkLast_9 ?_
  refine g_aldn1 hE1 dJ4_linkLast_10 ?_
  refine g_null hE1 dJ4_linkLast_11 ?_
  refine gx_callI hE hRm (As := [aR (R o 3), aR x1, aR none]) (b := q2) hx_J25_init (lw_meth q1055) q1053 q128 q1054 rfl (tx_J25_init X hw) ⟨by decide, by decide⟩ ⟨(by decide), (by decide)⟩ rfl (Nat.le_of_ble_eq_true rfl) dJ4_linkLast_12 rfl (fun r9 Tz Iz R8 Lz hΦ => ?_) hok
  obtain ⟨rfl, rfl, rfl, rfl, hw⟩ := hΦ
  show GX E X T5 I R8 L 1 3 15 [some (aR (some o)), some (aR x1), some (aR (R o 3)), none] [aR (some q2)]
  intro hok
  refine g_astn3 hE1 dJ4_linkLast_15 (by decide) rfl ?_
  refine g_aldn0 hE1 dJ4_linkLast_16 ?_
  refine g_aldn3 hE1 dJ4_linkLast_17 ?_
  have ht10 := hl6.tag ht1 (by decide)
  refine gx_putr hE in_J4 (t := 4) rfl (by decide) 3 3 rfl (by decide) rfl (by decide) (ty := tyJ4 3) tyJ4 tyJ4_ok nmJ4 rfl q201 (Or.inl rfl) rfl (tyJ4_ok 3 (by decide)) nar_o fit_o ht10 dJ4_linkLast_18 ?_ hok
  intro hok
  have hw := hw _ rfl
  generalize uR R8 o 3 (some q2) = R11 at hw hok ⊢
  refine g_aldn2 hE1 dJ4_linkLast_21 ?_
  refine jn1_walk (fun (R_38 : xR) => GX E X T5 I R_38 L 1 3 38 [some (aR (some o)), some (aR x1), some (aR (R o 3)), some (aR (some q2))] []) hw (fun R_38 hw => ?_) (fun J_38 hj_38 hw => ?_)
  · intro hok
    refine g_aldn0 hE1 dJ4_linkLast_38 ?_
    refine g_dup hE1 dJ4_linkLast_39 rfl ?_
    refine gx_geti hE in_J4 (t := 4) rfl (by decide) 1 1 rfl (by decide) rfl (by decide) rfl q198 (Or.inl rfl) ht10 dJ4_linkLast_40 ?_ hok
    intro hok
    refine g_iconst hE1 dJ4_linkLast_43 ?_
    refine g_iadd hE1 dJ4_linkLast_44 ?_
    refine gx_puti hE in_J4 (t := 4) rfl (by decide) 1 1 rfl (by decide) rfl (by decide) (ty := tyJ4 1) tyJ4 tyJ4_ok nmJ4 rfl q198 (Or.inl rfl) rfl (tyJ4_ok 1 (by decide)) rfl rfl ht10 dJ4_linkLast_45 ?_ hok
    intro hok
    have hw := hw _ rfl
    generalize uI I o 1 ((I o 1) + 1) = I12 at hw hok ⊢
    refine g_aldn0 hE1 dJ4_linkLast_48 ?_
    refine g_dup hE1 dJ4_linkLast_49 rfl ?_
    refine gx_geti hE in_J4 (t := 4) rfl (by decide) 0 0 rfl (by decide) rfl (by decide) rfl q209 (Or.inr q205) ht10 dJ4_linkLast_50 ?_ hok
    intro hok
    refine g_iconst hE1 dJ4_linkLast_53 ?_
    refine g_iadd hE1 dJ4_linkLast_54 ?_
    refine gx_puti hE in_J4 (t := 4) rfl (by decide) 0 0 rfl (by decide) rfl (by decide) (ty := tyJ4 0) tyJ4 tyJ4_ok nmJ4 rfl q209 (Or.inr q205) rfl (tyJ4_ok 0 (by decide)) rfl rfl ht10 dJ4_linkLast_55 ?_ hok
    intro hok
    have hw := hw _ rfl
    generalize uI I12 o 0 ((I12 o 0) + 1) = I13 at hw hok ⊢
    exact gx_vret hE hR dJ4_linkLast_58 (by decide) (by decide) ⟨rfl, rfl, hl6, hw⟩ hok
  · skip
    refine g_ifnonnull hE1 (tgt := 33) dJ4_linkLast_22 (by decide) (fun q => ?_) (fun b14 hb15 => ?_)
    · have hw := hw.1 q
      refine g_aldn0 hE1 dJ4_linkLast_25 ?_
      refine g_aldn3 hE1 dJ4_linkLast_26 ?_
      refine gx_putr hE in_J4 (t := 4) rfl (by decide) 2 2 rfl (by decide) rfl (by decide) (ty := tyJ4 2) tyJ4 tyJ4_ok nmJ4 rfl q200 (Or.inl rfl) rfl (tyJ4_ok 2 (by decide)) nar_o fit_o ht10 dJ4_linkLast_27 ?_ hok
      intro hok
      have hw := hw _ rfl
      generalize uR R11 o 2 (some q2) = R16 at hw hok ⊢
      refine g_goto hE1 (tgt := 38) dJ4_linkLast_30 (by decide) ?_
      exact hj_38 _ hw hok
    · have hw := hw.2 b14 hb15
      rw [hb15]
      refine g_aldn2 hE1 dJ4_linkLast_33 ?_
      refine g_aldn3 hE1 dJ4_linkLast_34 ?_
      obtain ⟨ht17, hw⟩ := hw
      refine gx_putr hE in_J25 (t := 13) rfl (by decide) 1 1 rfl (by decide) rfl (by decide) (ty := tyJ25 1) tyJ25 tyJ25_ok nmJ25 rfl q1062 (Or.inl rfl) rfl (tyJ25_ok 1 (by decide)) nar_o fit_o ht17 dJ4_linkLast_35 ?_ hok
      intro hok
      have hw := hw _ rfl
      generalize uR R11 b14 1 (some q2) = R18 at hw hok ⊢
      simpa only [hb15] using hj_38 _ hw hok

/-- java/util/LinkedList.addLast(Ljava/lang/Object;)V -/
def wx_J4_addLast (X : XT) (o : Nat) (x1 : Option Nat) (T : xT) (I : xI) (R : xR) (L : xL) (Q : xT → xI → xR → Prop) : Prop :=
  xtag T o = 4 ∧ wx_J4_linkLast X o x1 T I R L (fun (T2 : xT) (I3 : xI) (R4 : xR) => tle T T2 → 
  Q T2 I3 R4)
theorem hx_J4_addLast : yJ4_addLast.cls = RJ4 ∧ yJ4_addLast.cls ≠ "java/lang/invoke/MethodHandle" ∧ yJ4_addLast.cls ≠ "java/lang/invoke/VarHandle" ∧ (parseMethodDescriptor yJ4_addLast.desc).map (fun d => d.parameters.length) = some 1 := by decide +kernel
set_option maxHeartbeats 4000000 in
theorem tx_J4_addLast (X : XT) {o : Nat} {x1 : Option Nat} {T : xT} {I : xI} {R : xR} {L : xL} {Q : xT → xI → xR → Prop} (hw : wx_J4_addLast X o x1 T I R L Q) : CtX X yJ4_addLast cJ4_addLast 2 none (rmX 3 1 3 66) [aR (some o), aR x1] T I R L (PXvTIR T I R L Q) := by
  refine CtX.intro (by decide) (Nat.le_of_ble_eq_true rfl) (fun E hE hR hN => ?_)
  have hRm := hR.rm
  have hE : OkX E X RJ4 cJ4_addLast 2 none := hE
  have hE1 := hE.1
  show GX E X T I R L 0 0 0 [some (aR (some o)), some (aR x1)] []
  unfold wx_J4_addLast at hw
  intro hok
  refine g_aldn0 hE1 dJ4_addLast_0 ?_
  refine g_aldn1 hE1 dJ4_addLast_1 ?_
  obtain ⟨ht1, hw⟩ := hw
  refine gx_callV hE hRm (As := [aR x1]) ht1 (by decide) (by decide) rfl hx_J4_linkLast (tx_J4_linkLast X hw) (lw_V q1047 q1048 q1049 q100 q1050) ⟨by decide, by decide⟩ ⟨(by decide), (by decide)⟩ rfl (Nat.le_of_ble_eq_true rfl) dJ4_addLast_2 rfl (fun r9 T2 I3 R4 Lz hΦ => ?_) hok
  obtain ⟨rfl, rfl, hl5, hw⟩ := hΦ
  have hw := hw hl5
  show GX E X T2 I3 R4 L 1 3 5 [some (aR (some o)), some (aR x1)] []
  intro hok
  exact gx_vret hE hR dJ4_addLast_5 (by decide) (by decide) ⟨rfl, rfl, hl5, hw⟩ hok

/-- WhalingLogs$Archive.copy()LWhalingLogs$Archive; -/
def wx_X1_copy (X : XT) (o : Nat)  (T : xT) (I : xI) (R : xR) (L : xL) (Q : Option Nat → xT → xI → xR → xL → Prop) : Prop :=
  ∀ q1 : Nat, xtag T q1 = 0 → bsX X ≤ q1 → ∀ T4 : xT, T4 = xnew T q1 2 0 →
  wx_X1_init X q1 T4 I R L (fun (T7 : xT) (I8 : xI) (R9 : xR) => tle T4 T7 → 
  xtag T7 o = 2 ∧
  ∃ b13 : Nat, R9 q1 0 = some b13 ∧ xtag T7 b13 = 3 ∧ wx_J0_or X b13 (R9 o 0) T7 I8 R9 L (fun (I16 : xI) (L17 : xL) => 
  ∃ b19 : Nat, R9 o 1 = some b19 ∧ xtag T7 b19 = 4 ∧ wx_J3_iterator_J4 X b19 T7 I16 R9 L17 (fun (r22 : Option Nat) (T23 : xT) (I24 : xI) (R25 : xR) => tle T7 T23 → 
  lq5 (fun (T_27 : xT) (I_27 : xI) (R_27 : xR) (k_27 : Nat) (n_27 : Nat) (K_27 : xT → xI → xR → Nat → Nat → Prop) =>
    ∃ b27 : Nat, r22 = some b27 ∧ xtag T_27 b27 = 9 ∧ wx_J15_hasNext X b27 T_27 I_27 R_27 L17 (fun (r30 : Int) => 
    cEq r30 0
      (
      ∃ b34 : Nat, R_27 o 2 = some b34 ∧ xtag T_27 b34 = 100 ∧ ∃ b37 : Nat, R_27 q1 2 = some b37 ∧ xtag T_27 b37 = 100 ∧ ((0 : Int) ≤ 0 ∧ (0 : Int) < 2147483648) ∧ ((0 : Int) ≤ 0 ∧ (0 : Int) < 2147483648) ∧ ((0 : Int) ≤ 3 ∧ (3 : Int) < 2147483648) ∧ (0 : Int) + 3 ≤ xlen T_27 b34 ∧ (0 : Int) + 3 ≤ xlen T_27 b37 ∧ ∀ I46 : xI, I46 = cpI I_27 b34 0 b37 0 3 →
      ∃ b47 : Nat, R_27 o 3 = some b47 ∧ xtag T_27 b47 = 100 ∧ ∃ b50 : Nat, R_27 q1 3 = some b50 ∧ xtag T_27 b50 = 100 ∧ ((0 : Int) ≤ 0 ∧ (0 : Int) < 2147483648) ∧ ((0 : Int) ≤ 0 ∧ (0 : Int) < 2147483648) ∧ ((0 : Int) ≤ 6 ∧ (6 : Int) < 2147483648) ∧ (0 : Int) + 6 ≤ xlen T_27 b47 ∧ (0 : Int) + 6 ≤ xlen T_27 b50 ∧ ∀ I59 : xI, I59 = cpI I46 b47 0 b50 0 6 →
      ∀ I60 : xI, I60 = uI I59 q1 4 (I59 o 4) →
      ∀ I61 : xI, I61 = uI I60 q1 5 (I60 o 5) →
      Q (some q1) T_27 I61 R_27 L17)
      (
      wx_J15_next X b27 T_27 I_27 R_27 L17 (fun (r63 : Option Nat) (I64 : xI) (R65 : xR) => 
      ∃ b67 : Nat, r63 = some b67 ∧ xtag T_27 b67 = 10 ∧
      k_27 + 8 ≤ 160 ∧ n_27 + 60 ≤ 1400 ∧ wx_X5_copy X b67 T_27 I64 R65 L17 (fun (r72 : Option Nat) (T73 : xT) (I74 : xI) (R75 : xR) => tle T_27 T73 → 
      ∃ b77 : Nat, R_27 q1 1 = some b77 ∧ xtag T73 b77 = 4 ∧ k_27 + 8 + 1 ≤ 160 ∧ n_27 + 60 + 3 ≤ 1400 ∧ wx_J4_addLast X b77 r72 T73 I74 R75 L17 (fun (T82 : xT) (I83 : xI) (R84 : xR) => tle T73 T82 → 
      K_27 T82 I83 R84 (k_27 + 8 + 1) (n_27 + 60 + 3))))))) T23 I24 R25 7 30)))
theorem hx_X1_copy : yX1_copy.cls = RX1 ∧ yX1_copy.cls ≠ "java/lang/invoke/MethodHandle" ∧ yX1_copy.cls ≠ "java/lang/invoke/VarHandle" ∧ (parseMethodDescriptor yX1_copy.desc).map (fun d => d.parameters.length) = some 0 := by decide +kernel
set_option maxHeartbeats 4000000 in
theorem tx_X1_copy (X : XT) {o : Nat}  {T : xT} {I : xI} {R : xR} {L : xL} {Q : Option Nat → xT → xI → xR → xL → Prop} (hw : wx_X1_copy X o T I R L Q) : CtX X yX1_copy cX1_copy 3 (some (.object "WhalingLogs$Archive")) (rmX 6 160 1400 125) [aR (some o)] T I R L (PXqTIRL T I R L Q) := by
  refine CtX.intro (by decide) (Nat.le_of_ble_eq_true rfl) (fun E hE hR hN => ?_)
  have hRm := hR.rm
  have hE : OkX E X RX1 cX1_copy 3 (some (.object "WhalingLogs$Archive")) := hE
  have hE1 := hE.1
  show GX E X T I R L 0 0 0 [some (aR (some o)), none, none] []
  unfold wx_X1_copy at hw
  intro hok
  refine gx_new hE hRm in_X1 tyX1 tyX1_ok (t := 2) rfl (by decide) (by decide) rfl (by decide) q399 q154 q95 (by decide) (by decide) dX1_copy_0 (fun q1 hq2 hbs3 => ?_) hok
  intro hok
  have hw := hw q1 hq2 hbs3 _ rfl
  have hl5 := tle.new (T := T) (q := q1) (t := 2) (n := 0) hq2
  have hT6 : xtag (xnew T q1 2 0) q1 = 2 := if_pos rfl
  generalize xnew T q1 2 0 = T4 at hw hl5 hok hT6 ⊢
  refine g_dup hE1 dX1_copy_3 rfl ?_
  refine gx_callI hE hRm (As := []) (b := q1) hx_X1_init (lw_meth q157) q400 q95 q156 rfl (tx_X1_init X hw) ⟨by decide, by decide⟩ ⟨(by decide), (by decide)⟩ rfl (Nat.le_of_ble_eq_true rfl) dX1_copy_4 rfl (fun r9 T7 I8 R9 Lz hΦ => ?_) hok
  obtain ⟨rfl, rfl, hl10, hw⟩ := hΦ
  have hw := hw hl10
  show GX E X T7 I8 R9 L 6 25 7 [some (aR (some o)), none, none] [aR (some q1)]
  intro hok
  refine g_astn1 hE1 dX1_copy_7 (by decide) rfl ?_
  refine g_aldn1 hE1 dX1_copy_8 ?_
  have ht11 := hl10.tag hT6 (by decide)
  refine gx_getr hE in_X1 (t := 2) rfl (by decide) 0 0 rfl (by decide) rfl (by decide) rfl q220 (Or.inl rfl) ht11 dX1_copy_9 ?_ hok
  intro hok
  refine g_aldn0 hE1 dX1_copy_12 ?_
  obtain ⟨ht12, hw⟩ := hw
  refine gx_getr hE in_X1 (t := 2) rfl (by decide) 0 0 rfl (by decide) rfl (by decide) rfl q220 (Or.inl rfl) ht12 dX1_copy_13 ?_ hok
  intro hok
  obtain ⟨b13, hb14, hw⟩ := hw
  rw [hb14]
  obtain ⟨ht15, hw⟩ := hw
  refine gx_callV hE hRm (As := [aR (R9 o 0)]) ht15 (by decide) (by decide) rfl hx_J0_or (tx_J0_or X hw) (lw_V q401 q402 q403 q96 q404) ⟨by decide, by decide⟩ ⟨(by decide), (by decide)⟩ rfl (Nat.le_of_ble_eq_true rfl) dX1_copy_16 rfl (fun r9 Tz I16 Rz L17 hΦ => ?_) hok
  obtain ⟨rfl, rfl, rfl, hw⟩ := hΦ
  show GX E X T7 I16 R9 L17 6 25 19 [some (aR (some o)), some (aR (some q1)), none] []
  intro hok
  refine g_aldn0 hE1 dX1_copy_19 ?_
  refine gx_getr hE in_X1 (t := 2) rfl (by decide) 1 1 rfl (by decide) rfl (by decide) rfl q223 (Or.inl rfl) ht12 dX1_copy_20 ?_ hok
  intro hok
  obtain ⟨b19, hb20, hw⟩ := hw
  rw [hb20]
  obtain ⟨ht21, hw⟩ := hw
  refine gx_callU hE hRm (na := 0) (As := []) ht21 (by decide) (by decide) rfl (owner := "java/util/AbstractSequentialList") (x := ⟨"java/util/LinkedList", "iterator", "()Ljava/util/Iterator;"⟩) (by decide +kernel) (tx_J3_iterator_J4 X hw) (lw_U q436 q437 q439 q440 q99 q441) rfl ⟨by decide, by decide⟩ ⟨(by decide), (by decide)⟩ rfl (Nat.le_of_ble_eq_true rfl) dX1_copy_23 rfl (fun r9 T23 I24 R25 Lz hΦ => ?_) hok
  obtain ⟨r22, rfl, rfl, hl26, hw⟩ := hΦ
  have hw := hw hl26
  show GX E X T23 I24 R25 L17 7 30 26 [some (aR (some o)), some (aR (some q1)), none] [aR r22]
  intro hok
  refine g_astn2 hE1 dX1_copy_26 (by decide) rfl ?_
  refine lq5_walk (fun (T_27 : xT) (I_27 : xI) (R_27 : xR) (k_27 : Nat) (n_27 : Nat) => tle T23 T_27 → k_27 ≤ 160 → n_27 ≤ 1400 → GX E X T_27 I_27 R_27 L17 k_27 n_27 27 [some (aR (some o)), some (aR (some q1)), some (aR r22)] []) (fun K_27 hk_27 T_27 I_27 R_27 k_27 n_27 hw => ?_) _ _ _ _ _ hw tle.rf (by omega) (by omega) hok
  intro hl_27 hkc_27 hnc_27
  intro hok
  refine g_aldn2 hE1 dX1_copy_27 ?_
  obtain ⟨b27, hb28, hw⟩ := hw
  rw [hb28]
  obtain ⟨ht29, hw⟩ := hw
  refine gx_callF hE hRm (na := 0) (As := []) ht29 (by decide) (by decide) rfl (x := ⟨"java/util/Iterator", "hasNext", "()Z"⟩) (by unfold fwL; simp; decide) (by decide +kernel) (tx_J15_hasNext X hw) (lw_F q525 q560 q562 q116 q564) ⟨by decide, by decide⟩ ⟨(show k_27 + 0 ≤ 160 by omega), (show n_27 + 0 ≤ 1400 by omega)⟩ rfl (Nat.le_of_ble_eq_true rfl) dX1_copy_28 rfl (fun r9 Tz Iz Rz Lz hΦ => ?_) hok
  obtain ⟨r30, rfl, rfl, rfl, rfl, rfl, hw⟩ := hΦ
  show GX E X T_27 I_27 R_27 L17 k_27 n_27 33 [some (aR (some o)), some (aR (some q1)), some (aR (some b27))] [aI r30]
  intro hok
  obtain ⟨h86, h87, hT88, hN89⟩ := hw
  refine g_if_eq hE1 (tgt := 58) dX1_copy_33 (by decide) h86 (fun q => ?_) (fun q => ?_)
  · have hw := hT88 q
    refine g_aldn0 hE1 dX1_copy_58 ?_
    have ht32 := (hl26.tr hl_27).tag ht12 (by decide)
    refine gx_getr hE in_X1 (t := 2) rfl (by decide) 2 2 rfl (by decide) rfl (by decide) rfl q226 (Or.inl rfl) ht32 dX1_copy_59 ?_ hok
    intro hok
    refine g_iconst hE1 dX1_copy_62 ?_
    refine g_aldn1 hE1 dX1_copy_63 ?_
    have ht33 := ((hl10.tr hl26).tr hl_27).tag hT6 (by decide)
    refine gx_getr hE in_X1 (t := 2) rfl (by decide) 2 2 rfl (by decide) rfl (by decide) rfl q226 (Or.inl rfl) ht33 dX1_copy_64 ?_ hok
    intro hok
    refine g_iconst hE1 dX1_copy_67 ?_
    refine g_iconst hE1 dX1_copy_68 ?_
    obtain ⟨b34, hb35, hw⟩ := hw
    rw [hb35]
    obtain ⟨ht36, hw⟩ := hw
    obtain ⟨b37, hb38, hw⟩ := hw
    rw [hb38]
    obtain ⟨ht39, hw⟩ := hw
    obtain ⟨h40, h41, h42, h43, h44, hw⟩ := hw
    refine gx_copyI hE hRm q1073 q428 q427 q111 ht36 ht39 h40 h41 h42 h43 h44  (by decide) (by decide) (Nat.le_of_ble_eq_true rfl) dX1_copy_69 ?_ hok
    intro hok
    have hw := hw _ rfl
    generalize cpI I_27 b34 0 b37 0 3 = I46 at hw hok ⊢
    refine g_aldn0 hE1 dX1_copy_72 ?_
    refine gx_getr hE in_X1 (t := 2) rfl (by decide) 3 3 rfl (by decide) rfl (by decide) rfl q228 (Or.inl rfl) ht32 dX1_copy_73 ?_ hok
    intro hok
    refine g_iconst hE1 dX1_copy_76 ?_
    refine g_aldn1 hE1 dX1_copy_77 ?_
    refine gx_getr hE in_X1 (t := 2) rfl (by decide) 3 3 rfl (by decide) rfl (by decide) rfl q228 (Or.inl rfl) ht33 dX1_copy_78 ?_ hok
    intro hok
    refine g_iconst hE1 dX1_copy_81 ?_
    refine g_bipush hE1 dX1_copy_82 (by decide) ?_
    obtain ⟨b47, hb48, hw⟩ := hw
    rw [hb48]
    obtain ⟨ht49, hw⟩ := hw
    obtain ⟨b50, hb51, hw⟩ := hw
    rw [hb51]
    obtain ⟨ht52, hw⟩ := hw
    obtain ⟨h53, h54, h55, h56, h57, hw⟩ := hw
    refine gx_copyI hE hRm q1073 q428 q427 q111 ht49 ht52 h53 h54 h55 h56 h57  (by decide) (by decide) (Nat.le_of_ble_eq_true rfl) dX1_copy_84 ?_ hok
    intro hok
    have hw := hw _ rfl
    generalize cpI I46 b47 0 b50 0 6 = I59 at hw hok ⊢
    refine g_aldn1 hE1 dX1_copy_87 ?_
    refine g_aldn0 hE1 dX1_copy_88 ?_
    refine gx_geti hE in_X1 (t := 2) rfl (by decide) 4 4 rfl (by decide) rfl (by decide) rfl q230 (Or.inl rfl) ht32 dX1_copy_89 ?_ hok
    intro hok
    refine gx_puti hE in_X1 (t := 2) rfl (by decide) 4 4 rfl (by decide) rfl (by decide) (ty := tyX1 4) tyX1 tyX1_ok nmX1 rfl q230 (Or.inl rfl) rfl (tyX1_ok 4 (by decide)) rfl rfl ht33 dX1_copy_92 ?_ hok
    intro hok
    have hw := hw _ rfl
    generalize uI I59 q1 4 (I59 o 4) = I60 at hw hok ⊢
    refine g_aldn1 hE1 dX1_copy_95 ?_
    refine g_aldn0 hE1 dX1_copy_96 ?_
    refine gx_geti hE in_X1 (t := 2) rfl (by decide) 5 5 rfl (by decide) rfl (by decide) rfl q234 (Or.inl rfl) ht32 dX1_copy_97 ?_ hok
    intro hok
    refine gx_puti hE in_X1 (t := 2) rfl (by decide) 5 5 rfl (by decide) rfl (by decide) (ty := tyX1 5) tyX1 tyX1_ok nmX1 rfl q234 (Or.inl rfl) rfl (tyX1_ok 5 (by decide)) rfl rfl ht33 dX1_copy_100 ?_ hok
    intro hok
    have hw := hw _ rfl
    generalize uI I60 q1 5 (I60 o 5) = I61 at hw hok ⊢
    refine g_aldn1 hE1 dX1_copy_103 ?_
    exact gx_aret hE hR dX1_copy_104 (show k_27 ≤ 160 by omega) (show n_27 ≤ 1400 by omega) (Or.inl ⟨_, rfl⟩) ⟨_, rfl, (((hl5.tr hl10).tr hl26).tr hl_27), hw⟩ hok
  · have hw := hN89 q
    refine g_aldn1 hE1 dX1_copy_36 ?_
    have ht62 := ((hl10.tr hl26).tr hl_27).tag hT6 (by decide)
    refine gx_getr hE in_X1 (t := 2) rfl (by decide) 1 1 rfl (by decide) rfl (by decide) rfl q223 (Or.inl rfl) ht62 dX1_copy_37 ?_ hok
    intro hok
    refine g_aldn2 hE1 dX1_copy_40 ?_
    refine gx_callF hE hRm (na := 0) (As := []) ht29 (by decide) (by decide) rfl (x := ⟨"java/util/Iterator", "next", "()Ljava/lang/Object;"⟩) (by unfold fwL; simp; decide) (by decide +kernel) (tx_J15_next X hw) (lw_F q566 q927 q929 q116 q931) ⟨by decide, by decide⟩ ⟨(show k_27 + 0 ≤ 160 by omega), (show n_27 + 0 ≤ 1400 by omega)⟩ rfl (Nat.le_of_ble_eq_true rfl) dX1_copy_41 rfl (fun r9 Tz I64 R65 Lz hΦ => ?_) hok
    obtain ⟨r63, rfl, rfl, rfl, hw⟩ := hΦ
    show GX E X T_27 I64 R65 L17 k_27 n_27 46 [some (aR (some o)), some (aR (some q1)), some (aR (some b27))] [aR r63, aR (R_27 q1 1)]
    intro hok
    obtain ⟨b67, hb68, hw⟩ := hw
    rw [hb68]
    obtain ⟨ht69, hw⟩ := hw
    refine gx_castS hE ht69 (by decide) (by decide) rfl q933 dX1_copy_46 ?_ hok
    intro hok
    obtain ⟨hc70, hw⟩ := hw
    obtain ⟨hc71, hw⟩ := hw
    refine gx_callV hE hRm (As := []) ht69 (by decide) (by decide) rfl hx_X5_copy (tx_X5_copy X hw) (lw_V q934 q935 q936 q125 q937) ⟨by decide, by decide⟩ ⟨hc70, hc71⟩ rfl (Nat.le_of_ble_eq_true rfl) dX1_copy_49 rfl (fun r9 T73 I74 R75 Lz hΦ => ?_) hok
    obtain ⟨r72, rfl, rfl, hl76, hw⟩ := hΦ
    have hw := hw hl76
    show GX E X T73 I74 R75 L17 (k_27 + 8) (n_27 + 60) 52 [some (aR (some o)), some (aR (some q1)), some (aR (some b27))] [aR r72, aR (R_27 q1 1)]
    intro hok
    obtain ⟨b77, hb78, hw⟩ := hw
    rw [hb78]
    obtain ⟨ht79, hw⟩ := hw
    obtain ⟨hc80, hw⟩ := hw
    obtain ⟨hc81, hw⟩ := hw
    refine gx_callV hE hRm (As := [aR r72]) ht79 (by decide) (by decide) rfl hx_J4_addLast (tx_J4_addLast X hw) (lw_V q1043 q1044 q1045 q100 q1046) ⟨by decide, by decide⟩ ⟨hc80, hc81⟩ rfl (Nat.le_of_ble_eq_true rfl) dX1_copy_52 rfl (fun r9 T82 I83 R84 Lz hΦ => ?_) hok
    obtain ⟨rfl, rfl, hl85, hw⟩ := hΦ
    have hw := hw hl85
    show GX E X T82 I83 R84 L17 (k_27 + 8 + 1) (n_27 + 60 + 3) 55 [some (aR (some o)), some (aR (some q1)), some (aR (some b27))] []
    intro hok
    refine g_goto hE1 (tgt := 27) dX1_copy_55 (by decide) ?_
    simpa only [hb14, hb20, hb28, hb68, hb78] using hk_27 _ _ _ _ _ hw ((hl_27.tr hl76).tr hl85) (by omega) (by omega) hok

/-- WhalingLogs$Listing.puts(LWhalingLogs$Entry;II)V -/
def wx_X3_puts (X : XT) (o : Nat) (x1 : Option Nat) (x2 : Int) (x3 : Int) (T : xT) (I : xI) (R : xR) (L : xL) (Q : xI → xR → Prop) : Prop :=
  xtag T o = 7 ∧
  lq3 (fun (x4_6 : Int) (I_6 : xI) (R_6 : xR) (K_6 : Int → xI → xR → Prop) =>
    jn0 (
        ∃ b2 : Nat, R_6 o 0 = some b2 ∧ xtag T b2 = 104 ∧ ib x4_6 (xlen T b2) ∧ xlen T b2 < 2147483648 ∧ ∃ b7 : Nat, x1 = some b7 ∧ xtag T b7 = 12 ∧ ∀ R10 : xR, R10 = uR R_6 b2 x4_6 (some b7) →
        ∃ b11 : Nat, R10 o 1 = some b11 ∧ xtag T b11 = 100 ∧ ib x4_6 (xlen T b11) ∧ xlen T b11 < 2147483648 ∧ ∀ I16 : xI, I16 = uI I_6 b11 x4_6 x2 →
        ∃ b17 : Nat, R10 o 2 = some b17 ∧ xtag T b17 = 100 ∧ ib x4_6 (xlen T b17) ∧ xlen T b17 < 2147483648 ∧ ∀ I22 : xI, I22 = uI I16 b17 x4_6 x3 →
        ∀ I23 : xI, I23 = uI I22 o 7 ((I22 o 7) + 1) →
        Q I23 R10)
      (fun (J_84 : Prop) =>
      cLt 0 x4_6
        (
        ∃ b24 : Nat, R_6 o 0 = some b24 ∧ xtag T b24 = 104 ∧ ib (x4_6 - 1) (xlen T b24) ∧ xlen T b24 < 2147483648 ∧
        ∃ b29 : Nat, R_6 b24 (x4_6 - 1) = some b29 ∧ xtag T b29 = 12 ∧
        ∃ b32 : Nat, x1 = some b32 ∧ xtag T b32 = 12 ∧
        cLt (I_6 b32 0) (I_6 b29 0)
          (
          ∃ b35 : Nat, R_6 o 0 = some b35 ∧ xtag T b35 = 104 ∧ ib (x4_6 - 1) (xlen T b35) ∧ xlen T b35 < 2147483648 ∧
          ib x4_6 (xlen T b35) ∧ xlen T b35 < 2147483648 ∧ ∃ b42 : Nat, R_6 b35 (x4_6 - 1) = some b42 ∧ xtag T b42 = 12 ∧ ∀ R45 : xR, R45 = uR R_6 b35 x4_6 (some b42) →
          ∃ b46 : Nat, R45 o 1 = some b46 ∧ xtag T b46 = 100 ∧ ib (x4_6 - 1) (xlen T b46) ∧ xlen T b46 < 2147483648 ∧
          ib x4_6 (xlen T b46) ∧ xlen T b46 < 2147483648 ∧ ∀ I53 : xI, I53 = uI I_6 b46 x4_6 (I_6 b46 (x4_6 - 1)) →
          ∃ b54 : Nat, R45 o 2 = some b54 ∧ xtag T b54 = 100 ∧ ib (x4_6 - 1) (xlen T b54) ∧ xlen T b54 < 2147483648 ∧
          ib x4_6 (xlen T b54) ∧ xlen T b54 < 2147483648 ∧ ∀ I61 : xI, I61 = uI I53 b54 x4_6 (I53 b54 (x4_6 - 1)) →
          K_6 (x4_6 + (-1)) I61 R45)
          (
          J_84))
        (
        J_84))) (I o 7) I R
theorem hx_X3_puts : yX3_puts.cls = RX3 ∧ yX3_puts.cls ≠ "java/lang/invoke/MethodHandle" ∧ yX3_puts.cls ≠ "java/lang/invoke/VarHandle" ∧ (parseMethodDescriptor yX3_puts.desc).map (fun d => d.parameters.length) = some 3 := by decide +kernel
set_option maxHeartbeats 4000000 in
theorem tx_X3_puts (X : XT) {o : Nat} {x1 : Option Nat} {x2 : Int} {x3 : Int} {T : xT} {I : xI} {R : xR} {L : xL} {Q : xI → xR → Prop} (hw : wx_X3_puts X o x1 x2 x3 T I R L Q) : CtX X yX3_puts cX3_puts 5 none (rmX 0 0 0 0) [aR (some o), aR x1, aI x2, aI x3] T I R L (PXvIR T I R L Q) := by
  refine CtX.intro (by decide) (Nat.le_of_ble_eq_true rfl) (fun E hE hR hN => ?_)
  have hRm := hR.rm
  have hE : OkX E X RX3 cX3_puts 5 none := hE
  have hE1 := hE.1
  show GX E X T I R L 0 0 0 [some (aR (some o)), some (aR x1), some (aI x2), some (aI x3), none] []
  unfold wx_X3_puts at hw
  intro hok
  refine g_aldn0 hE1 dX3_puts_0 ?_
  obtain ⟨ht1, hw⟩ := hw
  refine gx_geti hE in_X3 (t := 7) rfl (by decide) 7 7 rfl (by decide) rfl (by decide) rfl q297 (Or.inl rfl) ht1 dX3_puts_1 ?_ hok
  intro hok
  refine g_ist4 hE1 dX3_puts_4 (by decide) rfl ?_
  refine lq3_walk (fun (x4_6 : Int) (I_6 : xI) (R_6 : xR) => GX E X T I_6 R_6 L 0 0 6 [some (aR (some o)), some (aR x1), some (aI x2), some (aI x3), some (aI x4_6)] []) (fun K_6 hk_6 x4_6 I_6 R_6 hw => ?_) _ _ _ hw hok
  intro hok
  refine g_ild4 hE1 dX3_puts_6 ?_
  refine jn0_walk (GX E X T I_6 R_6 L 0 0 84 [some (aR (some o)), some (aR x1), some (aI x2), some (aI x3), some (aI x4_6)] []) hw (fun  hw => ?_) (fun J_84 hj_84 hw => ?_)
  · intro hok
    refine g_aldn0 hE1 dX3_puts_84 ?_
    refine gx_getr hE in_X3 (t := 7) rfl (by decide) 0 0 rfl (by decide) rfl (by decide) rfl q286 (Or.inl rfl) ht1 dX3_puts_85 ?_ hok
    intro hok
    refine g_ild4 hE1 dX3_puts_88 ?_
    refine g_aldn1 hE1 dX3_puts_90 ?_
    obtain ⟨b2, hb3, hw⟩ := hw
    rw [hb3]
    obtain ⟨ht4, hw⟩ := hw
    obtain ⟨h5, h6, hw⟩ := hw
    obtain ⟨b7, hb8, hw⟩ := hw
    rw [hb8]
    obtain ⟨ht9, hw⟩ := hw
    refine gx_aastE hE ht4 ht9 h5 h6 dX3_puts_91 ?_ hok
    intro hok
    have hw := hw _ rfl
    generalize uR R_6 b2 x4_6 (some b7) = R10 at hw hok ⊢
    refine g_aldn0 hE1 dX3_puts_92 ?_
    refine gx_getr hE in_X3 (t := 7) rfl (by decide) 1 1 rfl (by decide) rfl (by decide) rfl q288 (Or.inl rfl) ht1 dX3_puts_93 ?_ hok
    intro hok
    refine g_ild4 hE1 dX3_puts_96 ?_
    refine g_ildn2 hE1 dX3_puts_98 ?_
    obtain ⟨b11, hb12, hw⟩ := hw
    rw [hb12]
    obtain ⟨ht13, hw⟩ := hw
    obtain ⟨h14, h15, hw⟩ := hw
    refine gx_iast hE ht13 h14 h15 dX3_puts_99 ?_ hok
    intro hok
    have hw := hw _ rfl
    generalize uI I_6 b11 x4_6 x2 = I16 at hw hok ⊢
    refine g_aldn0 hE1 dX3_puts_100 ?_
    refine gx_getr hE in_X3 (t := 7) rfl (by decide) 2 2 rfl (by decide) rfl (by decide) rfl q290 (Or.inl rfl) ht1 dX3_puts_101 ?_ hok
    intro hok
    refine g_ild4 hE1 dX3_puts_104 ?_
    refine g_ildn3 hE1 dX3_puts_106 ?_
    obtain ⟨b17, hb18, hw⟩ := hw
    rw [hb18]
    obtain ⟨ht19, hw⟩ := hw
    obtain ⟨h20, h21, hw⟩ := hw
    refine gx_iast hE ht19 h20 h21 dX3_puts_107 ?_ hok
    intro hok
    have hw := hw _ rfl
    generalize uI I16 b17 x4_6 x3 = I22 at hw hok ⊢
    refine g_aldn0 hE1 dX3_puts_108 ?_
    refine g_dup hE1 dX3_puts_109 rfl ?_
    refine gx_geti hE in_X3 (t := 7) rfl (by decide) 7 7 rfl (by decide) rfl (by decide) rfl q297 (Or.inl rfl) ht1 dX3_puts_110 ?_ hok
    intro hok
    refine g_iconst hE1 dX3_puts_113 ?_
    refine g_iadd hE1 dX3_puts_114 ?_
    refine gx_puti hE in_X3 (t := 7) rfl (by decide) 7 7 rfl (by decide) rfl (by decide) (ty := tyX3 7) tyX3 tyX3_ok nmX3 rfl q297 (Or.inl rfl) rfl (tyX3_ok 7 (by decide)) rfl rfl ht1 dX3_puts_115 ?_ hok
    intro hok
    have hw := hw _ rfl
    generalize uI I22 o 7 ((I22 o 7) + 1) = I23 at hw hok ⊢
    exact gx_vret hE hR dX3_puts_118 (by decide) (by decide) ⟨rfl, rfl, rfl, hw⟩ hok
  · skip
    obtain ⟨h66, h67, hT68, hN69⟩ := hw
    refine g_if_le hE1 (tgt := 84) dX3_puts_8 (by decide) h67 (fun q => ?_) (fun q => ?_)
    · have hw := hT68 q
      refine g_aldn0 hE1 dX3_puts_11 ?_
      refine gx_getr hE in_X3 (t := 7) rfl (by decide) 0 0 rfl (by decide) rfl (by decide) rfl q286 (Or.inl rfl) ht1 dX3_puts_12 ?_ hok
      intro hok
      refine g_ild4 hE1 dX3_puts_15 ?_
      refine g_iconst hE1 dX3_puts_17 ?_
      refine g_isub hE1 dX3_puts_18 ?_
      obtain ⟨b24, hb25, hw⟩ := hw
      rw [hb25]
      obtain ⟨ht26, hw⟩ := hw
      obtain ⟨h27, h28, hw⟩ := hw
      refine gx_aald hE ht26 (by decide) h27 h28 dX3_puts_19 ?_ hok
      intro hok
      obtain ⟨b29, hb30, hw⟩ := hw
      rw [hb30]
      obtain ⟨ht31, hw⟩ := hw
      refine gx_getiN hE in_X6 (t := 12) rfl (by decide) 0 0 rfl (by decide) rfl (by decide) rfl q992 (Or.inl rfl) ht31 dX3_puts_20 ?_ hok
      intro hok
      refine g_aldn1 hE1 dX3_puts_23 ?_
      obtain ⟨b32, hb33, hw⟩ := hw
      rw [hb33]
      obtain ⟨ht34, hw⟩ := hw
      refine gx_getiN hE in_X6 (t := 12) rfl (by decide) 0 0 rfl (by decide) rfl (by decide) rfl q992 (Or.inl rfl) ht34 dX3_puts_24 ?_ hok
      intro hok
      obtain ⟨h62, h63, hT64, hN65⟩ := hw
      refine g_icmp_le hE1 (tgt := 84) dX3_puts_27 (by decide) h63 h62 (fun q => ?_) (fun q => ?_)
      · have hw := hT64 q
        refine g_aldn0 hE1 dX3_puts_30 ?_
        refine gx_getr hE in_X3 (t := 7) rfl (by decide) 0 0 rfl (by decide) rfl (by decide) rfl q286 (Or.inl rfl) ht1 dX3_puts_31 ?_ hok
        intro hok
        refine g_ild4 hE1 dX3_puts_34 ?_
        refine g_aldn0 hE1 dX3_puts_36 ?_
        refine gx_getr hE in_X3 (t := 7) rfl (by decide) 0 0 rfl (by decide) rfl (by decide) rfl q286 (Or.inl rfl) ht1 dX3_puts_37 ?_ hok
        intro hok
        refine g_ild4 hE1 dX3_puts_40 ?_
        refine g_iconst hE1 dX3_puts_42 ?_
        refine g_isub hE1 dX3_puts_43 ?_
        obtain ⟨b35, hb36, hw⟩ := hw
        rw [hb36]
        obtain ⟨ht37, hw⟩ := hw
        obtain ⟨h38, h39, hw⟩ := hw
        refine gx_aald hE ht37 (by decide) h38 h39 dX3_puts_44 ?_ hok
        intro hok
        obtain ⟨h40, h41, hw⟩ := hw
        obtain ⟨b42, hb43, hw⟩ := hw
        rw [hb43]
        obtain ⟨ht44, hw⟩ := hw
        refine gx_aastE hE ht37 ht44 h40 h41 dX3_puts_45 ?_ hok
        intro hok
        have hw := hw _ rfl
        generalize uR R_6 b35 x4_6 (some b42) = R45 at hw hok ⊢
        refine g_aldn0 hE1 dX3_puts_46 ?_
        refine gx_getr hE in_X3 (t := 7) rfl (by decide) 1 1 rfl (by decide) rfl (by decide) rfl q288 (Or.inl rfl) ht1 dX3_puts_47 ?_ hok
        intro hok
        refine g_ild4 hE1 dX3_puts_50 ?_
        refine g_aldn0 hE1 dX3_puts_52 ?_
        refine gx_getr hE in_X3 (t := 7) rfl (by decide) 1 1 rfl (by decide) rfl (by decide) rfl q288 (Or.inl rfl) ht1 dX3_puts_53 ?_ hok
        intro hok
        refine g_ild4 hE1 dX3_puts_56 ?_
        refine g_iconst hE1 dX3_puts_58 ?_
        refine g_isub hE1 dX3_puts_59 ?_
        obtain ⟨b46, hb47, hw⟩ := hw
        rw [hb47]
        obtain ⟨ht48, hw⟩ := hw
        obtain ⟨h49, h50, hw⟩ := hw
        refine gx_iald hE ht48 h49 h50 dX3_puts_60 ?_ hok
        intro hok
        obtain ⟨h51, h52, hw⟩ := hw
        refine gx_iast hE ht48 h51 h52 dX3_puts_61 ?_ hok
        intro hok
        have hw := hw _ rfl
        generalize uI I_6 b46 x4_6 (I_6 b46 (x4_6 - 1)) = I53 at hw hok ⊢
        refine g_aldn0 hE1 dX3_puts_62 ?_
        refine gx_getr hE in_X3 (t := 7) rfl (by decide) 2 2 rfl (by decide) rfl (by decide) rfl q290 (Or.inl rfl) ht1 dX3_puts_63 ?_ hok
        intro hok
        refine g_ild4 hE1 dX3_puts_66 ?_
        refine g_aldn0 hE1 dX3_puts_68 ?_
        refine gx_getr hE in_X3 (t := 7) rfl (by decide) 2 2 rfl (by decide) rfl (by decide) rfl q290 (Or.inl rfl) ht1 dX3_puts_69 ?_ hok
        intro hok
        refine g_ild4 hE1 dX3_puts_72 ?_
        refine g_iconst hE1 dX3_puts_74 ?_
        refine g_isub hE1 dX3_puts_75 ?_
        obtain ⟨b54, hb55, hw⟩ := hw
        rw [hb55]
        obtain ⟨ht56, hw⟩ := hw
        obtain ⟨h57, h58, hw⟩ := hw
        refine gx_iald hE ht56 h57 h58 dX3_puts_76 ?_ hok
        intro hok
        obtain ⟨h59, h60, hw⟩ := hw
        refine gx_iast hE ht56 h59 h60 dX3_puts_77 ?_ hok
        intro hok
        have hw := hw _ rfl
        generalize uI I53 b54 x4_6 (I53 b54 (x4_6 - 1)) = I61 at hw hok ⊢
        refine g_iinc4 hE1 dX3_puts_78 (by decide) rfl ?_
        refine g_goto hE1 (tgt := 6) dX3_puts_81 (by decide) ?_
        simpa only [hb25, hb30, hb33, hb36, hb43, hb47, hb55] using hk_6 _ _ _ hw hok
      · have hw := hN65 q
        simpa only [hb25, hb30, hb33] using hj_84  hw hok
    · have hw := hN69 q
      exact hj_84  hw hok

/-- WhalingLogs$Listing.lists(LWhalingLogs$Archive;)LWhalingLogs$Listing; -/
def wx_X3_lists (X : XT) (o : Nat) (x1 : Option Nat) (T : xT) (I : xI) (R : xR) (L : xL) (Q : Option Nat → xT → xI → xR → Prop) : Prop :=
  xtag T o = 7 ∧ ∀ R2 : xR, R2 = uR R o 6 x1 →
  ∀ I3 : xI, I3 = uI I o 7 0 →
  ∃ b4 : Nat, x1 = some b4 ∧ xtag T b4 = 2 ∧
  ∃ b7 : Nat, R2 b4 1 = some b7 ∧ xtag T b7 = 4 ∧ wx_J3_iterator_J4 X b7 T I3 R2 L (fun (r10 : Option Nat) (T11 : xT) (I12 : xI) (R13 : xR) => tle T T11 → 
  lq3 (fun (x2_20 : Int) (I_20 : xI) (R_20 : xR) (K_20 : Int → xI → xR → Prop) =>
    ∃ b15 : Nat, r10 = some b15 ∧ xtag T11 b15 = 9 ∧ wx_J15_hasNext X b15 T11 I_20 R_20 L (fun (r18 : Int) => 
    cEq r18 0
      (
      Q (some o) T11 I_20 R_20)
      (
      wx_J15_next X b15 T11 I_20 R_20 L (fun (r20 : Option Nat) (I21 : xI) (R22 : xR) => 
      ∃ b24 : Nat, r20 = some b24 ∧ xtag T11 b24 = 10 ∧
      lq3 (fun (x5_43 : Int) (I_43 : xI) (R_43 : xR) (K_43 : Int → xI → xR → Prop) =>
        ∃ b27 : Nat, R_43 b24 1 = some b27 ∧ xtag T11 b27 = 11 ∧ wx_J24_size X b27 T11 I_43 R_43 L (fun (r30 : Int) => 
        cLt x5_43 r30
          (
          ∃ b32 : Nat, R_43 b24 1 = some b32 ∧ xtag T11 b32 = 11 ∧ wx_J24_get X b32 x5_43 T11 I_43 R_43 L (fun (r35 : Option Nat) => 
          ∃ b37 : Nat, r35 = some b37 ∧ xtag T11 b37 = 12 ∧
          jn2 (fun (I_96 : xI) (R_96 : xR) => 
              K_43 (x5_43 + 1) I_96 R_96)
            (fun (J_96 : xI → xR → Prop) =>
            cEq (I_43 b37 3) 1
              (
              ∃ b40 : Nat, R_43 b24 1 = some b40 ∧ xtag T11 b40 = 11 ∧ wx_J24_get X b40 x5_43 T11 I_43 R_43 L (fun (r43 : Option Nat) => 
              ∃ b45 : Nat, r43 = some b45 ∧ xtag T11 b45 = 12 ∧
              wx_X3_puts X o (some b45) x2_20 x5_43 T11 I_43 R_43 L (fun (I49 : xI) (R50 : xR) => 
              J_96 I49 R50)))
              (
              J_96 I_43 R_43))))
          (
          K_20 (x2_20 + 1) I_43 R_43))) 0 I21 R22)))) 0 I12 R13)
theorem hx_X3_lists : yX3_lists.cls = RX3 ∧ yX3_lists.cls ≠ "java/lang/invoke/MethodHandle" ∧ yX3_lists.cls ≠ "java/lang/invoke/VarHandle" ∧ (parseMethodDescriptor yX3_lists.desc).map (fun d => d.parameters.length) = some 1 := by decide +kernel
set_option maxHeartbeats 4000000 in
theorem tx_X3_lists (X : XT) {o : Nat} {x1 : Option Nat} {T : xT} {I : xI} {R : xR} {L : xL} {Q : Option Nat → xT → xI → xR → Prop} (hw : wx_X3_lists X o x1 T I R L Q) : CtX X yX3_lists cX3_lists 6 (some (.object "WhalingLogs$Listing")) (rmX 5 1 5 106) [aR (some o), aR x1] T I R L (PXqTIR T I R L Q) := by
  refine CtX.intro (by decide) (Nat.le_of_ble_eq_true rfl) (fun E hE hR hN => ?_)
  have hRm := hR.rm
  have hE : OkX E X RX3 cX3_lists 6 (some (.object "WhalingLogs$Listing")) := hE
  have hE1 := hE.1
  show GX E X T I R L 0 0 0 [some (aR (some o)), some (aR x1), none, none, none, none] []
  unfold wx_X3_lists at hw
  intro hok
  refine g_aldn0 hE1 dX3_lists_0 ?_
  refine g_aldn1 hE1 dX3_lists_1 ?_
  obtain ⟨ht1, hw⟩ := hw
  refine gx_putr hE in_X3 (t := 7) rfl (by decide) 6 6 rfl (by decide) rfl (by decide) (ty := tyX3 6) tyX3 tyX3_ok nmX3 rfl q296 (Or.inl rfl) rfl (tyX3_ok 6 (by decide)) nar_o fit_o ht1 dX3_lists_2 ?_ hok
  intro hok
  have hw := hw _ rfl
  generalize uR R o 6 x1 = R2 at hw hok ⊢
  refine g_aldn0 hE1 dX3_lists_5 ?_
  refine g_iconst hE1 dX3_lists_6 ?_
  refine gx_puti hE in_X3 (t := 7) rfl (by decide) 7 7 rfl (by decide) rfl (by decide) (ty := tyX3 7) tyX3 tyX3_ok nmX3 rfl q297 (Or.inl rfl) rfl (tyX3_ok 7 (by decide)) rfl rfl ht1 dX3_lists_7 ?_ hok
  intro hok
  have hw := hw _ rfl
  generalize uI I o 7 0 = I3 at hw hok ⊢
  refine g_iconst hE1 dX3_lists_10 ?_
  refine g_istn2 hE1 dX3_lists_11 (by decide) rfl ?_
  refine g_aldn1 hE1 dX3_lists_12 ?_
  obtain ⟨b4, hb5, hw⟩ := hw
  rw [hb5]
  obtain ⟨ht6, hw⟩ := hw
  refine gx_getrN hE in_X1 (t := 2) rfl (by decide) 1 1 rfl (by decide) rfl (by decide) rfl q224 (Or.inl rfl) ht6 dX3_lists_13 ?_ hok
  intro hok
  obtain ⟨b7, hb8, hw⟩ := hw
  rw [hb8]
  obtain ⟨ht9, hw⟩ := hw
  refine gx_callU hE hRm (na := 0) (As := []) ht9 (by decide) (by decide) rfl (owner := "java/util/AbstractSequentialList") (x := ⟨"java/util/LinkedList", "iterator", "()Ljava/util/Iterator;"⟩) (by decide +kernel) (tx_J3_iterator_J4 X hw) (lw_U q1082 q437 q439 q440 q99 q441) rfl ⟨by decide, by decide⟩ ⟨(by decide), (by decide)⟩ rfl (Nat.le_of_ble_eq_true rfl) dX3_lists_16 rfl (fun r9 T11 I12 R13 Lz hΦ => ?_) hok
  obtain ⟨r10, rfl, rfl, hl14, hw⟩ := hΦ
  have hw := hw hl14
  show GX E X T11 I12 R13 L 1 5 19 [some (aR (some o)), some (aR (some b4)), some (aI 0), none, none, none] [aR r10]
  intro hok
  refine g_astn3 hE1 dX3_lists_19 (by decide) rfl ?_
  refine lq3_walk (fun (x2_20 : Int) (I_20 : xI) (R_20 : xR) => GX E X T11 I_20 R_20 L 1 5 20 [some (aR (some o)), some (aR (some b4)), some (aI x2_20), some (aR r10), none, none] []) (fun K_20 hk_20 x2_20 I_20 R_20 hw => ?_) _ _ _ hw hok
  intro hok
  refine g_aldn3 hE1 dX3_lists_20 ?_
  obtain ⟨b15, hb16, hw⟩ := hw
  rw [hb16]
  obtain ⟨ht17, hw⟩ := hw
  refine gx_callF hE hRm (na := 0) (As := []) ht17 (by decide) (by decide) rfl (x := ⟨"java/util/Iterator", "hasNext", "()Z"⟩) (by unfold fwL; simp; decide) (by decide +kernel) (tx_J15_hasNext X hw) (lw_F q1084 q560 q562 q116 q564) ⟨by decide, by decide⟩ ⟨(by decide), (by decide)⟩ rfl (Nat.le_of_ble_eq_true rfl) dX3_lists_21 rfl (fun r9 Tz Iz Rz Lz hΦ => ?_) hok
  obtain ⟨r18, rfl, rfl, rfl, rfl, rfl, hw⟩ := hΦ
  show GX E X T11 I_20 R_20 L 1 5 26 [some (aR (some o)), some (aR (some b4)), some (aI x2_20), some (aR (some b15)), none, none] [aI r18]
  intro hok
  obtain ⟨h60, h61, hT62, hN63⟩ := hw
  refine g_if_eq hE1 (tgt := 108) dX3_lists_26 (by decide) h60 (fun q => ?_) (fun q => ?_)
  · have hw := hT62 q
    refine g_aldn0 hE1 dX3_lists_108 ?_
    exact gx_aret hE hR dX3_lists_109 (by decide) (by decide) (Or.inl ⟨_, rfl⟩) ⟨_, rfl, rfl, hl14, hw⟩ hok
  · have hw := hN63 q
    refine g_aldn3 hE1 dX3_lists_29 ?_
    refine gx_callF hE hRm (na := 0) (As := []) ht17 (by decide) (by decide) rfl (x := ⟨"java/util/Iterator", "next", "()Ljava/lang/Object;"⟩) (by unfold fwL; simp; decide) (by decide +kernel) (tx_J15_next X hw) (lw_F q1086 q927 q929 q116 q931) ⟨by decide, by decide⟩ ⟨(by decide), (by decide)⟩ rfl (Nat.le_of_ble_eq_true rfl) dX3_lists_30 rfl (fun r9 Tz I21 R22 Lz hΦ => ?_) hok
    obtain ⟨r20, rfl, rfl, rfl, hw⟩ := hΦ
    show GX E X T11 I21 R22 L 1 5 35 [some (aR (some o)), some (aR (some b4)), some (aI x2_20), some (aR (some b15)), none, none] [aR r20]
    intro hok
    obtain ⟨b24, hb25, hw⟩ := hw
    rw [hb25]
    obtain ⟨ht26, hw⟩ := hw
    refine gx_castS hE ht26 (by decide) (by decide) rfl q1087 dX3_lists_35 ?_ hok
    intro hok
    refine g_ast4 hE1 dX3_lists_38 (by decide) rfl ?_
    refine g_iconst hE1 dX3_lists_40 ?_
    refine g_ist5 hE1 dX3_lists_41 (by decide) rfl ?_
    refine lq3_walk (fun (x5_43 : Int) (I_43 : xI) (R_43 : xR) => GX E X T11 I_43 R_43 L 1 5 43 [some (aR (some o)), some (aR (some b4)), some (aI x2_20), some (aR (some b15)), some (aR (some b24)), some (aI x5_43)] []) (fun K_43 hk_43 x5_43 I_43 R_43 hw => ?_) _ _ _ hw hok
    intro hok
    refine g_ild5 hE1 dX3_lists_43 ?_
    refine g_ald4 hE1 dX3_lists_45 ?_
    refine gx_getrN hE in_X5 (t := 10) rfl (by decide) 1 1 rfl (by decide) rfl (by decide) rfl q965 (Or.inl rfl) ht26 dX3_lists_47 ?_ hok
    intro hok
    obtain ⟨b27, hb28, hw⟩ := hw
    rw [hb28]
    obtain ⟨ht29, hw⟩ := hw
    refine gx_callV hE hRm (As := []) ht29 (by decide) (by decide) rfl hx_J24_size (tx_J24_size X hw) (lw_V q1088 q538 q2592 q126 q539) ⟨by decide, by decide⟩ ⟨(by decide), (by decide)⟩ rfl (Nat.le_of_ble_eq_true rfl) dX3_lists_50 rfl (fun r9 Tz Iz Rz Lz hΦ => ?_) hok
    obtain ⟨r30, rfl, rfl, rfl, rfl, rfl, hw⟩ := hΦ
    show GX E X T11 I_43 R_43 L 1 5 53 [some (aR (some o)), some (aR (some b4)), some (aI x2_20), some (aR (some b15)), some (aR (some b24)), some (aI x5_43)] [aI r30, aI x5_43]
    intro hok
    obtain ⟨h56, h57, hT58, hN59⟩ := hw
    refine g_icmp_ge hE1 (tgt := 102) dX3_lists_53 (by decide) h56 h57 (fun q => ?_) (fun q => ?_)
    · have hw := hT58 q
      refine g_ald4 hE1 dX3_lists_56 ?_
      refine gx_getrN hE in_X5 (t := 10) rfl (by decide) 1 1 rfl (by decide) rfl (by decide) rfl q965 (Or.inl rfl) ht26 dX3_lists_58 ?_ hok
      intro hok
      refine g_ild5 hE1 dX3_lists_61 ?_
      obtain ⟨b32, hb33, hw⟩ := hw
      rw [hb33]
      obtain ⟨ht34, hw⟩ := hw
      refine gx_callV hE hRm (As := [aI x5_43]) ht34 (by decide) (by decide) rfl hx_J24_get (tx_J24_get X hw) (lw_V q1089 q583 q2593 q126 q584) ⟨by decide, by decide⟩ ⟨(by decide), (by decide)⟩ rfl (Nat.le_of_ble_eq_true rfl) dX3_lists_63 rfl (fun r9 Tz Iz Rz Lz hΦ => ?_) hok
      obtain ⟨r35, rfl, rfl, rfl, rfl, rfl, hw⟩ := hΦ
      show GX E X T11 I_43 R_43 L 1 5 66 [some (aR (some o)), some (aR (some b4)), some (aI x2_20), some (aR (some b15)), some (aR (some b24)), some (aI x5_43)] [aR r35]
      intro hok
      obtain ⟨b37, hb38, hw⟩ := hw
      rw [hb38]
      obtain ⟨ht39, hw⟩ := hw
      refine gx_castS hE ht39 (by decide) (by decide) rfl q284 dX3_lists_66 ?_ hok
      intro hok
      refine gx_getiN hE in_X6 (t := 12) rfl (by decide) 3 3 rfl (by decide) rfl (by decide) rfl q1002 (Or.inl rfl) ht39 dX3_lists_69 ?_ hok
      intro hok
      refine g_iconst hE1 dX3_lists_72 ?_
      refine jn2_walk (fun (I_96 : xI) (R_96 : xR) => GX E X T11 I_96 R_96 L 1 5 96 [some (aR (some o)), some (aR (some b4)), some (aI x2_20), some (aR (some b15)), some (aR (some b24)), some (aI x5_43)] []) hw (fun I_96 R_96 hw => ?_) (fun J_96 hj_96 hw => ?_)
      · intro hok
        refine g_iinc5 hE1 dX3_lists_96 (by decide) rfl ?_
        refine g_goto hE1 (tgt := 43) dX3_lists_99 (by decide) ?_
        exact hk_43 _ _ _ hw hok
      · skip
        obtain ⟨h52, h53, hT54, hN55⟩ := hw
        refine g_icmp_ne hE1 (tgt := 96) dX3_lists_73 (by decide) h52 h53 (fun q => ?_) (fun q => ?_)
        · have hw := hT54 q
          refine g_aldn0 hE1 dX3_lists_76 ?_
          refine g_ald4 hE1 dX3_lists_77 ?_
          refine gx_getrN hE in_X5 (t := 10) rfl (by decide) 1 1 rfl (by decide) rfl (by decide) rfl q965 (Or.inl rfl) ht26 dX3_lists_79 ?_ hok
          intro hok
          refine g_ild5 hE1 dX3_lists_82 ?_
          obtain ⟨b40, hb41, hw⟩ := hw
          rw [hb41]
          obtain ⟨ht42, hw⟩ := hw
          refine gx_callV hE hRm (As := [aI x5_43]) ht42 (by decide) (by decide) rfl hx_J24_get (tx_J24_get X hw) (lw_V q1089 q583 q2593 q126 q584) ⟨by decide, by decide⟩ ⟨(by decide), (by decide)⟩ rfl (Nat.le_of_ble_eq_true rfl) dX3_lists_84 rfl (fun r9 Tz Iz Rz Lz hΦ => ?_) hok
          obtain ⟨r43, rfl, rfl, rfl, rfl, rfl, hw⟩ := hΦ
          show GX E X T11 I_43 R_43 L 1 5 87 [some (aR (some o)), some (aR (some b4)), some (aI x2_20), some (aR (some b15)), some (aR (some b24)), some (aI x5_43)] [aR r43, aR (some o)]
          intro hok
          obtain ⟨b45, hb46, hw⟩ := hw
          rw [hb46]
          obtain ⟨ht47, hw⟩ := hw
          refine gx_castS hE ht47 (by decide) (by decide) rfl q284 dX3_lists_87 ?_ hok
          intro hok
          refine g_ildn2 hE1 dX3_lists_90 ?_
          refine g_ild5 hE1 dX3_lists_91 ?_
          have ht48 := hl14.tag ht1 (by decide)
          refine gx_callV hE hRm (As := [aR (some b45), aI x2_20, aI x5_43]) ht48 (by decide) (by decide) rfl hx_X3_puts (tx_X3_puts X hw) (lw_V q1090 q1092 qs13 q103 q1093) ⟨by decide, by decide⟩ ⟨(by decide), (by decide)⟩ rfl (Nat.le_of_ble_eq_true rfl) dX3_lists_93 rfl (fun r9 Tz I49 R50 Lz hΦ => ?_) hok
          obtain ⟨rfl, rfl, rfl, hw⟩ := hΦ
          show GX E X T11 I49 R50 L 1 5 96 [some (aR (some o)), some (aR (some b4)), some (aI x2_20), some (aR (some b15)), some (aR (some b24)), some (aI x5_43)] []
          intro hok
          exact hj_96 _ _ hw hok
        · have hw := hN55 q
          exact hj_96 _ _ hw hok
    · have hw := hN59 q
      refine g_iinc2 hE1 dX3_lists_102 (by decide) rfl ?_
      refine g_goto hE1 (tgt := 20) dX3_lists_105 (by decide) ?_
      refine g_kl4 ?_
      refine g_kl5 ?_
      simpa only [hb5, hb8, hb16, hb25, hb28] using hk_20 _ _ _ hw hok

