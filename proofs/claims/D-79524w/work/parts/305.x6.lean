set_option maxRecDepth 100000
/-- WhalingLogs.read(II)I -/
def wx_X0_read (X : XT) (o : Nat) (x1 : Int) (x2 : Int) (T : xT) (I : xI) (R : xR) (L : xL) (Q : Int → xT → xI → xR → xL → Prop) : Prop :=
  xtag T o = 1 ∧
  ∃ b2 : Nat, R o 0 = some b2 ∧ xtag T b2 = 2 ∧ wx_X1_copy X b2 T I R L (fun (r5 : Option Nat) (T6 : xT) (I7 : xI) (R8 : xR) (L9 : xL) => tle T T6 → 
  ∃ b12 : Nat, R8 o 0 = some b12 ∧ xtag T6 b12 = 2 ∧ wx_X1_readsPage X b12 x1 x2 T6 I7 R8 L9 (fun (r15 : Int) (T16 : xT) (I17 : xI) (R18 : xR) => tle T6 T16 → 
    wx_X0_changed X o r5 r15 T16 I17 R18 L9 (fun (r21 : Int) (I22 : xI) (R23 : xR) => 
    Q r21 T16 I22 R23 L9))
    (fun (e25 : Nat) (T26 : xT) (I27 : xI) (R28 : xR) => tle T6 T26 → xtag T26 e25 = 14 → 
    wx_X0_refused X o (some e25) T26 I27 R28 L9 (fun (r32 : Int) (I33 : xI) => 
    Q r32 T26 I33 R28 L9)))
theorem hx_X0_read : yX0_read.cls = RX0 ∧ yX0_read.cls ≠ "java/lang/invoke/MethodHandle" ∧ yX0_read.cls ≠ "java/lang/invoke/VarHandle" ∧ (parseMethodDescriptor yX0_read.desc).map (fun d => d.parameters.length) = some 2 := by decide +kernel
set_option maxHeartbeats 4000000 in
theorem tx_X0_read (X : XT) {o : Nat} {x1 : Int} {x2 : Int} {T : xT} {I : xI} {R : xR} {L : xL} {Q : Int → xT → xI → xR → xL → Prop} (hw : wx_X0_read X o x1 x2 T I R L Q) : CtW X yX0_read cX0_read 5 (some .int) [(8, 22, 23, 55)] (rmX 7 164 1432 156) [aR (some o), aI x1, aI x2] T I R L (PXiTIRL T I R L Q) := by
  refine CtW.intro (by decide) (Nat.le_of_ble_eq_true rfl) (fun E hE hR hH hN => ?_)
  have hRm := hR.rm
  have hE : OkX E X RX0 cX0_read 5 (some .int) := hE
  have hE1 := hE.1
  show GX E X T I R L 0 0 0 [some (aR (some o)), some (aI x1), some (aI x2), none, none] []
  unfold wx_X0_read at hw
  intro hok
  refine g_aldn0 hE1 dX0_read_0 ?_
  obtain ⟨ht1, hw⟩ := hw
  refine gx_getr hE in_X0 (t := 1) rfl (by decide) 0 0 rfl (by decide) rfl (by decide) rfl q353 (Or.inl rfl) ht1 dX0_read_1 ?_ hok
  intro hok
  obtain ⟨b2, hb3, hw⟩ := hw
  rw [hb3]
  obtain ⟨ht4, hw⟩ := hw
  refine gx_callV hE hRm (As := []) ht4 (by decide) (by decide) rfl hx_X1_copy (tx_X1_copy X hw) (lw_V q395 q396 q397 q95 q398) ⟨by decide, by decide⟩ ⟨(by decide), (by decide)⟩ rfl (Nat.le_of_ble_eq_true rfl) dX0_read_4 rfl (fun r9 T6 I7 R8 L9 hΦ => ?_) hok
  obtain ⟨r5, rfl, hl10, hw⟩ := hΦ
  have hw := hw hl10
  show GX E X T6 I7 R8 L9 160 1400 7 [some (aR (some o)), some (aI x1), some (aI x2), none, none] [aR r5]
  intro hok
  refine g_astn3 hE1 dX0_read_7 (by decide) rfl ?_
  refine g_aldn0 hE1 dX0_read_8 ?_
  refine g_aldn3 hE1 dX0_read_9 ?_
  refine g_aldn0 hE1 dX0_read_10 ?_
  have ht11 := hl10.tag ht1 (by decide)
  refine gx_getr hE in_X0 (t := 1) rfl (by decide) 0 0 rfl (by decide) rfl (by decide) rfl q353 (Or.inl rfl) ht11 dX0_read_11 ?_ hok
  intro hok
  refine g_ildn1 hE1 dX0_read_14 ?_
  refine g_ildn2 hE1 dX0_read_15 ?_
  obtain ⟨b12, hb13, hw⟩ := hw
  rw [hb13]
  obtain ⟨ht14, hw⟩ := hw
  refine gy_callV hE hRm (As := [aI x1, aI x2]) ht14 (by decide) (by decide) rfl hx_X1_readsPage (tx_X1_readsPage X hw) (lw_V q1317 q1318 q1319 q95 q1320) ⟨by decide, by decide⟩ ⟨(by decide), (by decide)⟩ rfl (Nat.le_of_ble_eq_true rfl) dX0_read_16 rfl (fun r9 T16 I17 R18 Lz hΦ => ?_) (fun Ec q9 T26 I27 R28 Lz hΦ => ?_) hok
  · obtain ⟨r15, rfl, rfl, hl19, hw⟩ := hΦ
    have hw := hw hl19
    show GX E X T16 I17 R18 L9 164 1432 19 [some (aR (some o)), some (aI x1), some (aI x2), some (aR r5), none] [aI r15, aR r5, aR (some o)]
    intro hok
    have ht20 := (hl10.tr hl19).tag ht1 (by decide)
    refine gx_callV hE hRm (As := [aR r5, aI r15]) ht20 (by decide) (by decide) rfl hx_X0_changed (tx_X0_changed X hw) (lw_V q1163 q1165 qs16 q94 q1166) ⟨by decide, by decide⟩ ⟨(by decide), (by decide)⟩ rfl (Nat.le_of_ble_eq_true rfl) dX0_read_19 rfl (fun r9 Tz I22 R23 Lz hΦ => ?_) hok
    obtain ⟨r21, rfl, rfl, rfl, hw⟩ := hΦ
    show GX E X T16 I22 R23 L9 164 1432 22 [some (aR (some o)), some (aI x1), some (aI x2), some (aR r5), none] [aI r21]
    intro hok
    exact gx_iret hE hR dX0_read_22 (by decide) (by decide) rfl ⟨_, rfl, (hl10.tr hl19), hw⟩ hok
  · have hq9 : ∃ q8, q8 = q9 := ⟨_, rfl⟩
    obtain ⟨e25, rfl⟩ := hq9
    obtain ⟨rfl, rfl, hl29, ht30, hw⟩ := hΦ
    have hw := hw hl29 ht30
    refine gx_catch hE hH [] ⟨8, 22, 23, 55⟩ [] rfl (fun _ h9 => nomatch h9) (by decide) (by decide) q388 q1106 ?_
    show GX E X T26 I27 R28 L9 164 1432 23 [some (aR (some o)), some (aI x1), some (aI x2), some (aR r5), none] [aR (some e25)]
    intro hok
    refine g_ast4 hE1 dX0_read_23 (by decide) rfl ?_
    refine g_aldn0 hE1 dX0_read_25 ?_
    refine g_ald4 hE1 dX0_read_26 ?_
    have ht31 := (hl10.tr hl29).tag ht1 (by decide)
    refine gx_callV hE hRm (As := [aR (some e25)]) ht31 (by decide) (by decide) rfl hx_X0_refused (tx_X0_refused X hw) (lw_V q1204 q1206 qs19 q94 q1207) ⟨by decide, by decide⟩ ⟨(by decide), (by decide)⟩ rfl (Nat.le_of_ble_eq_true rfl) dX0_read_28 rfl (fun r9 Tz I33 Rz Lz hΦ => ?_) hok
    obtain ⟨r32, rfl, rfl, rfl, rfl, hw⟩ := hΦ
    show GX E X T26 I33 R28 L9 164 1432 31 [some (aR (some o)), some (aI x1), some (aI x2), some (aR r5), some (aR (some e25))] [aI r32]
    intro hok
    exact gx_iret hE hR dX0_read_31 (by decide) (by decide) rfl ⟨_, rfl, (hl10.tr hl29), hw⟩ hok

/-- WhalingLogs$Archive.isEntry(II)Z -/
def wx_X1_isEntry (X : XT) (o : Nat) (x1 : Int) (x2 : Int) (T : xT) (I : xI) (R : xR) (L : xL) (Q : Int → Prop) : Prop :=
  xtag T o = 2 ∧ wx_X1_isPage X o x1 T I R L (fun (r2 : Int) => 
  jn1 (fun (y0_40 : Int) => 
      bl y0_40 ∧ Q y0_40)
    (fun (J_40 : Int → Prop) =>
    jn0 (
        J_40 0)
      (fun (J_39 : Prop) =>
      cEq r2 0
        (
        J_39)
        (
        ∃ b5 : Nat, R o 1 = some b5 ∧ xtag T b5 = 4 ∧ wx_J4_get X b5 x1 T I R L (fun (r8 : Option Nat) => 
        ∃ b10 : Nat, r8 = some b10 ∧ xtag T b10 = 10 ∧
        ∃ b13 : Nat, R b10 1 = some b13 ∧ xtag T b13 = 11 ∧ wx_J24_size X b13 T I R L (fun (r16 : Int) => 
        wx_X0_isIn X x2 0 (r16 - 1) T I R L (fun (r18 : Int) => 
        cEq r18 0
          (
          J_39)
          (
          J_40 1))))))))
theorem hx_X1_isEntry : yX1_isEntry.cls = RX1 ∧ yX1_isEntry.cls ≠ "java/lang/invoke/MethodHandle" ∧ yX1_isEntry.cls ≠ "java/lang/invoke/VarHandle" ∧ (parseMethodDescriptor yX1_isEntry.desc).map (fun d => d.parameters.length) = some 2 := by decide +kernel
set_option maxHeartbeats 4000000 in
theorem tx_X1_isEntry (X : XT) {o : Nat} {x1 : Int} {x2 : Int} {T : xT} {I : xI} {R : xR} {L : xL} {Q : Int → Prop} (hw : wx_X1_isEntry X o x1 x2 T I R L Q) : CtX X yX1_isEntry cX1_isEntry 3 (some .boolean) (rmX 3 0 0 63) [aR (some o), aI x1, aI x2] T I R L (PXi T I R L Q) := by
  refine CtX.intro (by decide) (Nat.le_of_ble_eq_true rfl) (fun E hE hR hN => ?_)
  have hRm := hR.rm
  have hE : OkX E X RX1 cX1_isEntry 3 (some .boolean) := hE
  have hE1 := hE.1
  show GX E X T I R L 0 0 0 [some (aR (some o)), some (aI x1), some (aI x2)] []
  unfold wx_X1_isEntry at hw
  intro hok
  refine g_aldn0 hE1 dX1_isEntry_0 ?_
  refine g_ildn1 hE1 dX1_isEntry_1 ?_
  obtain ⟨ht1, hw⟩ := hw
  refine gx_callV hE hRm (As := [aI x1]) ht1 (by decide) (by decide) rfl hx_X1_isPage (tx_X1_isPage X hw) (lw_V q1264 q1265 q1266 q95 q1267) ⟨by decide, by decide⟩ ⟨(by decide), (by decide)⟩ rfl (Nat.le_of_ble_eq_true rfl) dX1_isEntry_2 rfl (fun r9 Tz Iz Rz Lz hΦ => ?_) hok
  obtain ⟨r2, rfl, rfl, rfl, rfl, rfl, hw⟩ := hΦ
  show GX E X T I R L 0 0 5 [some (aR (some o)), some (aI x1), some (aI x2)] [aI r2]
  intro hok
  refine jn1_walk (fun (y0_40 : Int) => GX E X T I R L 0 0 40 [some (aR (some o)), some (aI x1), some (aI x2)] [aI y0_40]) hw (fun y0_40 hw => ?_) (fun J_40 hj_40 hw => ?_)
  · intro hok
    obtain ⟨h4, hw⟩ := hw
    exact gx_iret hE hR dX1_isEntry_40 (by decide) (by decide) (narrow_bl h4) ⟨_, rfl, rfl, rfl, rfl, rfl, hw⟩ hok
  · skip
    refine jn0_walk (GX E X T I R L 0 0 39 [some (aR (some o)), some (aI x1), some (aI x2)] []) hw (fun  hw => ?_) (fun J_39 hj_39 hw => ?_)
    · intro hok
      refine g_iconst hE1 dX1_isEntry_39 ?_
      exact hj_40 _ hw hok
    · skip
      obtain ⟨h24, h25, hT26, hN27⟩ := hw
      refine g_if_eq hE1 (tgt := 39) dX1_isEntry_5 (by decide) h24 (fun q => ?_) (fun q => ?_)
      · have hw := hT26 q
        exact hj_39  hw hok
      · have hw := hN27 q
        refine g_ildn2 hE1 dX1_isEntry_8 ?_
        refine g_iconst hE1 dX1_isEntry_9 ?_
        refine g_aldn0 hE1 dX1_isEntry_10 ?_
        refine gx_getr hE in_X1 (t := 2) rfl (by decide) 1 1 rfl (by decide) rfl (by decide) rfl q223 (Or.inl rfl) ht1 dX1_isEntry_11 ?_ hok
        intro hok
        refine g_ildn1 hE1 dX1_isEntry_14 ?_
        obtain ⟨b5, hb6, hw⟩ := hw
        rw [hb6]
        obtain ⟨ht7, hw⟩ := hw
        refine gx_callV hE hRm (As := [aI x1]) ht7 (by decide) (by decide) rfl hx_J4_get (tx_J4_get X hw) (lw_V q1273 q596 q2595 q100 q597) ⟨by decide, by decide⟩ ⟨(by decide), (by decide)⟩ rfl (Nat.le_of_ble_eq_true rfl) dX1_isEntry_15 rfl (fun r9 Tz Iz Rz Lz hΦ => ?_) hok
        obtain ⟨r8, rfl, rfl, rfl, rfl, rfl, hw⟩ := hΦ
        show GX E X T I R L 0 0 18 [some (aR (some o)), some (aI x1), some (aI x2)] [aR r8, aI 0, aI x2]
        intro hok
        obtain ⟨b10, hb11, hw⟩ := hw
        rw [hb11]
        obtain ⟨ht12, hw⟩ := hw
        refine gx_castS hE ht12 (by decide) (by decide) rfl q933 dX1_isEntry_18 ?_ hok
        intro hok
        refine gx_getrN hE in_X5 (t := 10) rfl (by decide) 1 1 rfl (by decide) rfl (by decide) rfl q966 (Or.inl rfl) ht12 dX1_isEntry_21 ?_ hok
        intro hok
        obtain ⟨b13, hb14, hw⟩ := hw
        rw [hb14]
        obtain ⟨ht15, hw⟩ := hw
        refine gx_callV hE hRm (As := []) ht15 (by decide) (by decide) rfl hx_J24_size (tx_J24_size X hw) (lw_V q1274 q538 q2592 q126 q539) ⟨by decide, by decide⟩ ⟨(by decide), (by decide)⟩ rfl (Nat.le_of_ble_eq_true rfl) dX1_isEntry_24 rfl (fun r9 Tz Iz Rz Lz hΦ => ?_) hok
        obtain ⟨r16, rfl, rfl, rfl, rfl, rfl, hw⟩ := hΦ
        show GX E X T I R L 0 0 27 [some (aR (some o)), some (aI x1), some (aI x2)] [aI r16, aI 0, aI x2]
        intro hok
        refine g_iconst hE1 dX1_isEntry_27 ?_
        refine g_isub hE1 dX1_isEntry_28 ?_
        refine gx_callSN hE hRm (As := [aI x2, aI 0, aI (r16 - 1)]) hx_X0_isIn (tx_X0_isIn X hw) (lw_meth q394) q1268 q94 q393 ⟨by decide, by decide⟩ ⟨(by decide), (by decide)⟩ rfl (Nat.le_of_ble_eq_true rfl) dX1_isEntry_29 rfl (fun r9 Tz Iz Rz Lz hΦ => ?_) hok
        obtain ⟨r18, rfl, rfl, rfl, rfl, rfl, hw⟩ := hΦ
        show GX E X T I R L 0 0 32 [some (aR (some o)), some (aI x1), some (aI x2)] [aI r18]
        intro hok
        obtain ⟨h20, h21, hT22, hN23⟩ := hw
        refine g_if_eq hE1 (tgt := 39) dX1_isEntry_32 (by decide) h20 (fun q => ?_) (fun q => ?_)
        · have hw := hT22 q
          exact hj_39  hw hok
        · have hw := hN23 q
          refine g_iconst hE1 dX1_isEntry_35 ?_
          refine g_goto hE1 (tgt := 40) dX1_isEntry_36 (by decide) ?_
          exact hj_40 _ hw hok

/-- WhalingLogs$Archive.many(I)I -/
def wx_X1_many (X : XT) (o : Nat) (x1 : Int) (T : xT) (I : xI) (R : xR) (L : xL) (Q : Int → xT → xI → xR → Prop) : Prop :=
  xtag T o = 2 ∧
  ∃ b2 : Nat, R o 1 = some b2 ∧ xtag T b2 = 4 ∧ wx_J3_iterator_J4 X b2 T I R L (fun (r5 : Option Nat) (T6 : xT) (I7 : xI) (R8 : xR) => tle T T6 → 
  lq3 (fun (x2_10 : Int) (I_10 : xI) (R_10 : xR) (K_10 : Int → xI → xR → Prop) =>
    ∃ b10 : Nat, r5 = some b10 ∧ xtag T6 b10 = 9 ∧ wx_J15_hasNext X b10 T6 I_10 R_10 L (fun (r13 : Int) => 
    cEq r13 0
      (
      Q x2_10 T6 I_10 R_10)
      (
      wx_J15_next X b10 T6 I_10 R_10 L (fun (r15 : Option Nat) (I16 : xI) (R17 : xR) => 
      ∃ b19 : Nat, r15 = some b19 ∧ xtag T6 b19 = 10 ∧
      wx_X5_many X b19 x1 T6 I16 R17 L (fun (r22 : Int) => 
      K_10 (x2_10 + r22) I16 R17))))) 0 I7 R8)
theorem hx_X1_many : yX1_many.cls = RX1 ∧ yX1_many.cls ≠ "java/lang/invoke/MethodHandle" ∧ yX1_many.cls ≠ "java/lang/invoke/VarHandle" ∧ (parseMethodDescriptor yX1_many.desc).map (fun d => d.parameters.length) = some 1 := by decide +kernel
set_option maxHeartbeats 4000000 in
theorem tx_X1_many (X : XT) {o : Nat} {x1 : Int} {T : xT} {I : xI} {R : xR} {L : xL} {Q : Int → xT → xI → xR → Prop} (hw : wx_X1_many X o x1 T I R L Q) : CtX X yX1_many cX1_many 4 (some .int) (rmX 5 1 5 106) [aR (some o), aI x1] T I R L (PXiTIR T I R L Q) := by
  refine CtX.intro (by decide) (Nat.le_of_ble_eq_true rfl) (fun E hE hR hN => ?_)
  have hRm := hR.rm
  have hE : OkX E X RX1 cX1_many 4 (some .int) := hE
  have hE1 := hE.1
  show GX E X T I R L 0 0 0 [some (aR (some o)), some (aI x1), none, none] []
  unfold wx_X1_many at hw
  intro hok
  refine g_iconst hE1 dX1_many_0 ?_
  refine g_istn2 hE1 dX1_many_1 (by decide) rfl ?_
  refine g_aldn0 hE1 dX1_many_2 ?_
  obtain ⟨ht1, hw⟩ := hw
  refine gx_getr hE in_X1 (t := 2) rfl (by decide) 1 1 rfl (by decide) rfl (by decide) rfl q223 (Or.inl rfl) ht1 dX1_many_3 ?_ hok
  intro hok
  obtain ⟨b2, hb3, hw⟩ := hw
  rw [hb3]
  obtain ⟨ht4, hw⟩ := hw
  refine gx_callU hE hRm (na := 0) (As := []) ht4 (by decide) (by decide) rfl (owner := "java/util/AbstractSequentialList") (x := ⟨"java/util/LinkedList", "iterator", "()Ljava/util/Iterator;"⟩) (by decide +kernel) (tx_J3_iterator_J4 X hw) (lw_U q436 q437 q439 q440 q99 q441) rfl ⟨by decide, by decide⟩ ⟨(by decide), (by decide)⟩ rfl (Nat.le_of_ble_eq_true rfl) dX1_many_6 rfl (fun r9 T6 I7 R8 Lz hΦ => ?_) hok
  obtain ⟨r5, rfl, rfl, hl9, hw⟩ := hΦ
  have hw := hw hl9
  show GX E X T6 I7 R8 L 1 5 9 [some (aR (some o)), some (aI x1), some (aI 0), none] [aR r5]
  intro hok
  refine g_astn3 hE1 dX1_many_9 (by decide) rfl ?_
  refine lq3_walk (fun (x2_10 : Int) (I_10 : xI) (R_10 : xR) => GX E X T6 I_10 R_10 L 1 5 10 [some (aR (some o)), some (aI x1), some (aI x2_10), some (aR r5)] []) (fun K_10 hk_10 x2_10 I_10 R_10 hw => ?_) _ _ _ hw hok
  intro hok
  refine g_aldn3 hE1 dX1_many_10 ?_
  obtain ⟨b10, hb11, hw⟩ := hw
  rw [hb11]
  obtain ⟨ht12, hw⟩ := hw
  refine gx_callF hE hRm (na := 0) (As := []) ht12 (by decide) (by decide) rfl (x := ⟨"java/util/Iterator", "hasNext", "()Z"⟩) (by unfold fwL; simp; decide) (by decide +kernel) (tx_J15_hasNext X hw) (lw_F q525 q560 q562 q116 q564) ⟨by decide, by decide⟩ ⟨(by decide), (by decide)⟩ rfl (Nat.le_of_ble_eq_true rfl) dX1_many_11 rfl (fun r9 Tz Iz Rz Lz hΦ => ?_) hok
  obtain ⟨r13, rfl, rfl, rfl, rfl, rfl, hw⟩ := hΦ
  show GX E X T6 I_10 R_10 L 1 5 16 [some (aR (some o)), some (aI x1), some (aI x2_10), some (aR (some b10))] [aI r13]
  intro hok
  obtain ⟨h24, h25, hT26, hN27⟩ := hw
  refine g_if_eq hE1 (tgt := 38) dX1_many_16 (by decide) h24 (fun q => ?_) (fun q => ?_)
  · have hw := hT26 q
    refine g_ildn2 hE1 dX1_many_38 ?_
    exact gx_iret hE hR dX1_many_39 (by decide) (by decide) rfl ⟨_, rfl, rfl, hl9, hw⟩ hok
  · have hw := hN27 q
    refine g_ildn2 hE1 dX1_many_19 ?_
    refine g_aldn3 hE1 dX1_many_20 ?_
    refine gx_callF hE hRm (na := 0) (As := []) ht12 (by decide) (by decide) rfl (x := ⟨"java/util/Iterator", "next", "()Ljava/lang/Object;"⟩) (by unfold fwL; simp; decide) (by decide +kernel) (tx_J15_next X hw) (lw_F q566 q927 q929 q116 q931) ⟨by decide, by decide⟩ ⟨(by decide), (by decide)⟩ rfl (Nat.le_of_ble_eq_true rfl) dX1_many_21 rfl (fun r9 Tz I16 R17 Lz hΦ => ?_) hok
    obtain ⟨r15, rfl, rfl, rfl, hw⟩ := hΦ
    show GX E X T6 I16 R17 L 1 5 26 [some (aR (some o)), some (aI x1), some (aI x2_10), some (aR (some b10))] [aR r15, aI x2_10]
    intro hok
    obtain ⟨b19, hb20, hw⟩ := hw
    rw [hb20]
    obtain ⟨ht21, hw⟩ := hw
    refine gx_castS hE ht21 (by decide) (by decide) rfl q933 dX1_many_26 ?_ hok
    intro hok
    refine g_ildn1 hE1 dX1_many_29 ?_
    refine gx_callV hE hRm (As := [aI x1]) ht21 (by decide) (by decide) rfl hx_X5_many (tx_X5_many X hw) (lw_V q1328 q1329 q1330 q125 q1331) ⟨by decide, by decide⟩ ⟨(by decide), (by decide)⟩ rfl (Nat.le_of_ble_eq_true rfl) dX1_many_30 rfl (fun r9 Tz Iz Rz Lz hΦ => ?_) hok
    obtain ⟨r22, rfl, rfl, rfl, rfl, rfl, hw⟩ := hΦ
    show GX E X T6 I16 R17 L 1 5 33 [some (aR (some o)), some (aI x1), some (aI x2_10), some (aR (some b10))] [aI r22, aI x2_10]
    intro hok
    refine g_iadd hE1 dX1_many_33 ?_
    refine g_istn2 hE1 dX1_many_34 (by decide) rfl ?_
    refine g_goto hE1 (tgt := 10) dX1_many_35 (by decide) ?_
    simpa only [hb3, hb11, hb20] using hk_10 _ _ _ hw hok

/-- WhalingLogs$Archive.strikes(II)I -/
def wx_X1_strikes (X : XT) (o : Nat) (x1 : Int) (x2 : Int) (T : xT) (I : xI) (R : xR) (L : xL) (Q : Int → xT → xI → xR → Prop) (Y : Nat → xT → xI → xR → Prop) : Prop :=
  xtag T o = 2 ∧ wx_X1_checkPage X o x1 T I R L (fun (T2 : xT) (I3 : xI) (R4 : xR) => tle T T2 → 
    wx_X1_isEntry X o x1 x2 T2 I3 R4 L (fun (r7 : Int) => 
    jn1 (fun (y0_19 : Int) => 
        wx_X0_refuse X y0_19 1 x2 T2 I3 R4 L (fun (T9 : xT) (I10 : xI) (R11 : xR) => tle T2 T9 → 
          ∃ b14 : Nat, R11 o 1 = some b14 ∧ xtag T9 b14 = 4 ∧ wx_J4_get X b14 x1 T9 I10 R11 L (fun (r17 : Option Nat) => 
          ∃ b19 : Nat, r17 = some b19 ∧ xtag T9 b19 = 10 ∧
          ∃ b22 : Nat, R11 b19 1 = some b22 ∧ xtag T9 b22 = 11 ∧ wx_J24_get X b22 x2 T9 I10 R11 L (fun (r25 : Option Nat) => 
          ∃ b27 : Nat, r25 = some b27 ∧ xtag T9 b27 = 12 ∧
          jn1 (fun (y0_59 : Int) => 
              wx_X0_refuse X y0_59 5 (I10 b27 3) T9 I10 R11 L (fun (T30 : xT) (I31 : xI) (R32 : xR) => tle T9 T30 → 
                ∀ I35 : xI, I35 = uI I31 b27 3 2 →
                wx_X1_many X o 1 T30 I35 R32 L (fun (r37 : Int) (T38 : xT) (I39 : xI) (R40 : xR) => tle T30 T38 → 
                Q r37 T38 I39 R40))
                (fun (e42 : Nat) (T43 : xT) (I44 : xI) (R45 : xR) => tle T9 T43 → xtag T43 e42 = 14 → 
                Y e42 T43 I44 R45))
            (fun (J_59 : Int → Prop) =>
            cEq (I10 b27 3) 1
              (
              J_59 0)
              (
              J_59 1)))))
          (fun (e52 : Nat) (T53 : xT) (I54 : xI) (R55 : xR) => tle T2 T53 → xtag T53 e52 = 14 → 
          Y e52 T53 I54 R55))
      (fun (J_19 : Int → Prop) =>
      cEq r7 0
        (
        J_19 1)
        (
        J_19 0))))
    (fun (e62 : Nat) (T63 : xT) (I64 : xI) (R65 : xR) => tle T T63 → xtag T63 e62 = 14 → 
    Y e62 T63 I64 R65)
theorem hx_X1_strikes : yX1_strikes.cls = RX1 ∧ yX1_strikes.cls ≠ "java/lang/invoke/MethodHandle" ∧ yX1_strikes.cls ≠ "java/lang/invoke/VarHandle" ∧ (parseMethodDescriptor yX1_strikes.desc).map (fun d => d.parameters.length) = some 2 := by decide +kernel
set_option maxHeartbeats 4000000 in
theorem tx_X1_strikes (X : XT) {o : Nat} {x1 : Int} {x2 : Int} {T : xT} {I : xI} {R : xR} {L : xL} {Q : Int → xT → xI → xR → Prop} {Y : Nat → xT → xI → xR → Prop} (hw : wx_X1_strikes X o x1 x2 T I R L Q Y) : CtY X yX1_strikes cX1_strikes 4 (some .int) (rmX 6 4 29 133) [aR (some o), aI x1, aI x2] T I R L (PXiTIR T I R L Q) (PYTIR T I R L "WhalingLogs$Refused" 14 Y) := by
  refine CtY.intro (by decide) (Nat.le_of_ble_eq_true rfl) (fun E hE hR hY hN => ?_)
  have hRm := hR.rm
  have hE : OkX E X RX1 cX1_strikes 4 (some .int) := hE
  have hE1 := hE.1
  show GX E X T I R L 0 0 0 [some (aR (some o)), some (aI x1), some (aI x2), none] []
  unfold wx_X1_strikes at hw
  intro hok
  refine g_aldn0 hE1 dX1_strikes_0 ?_
  refine g_ildn1 hE1 dX1_strikes_1 ?_
  obtain ⟨ht1, hw⟩ := hw
  refine gy_callV hE hRm (As := [aI x1]) ht1 (by decide) (by decide) rfl hx_X1_checkPage (tx_X1_checkPage X hw) (lw_V q1260 q1262 qs21 q95 q1263) ⟨by decide, by decide⟩ ⟨(by decide), (by decide)⟩ rfl (Nat.le_of_ble_eq_true rfl) dX1_strikes_2 rfl (fun r9 T2 I3 R4 Lz hΦ => ?_) (fun Ec q9 T63 I64 R65 Lz hΦ => ?_) hok
  · obtain ⟨rfl, rfl, hl5, hw⟩ := hΦ
    have hw := hw hl5
    show GX E X T2 I3 R4 L 1 8 5 [some (aR (some o)), some (aI x1), some (aI x2), none] []
    intro hok
    refine g_aldn0 hE1 dX1_strikes_5 ?_
    refine g_ildn1 hE1 dX1_strikes_6 ?_
    refine g_ildn2 hE1 dX1_strikes_7 ?_
    have ht6 := hl5.tag ht1 (by decide)
    refine gx_callV hE hRm (As := [aI x1, aI x2]) ht6 (by decide) (by decide) rfl hx_X1_isEntry (tx_X1_isEntry X hw) (lw_V q1350 q1351 q1352 q95 q1353) ⟨by decide, by decide⟩ ⟨(by decide), (by decide)⟩ rfl (Nat.le_of_ble_eq_true rfl) dX1_strikes_8 rfl (fun r9 Tz Iz Rz Lz hΦ => ?_) hok
    obtain ⟨r7, rfl, rfl, rfl, rfl, rfl, hw⟩ := hΦ
    show GX E X T2 I3 R4 L 1 8 11 [some (aR (some o)), some (aI x1), some (aI x2), none] [aI r7]
    intro hok
    refine jn1_walk (fun (y0_19 : Int) => GX E X T2 I3 R4 L 1 8 19 [some (aR (some o)), some (aI x1), some (aI x2), none] [aI y0_19]) hw (fun y0_19 hw => ?_) (fun J_19 hj_19 hw => ?_)
    · intro hok
      refine g_iconst hE1 dX1_strikes_19 ?_
      refine g_ildn2 hE1 dX1_strikes_20 ?_
      refine gy_callSN hE hRm (As := [aI y0_19, aI 1, aI x2]) hx_X0_refuse (tx_X0_refuse X hw) (lw_meth q1104) q1102 q94 q1103 ⟨by decide, by decide⟩ ⟨(by decide), (by decide)⟩ rfl (Nat.le_of_ble_eq_true rfl) dX1_strikes_21 rfl (fun r9 T9 I10 R11 Lz hΦ => ?_) (fun Ec q9 T53 I54 R55 Lz hΦ => ?_) hok
      · obtain ⟨rfl, rfl, hl12, hw⟩ := hΦ
        have hw := hw hl12
        show GX E X T9 I10 R11 L 2 16 24 [some (aR (some o)), some (aI x1), some (aI x2), none] []
        intro hok
        refine g_aldn0 hE1 dX1_strikes_24 ?_
        have ht13 := (hl5.tr hl12).tag ht1 (by decide)
        refine gx_getr hE in_X1 (t := 2) rfl (by decide) 1 1 rfl (by decide) rfl (by decide) rfl q223 (Or.inl rfl) ht13 dX1_strikes_25 ?_ hok
        intro hok
        refine g_ildn1 hE1 dX1_strikes_28 ?_
        obtain ⟨b14, hb15, hw⟩ := hw
        rw [hb15]
        obtain ⟨ht16, hw⟩ := hw
        refine gx_callV hE hRm (As := [aI x1]) ht16 (by decide) (by decide) rfl hx_J4_get (tx_J4_get X hw) (lw_V q1273 q596 q2595 q100 q597) ⟨by decide, by decide⟩ ⟨(by decide), (by decide)⟩ rfl (Nat.le_of_ble_eq_true rfl) dX1_strikes_29 rfl (fun r9 Tz Iz Rz Lz hΦ => ?_) hok
        obtain ⟨r17, rfl, rfl, rfl, rfl, rfl, hw⟩ := hΦ
        show GX E X T9 I10 R11 L 2 16 32 [some (aR (some o)), some (aI x1), some (aI x2), none] [aR r17]
        intro hok
        obtain ⟨b19, hb20, hw⟩ := hw
        rw [hb20]
        obtain ⟨ht21, hw⟩ := hw
        refine gx_castS hE ht21 (by decide) (by decide) rfl q933 dX1_strikes_32 ?_ hok
        intro hok
        refine gx_getrN hE in_X5 (t := 10) rfl (by decide) 1 1 rfl (by decide) rfl (by decide) rfl q966 (Or.inl rfl) ht21 dX1_strikes_35 ?_ hok
        intro hok
        refine g_ildn2 hE1 dX1_strikes_38 ?_
        obtain ⟨b22, hb23, hw⟩ := hw
        rw [hb23]
        obtain ⟨ht24, hw⟩ := hw
        refine gx_callV hE hRm (As := [aI x2]) ht24 (by decide) (by decide) rfl hx_J24_get (tx_J24_get X hw) (lw_V q1354 q583 q2593 q126 q584) ⟨by decide, by decide⟩ ⟨(by decide), (by decide)⟩ rfl (Nat.le_of_ble_eq_true rfl) dX1_strikes_39 rfl (fun r9 Tz Iz Rz Lz hΦ => ?_) hok
        obtain ⟨r25, rfl, rfl, rfl, rfl, rfl, hw⟩ := hΦ
        show GX E X T9 I10 R11 L 2 16 42 [some (aR (some o)), some (aI x1), some (aI x2), none] [aR r25]
        intro hok
        obtain ⟨b27, hb28, hw⟩ := hw
        rw [hb28]
        obtain ⟨ht29, hw⟩ := hw
        refine gx_castS hE ht29 (by decide) (by decide) rfl q1275 dX1_strikes_42 ?_ hok
        intro hok
        refine g_astn3 hE1 dX1_strikes_45 (by decide) rfl ?_
        refine g_aldn3 hE1 dX1_strikes_46 ?_
        refine gx_getiN hE in_X6 (t := 12) rfl (by decide) 3 3 rfl (by decide) rfl (by decide) rfl q1003 (Or.inl rfl) ht29 dX1_strikes_47 ?_ hok
        intro hok
        refine g_iconst hE1 dX1_strikes_50 ?_
        refine jn1_walk (fun (y0_59 : Int) => GX E X T9 I10 R11 L 2 16 59 [some (aR (some o)), some (aI x1), some (aI x2), some (aR (some b27))] [aI y0_59]) hw (fun y0_59 hw => ?_) (fun J_59 hj_59 hw => ?_)
        · intro hok
          refine g_iconst hE1 dX1_strikes_59 ?_
          refine g_aldn3 hE1 dX1_strikes_60 ?_
          refine gx_getiN hE in_X6 (t := 12) rfl (by decide) 3 3 rfl (by decide) rfl (by decide) rfl q1003 (Or.inl rfl) ht29 dX1_strikes_61 ?_ hok
          intro hok
          refine gy_callSN hE hRm (As := [aI y0_59, aI 5, aI (I10 b27 3)]) hx_X0_refuse (tx_X0_refuse X hw) (lw_meth q1104) q1102 q94 q1103 ⟨by decide, by decide⟩ ⟨(by decide), (by decide)⟩ rfl (Nat.le_of_ble_eq_true rfl) dX1_strikes_64 rfl (fun r9 T30 I31 R32 Lz hΦ => ?_) (fun Ec q9 T43 I44 R45 Lz hΦ => ?_) hok
          · obtain ⟨rfl, rfl, hl33, hw⟩ := hΦ
            have hw := hw hl33
            show GX E X T30 I31 R32 L 3 24 67 [some (aR (some o)), some (aI x1), some (aI x2), some (aR (some b27))] []
            intro hok
            refine g_aldn3 hE1 dX1_strikes_67 ?_
            refine g_iconst hE1 dX1_strikes_68 ?_
            have ht34 := hl33.tag ht29 (by decide)
            refine gx_putiN hE in_X6 (t := 12) rfl (by decide) 3 3 rfl (by decide) rfl (by decide) (ty := tyX6 3) tyX6 tyX6_ok nmX6 rfl q1003 (Or.inl rfl) rfl (tyX6_ok 3 (by decide)) rfl rfl ht34 dX1_strikes_69 ?_ hok
            intro hok
            have hw := hw _ rfl
            generalize uI I31 b27 3 2 = I35 at hw hok ⊢
            refine g_aldn0 hE1 dX1_strikes_72 ?_
            refine g_iconst hE1 dX1_strikes_73 ?_
            have ht36 := ((hl5.tr hl12).tr hl33).tag ht1 (by decide)
            refine gx_callV hE hRm (As := [aI 1]) ht36 (by decide) (by decide) rfl hx_X1_many (tx_X1_many X hw) (lw_V q1355 q1356 q1357 q95 q1358) ⟨by decide, by decide⟩ ⟨(by decide), (by decide)⟩ rfl (Nat.le_of_ble_eq_true rfl) dX1_strikes_74 rfl (fun r9 T38 I39 R40 Lz hΦ => ?_) hok
            obtain ⟨r37, rfl, rfl, hl41, hw⟩ := hΦ
            have hw := hw hl41
            show GX E X T38 I39 R40 L 4 29 77 [some (aR (some o)), some (aI x1), some (aI x2), some (aR (some b27))] [aI r37]
            intro hok
            exact gx_iret hE hR dX1_strikes_77 (by decide) (by decide) rfl ⟨_, rfl, rfl, (((hl5.tr hl12).tr hl33).tr hl41), hw⟩ hok
          · have hq9 : ∃ q8, q8 = q9 := ⟨_, rfl⟩
            obtain ⟨e42, rfl⟩ := hq9
            obtain ⟨rfl, rfl, hl46, ht47, hw⟩ := hΦ
            have hw := hw hl46 ht47
            exact gx_out hE hY (by decide) (by decide) ⟨rfl, rfl, ((hl5.tr hl12).tr hl46), ht47, hw⟩
        · skip
          obtain ⟨h48, h49, hT50, hN51⟩ := hw
          refine g_icmp_eq hE1 (tgt := 58) dX1_strikes_51 (by decide) h48 h49 (fun q => ?_) (fun q => ?_)
          · have hw := hT50 q
            refine g_iconst hE1 dX1_strikes_58 ?_
            exact hj_59 _ hw hok
          · have hw := hN51 q
            refine g_iconst hE1 dX1_strikes_54 ?_
            refine g_goto hE1 (tgt := 59) dX1_strikes_55 (by decide) ?_
            exact hj_59 _ hw hok
      · have hq9 : ∃ q8, q8 = q9 := ⟨_, rfl⟩
        obtain ⟨e52, rfl⟩ := hq9
        obtain ⟨rfl, rfl, hl56, ht57, hw⟩ := hΦ
        have hw := hw hl56 ht57
        exact gx_out hE hY (by decide) (by decide) ⟨rfl, rfl, (hl5.tr hl56), ht57, hw⟩
    · skip
      obtain ⟨h58, h59, hT60, hN61⟩ := hw
      refine g_if_ne hE1 (tgt := 18) dX1_strikes_11 (by decide) h58 (fun q => ?_) (fun q => ?_)
      · have hw := hT60 q
        refine g_iconst hE1 dX1_strikes_14 ?_
        refine g_goto hE1 (tgt := 19) dX1_strikes_15 (by decide) ?_
        exact hj_19 _ hw hok
      · have hw := hN61 q
        refine g_iconst hE1 dX1_strikes_18 ?_
        exact hj_19 _ hw hok
  · have hq9 : ∃ q8, q8 = q9 := ⟨_, rfl⟩
    obtain ⟨e62, rfl⟩ := hq9
    obtain ⟨rfl, rfl, hl66, ht67, hw⟩ := hΦ
    have hw := hw hl66 ht67
    exact gx_out hE hY (by decide) (by decide) ⟨rfl, rfl, hl66, ht67, hw⟩

/-- WhalingLogs.strike(II)I -/
def wx_X0_strike (X : XT) (o : Nat) (x1 : Int) (x2 : Int) (T : xT) (I : xI) (R : xR) (L : xL) (Q : Int → xT → xI → xR → xL → Prop) : Prop :=
  xtag T o = 1 ∧
  ∃ b2 : Nat, R o 0 = some b2 ∧ xtag T b2 = 2 ∧ wx_X1_copy X b2 T I R L (fun (r5 : Option Nat) (T6 : xT) (I7 : xI) (R8 : xR) (L9 : xL) => tle T T6 → 
  ∃ b12 : Nat, R8 o 0 = some b12 ∧ xtag T6 b12 = 2 ∧ wx_X1_strikes X b12 x1 x2 T6 I7 R8 L9 (fun (r15 : Int) (T16 : xT) (I17 : xI) (R18 : xR) => tle T6 T16 → 
    wx_X0_changed X o r5 r15 T16 I17 R18 L9 (fun (r21 : Int) (I22 : xI) (R23 : xR) => 
    Q r21 T16 I22 R23 L9))
    (fun (e25 : Nat) (T26 : xT) (I27 : xI) (R28 : xR) => tle T6 T26 → xtag T26 e25 = 14 → 
    wx_X0_refused X o (some e25) T26 I27 R28 L9 (fun (r32 : Int) (I33 : xI) => 
    Q r32 T26 I33 R28 L9)))
theorem hx_X0_strike : yX0_strike.cls = RX0 ∧ yX0_strike.cls ≠ "java/lang/invoke/MethodHandle" ∧ yX0_strike.cls ≠ "java/lang/invoke/VarHandle" ∧ (parseMethodDescriptor yX0_strike.desc).map (fun d => d.parameters.length) = some 2 := by decide +kernel
set_option maxHeartbeats 4000000 in
theorem tx_X0_strike (X : XT) {o : Nat} {x1 : Int} {x2 : Int} {T : xT} {I : xI} {R : xR} {L : xL} {Q : Int → xT → xI → xR → xL → Prop} (hw : wx_X0_strike X o x1 x2 T I R L Q) : CtW X yX0_strike cX0_strike 5 (some .int) [(8, 22, 23, 55)] (rmX 7 164 1429 156) [aR (some o), aI x1, aI x2] T I R L (PXiTIRL T I R L Q) := by
  refine CtW.intro (by decide) (Nat.le_of_ble_eq_true rfl) (fun E hE hR hH hN => ?_)
  have hRm := hR.rm
  have hE : OkX E X RX0 cX0_strike 5 (some .int) := hE
  have hE1 := hE.1
  show GX E X T I R L 0 0 0 [some (aR (some o)), some (aI x1), some (aI x2), none, none] []
  unfold wx_X0_strike at hw
  intro hok
  refine g_aldn0 hE1 dX0_strike_0 ?_
  obtain ⟨ht1, hw⟩ := hw
  refine gx_getr hE in_X0 (t := 1) rfl (by decide) 0 0 rfl (by decide) rfl (by decide) rfl q353 (Or.inl rfl) ht1 dX0_strike_1 ?_ hok
  intro hok
  obtain ⟨b2, hb3, hw⟩ := hw
  rw [hb3]
  obtain ⟨ht4, hw⟩ := hw
  refine gx_callV hE hRm (As := []) ht4 (by decide) (by decide) rfl hx_X1_copy (tx_X1_copy X hw) (lw_V q395 q396 q397 q95 q398) ⟨by decide, by decide⟩ ⟨(by decide), (by decide)⟩ rfl (Nat.le_of_ble_eq_true rfl) dX0_strike_4 rfl (fun r9 T6 I7 R8 L9 hΦ => ?_) hok
  obtain ⟨r5, rfl, hl10, hw⟩ := hΦ
  have hw := hw hl10
  show GX E X T6 I7 R8 L9 160 1400 7 [some (aR (some o)), some (aI x1), some (aI x2), none, none] [aR r5]
  intro hok
  refine g_astn3 hE1 dX0_strike_7 (by decide) rfl ?_
  refine g_aldn0 hE1 dX0_strike_8 ?_
  refine g_aldn3 hE1 dX0_strike_9 ?_
  refine g_aldn0 hE1 dX0_strike_10 ?_
  have ht11 := hl10.tag ht1 (by decide)
  refine gx_getr hE in_X0 (t := 1) rfl (by decide) 0 0 rfl (by decide) rfl (by decide) rfl q353 (Or.inl rfl) ht11 dX0_strike_11 ?_ hok
  intro hok
  refine g_ildn1 hE1 dX0_strike_14 ?_
  refine g_ildn2 hE1 dX0_strike_15 ?_
  obtain ⟨b12, hb13, hw⟩ := hw
  rw [hb13]
  obtain ⟨ht14, hw⟩ := hw
  refine gy_callV hE hRm (As := [aI x1, aI x2]) ht14 (by decide) (by decide) rfl hx_X1_strikes (tx_X1_strikes X hw) (lw_V q1346 q1347 q1348 q95 q1349) ⟨by decide, by decide⟩ ⟨(by decide), (by decide)⟩ rfl (Nat.le_of_ble_eq_true rfl) dX0_strike_16 rfl (fun r9 T16 I17 R18 Lz hΦ => ?_) (fun Ec q9 T26 I27 R28 Lz hΦ => ?_) hok
  · obtain ⟨r15, rfl, rfl, hl19, hw⟩ := hΦ
    have hw := hw hl19
    show GX E X T16 I17 R18 L9 164 1429 19 [some (aR (some o)), some (aI x1), some (aI x2), some (aR r5), none] [aI r15, aR r5, aR (some o)]
    intro hok
    have ht20 := (hl10.tr hl19).tag ht1 (by decide)
    refine gx_callV hE hRm (As := [aR r5, aI r15]) ht20 (by decide) (by decide) rfl hx_X0_changed (tx_X0_changed X hw) (lw_V q1163 q1165 qs16 q94 q1166) ⟨by decide, by decide⟩ ⟨(by decide), (by decide)⟩ rfl (Nat.le_of_ble_eq_true rfl) dX0_strike_19 rfl (fun r9 Tz I22 R23 Lz hΦ => ?_) hok
    obtain ⟨r21, rfl, rfl, rfl, hw⟩ := hΦ
    show GX E X T16 I22 R23 L9 164 1429 22 [some (aR (some o)), some (aI x1), some (aI x2), some (aR r5), none] [aI r21]
    intro hok
    exact gx_iret hE hR dX0_strike_22 (by decide) (by decide) rfl ⟨_, rfl, (hl10.tr hl19), hw⟩ hok
  · have hq9 : ∃ q8, q8 = q9 := ⟨_, rfl⟩
    obtain ⟨e25, rfl⟩ := hq9
    obtain ⟨rfl, rfl, hl29, ht30, hw⟩ := hΦ
    have hw := hw hl29 ht30
    refine gx_catch hE hH [] ⟨8, 22, 23, 55⟩ [] rfl (fun _ h9 => nomatch h9) (by decide) (by decide) q388 q1106 ?_
    show GX E X T26 I27 R28 L9 164 1429 23 [some (aR (some o)), some (aI x1), some (aI x2), some (aR r5), none] [aR (some e25)]
    intro hok
    refine g_ast4 hE1 dX0_strike_23 (by decide) rfl ?_
    refine g_aldn0 hE1 dX0_strike_25 ?_
    refine g_ald4 hE1 dX0_strike_26 ?_
    have ht31 := (hl10.tr hl29).tag ht1 (by decide)
    refine gx_callV hE hRm (As := [aR (some e25)]) ht31 (by decide) (by decide) rfl hx_X0_refused (tx_X0_refused X hw) (lw_V q1204 q1206 qs19 q94 q1207) ⟨by decide, by decide⟩ ⟨(by decide), (by decide)⟩ rfl (Nat.le_of_ble_eq_true rfl) dX0_strike_28 rfl (fun r9 Tz I33 Rz Lz hΦ => ?_) hok
    obtain ⟨r32, rfl, rfl, rfl, rfl, hw⟩ := hΦ
    show GX E X T26 I33 R28 L9 164 1429 31 [some (aR (some o)), some (aI x1), some (aI x2), some (aR r5), some (aR (some e25))] [aI r32]
    intro hok
    exact gx_iret hE hR dX0_strike_31 (by decide) (by decide) rfl ⟨_, rfl, (hl10.tr hl29), hw⟩ hok

/-- WhalingLogs$Archive.weight(I)I -/
def wx_X1_weight (X : XT) (o : Nat) (x1 : Int) (T : xT) (I : xI) (R : xR) (L : xL) (Q : Int → Prop) : Prop :=
  xtag T o = 2 ∧
  ∃ b2 : Nat, R o 3 = some b2 ∧ xtag T b2 = 100 ∧ ib x1 (xlen T b2) ∧ xlen T b2 < 2147483648 ∧
  Q (10 - (I b2 x1))
theorem hx_X1_weight : yX1_weight.cls = RX1 ∧ yX1_weight.cls ≠ "java/lang/invoke/MethodHandle" ∧ yX1_weight.cls ≠ "java/lang/invoke/VarHandle" ∧ (parseMethodDescriptor yX1_weight.desc).map (fun d => d.parameters.length) = some 1 := by decide +kernel
set_option maxHeartbeats 4000000 in
theorem tx_X1_weight (X : XT) {o : Nat} {x1 : Int} {T : xT} {I : xI} {R : xR} {L : xL} {Q : Int → Prop} (hw : wx_X1_weight X o x1 T I R L Q) : CtX X yX1_weight cX1_weight 2 (some .int) (rmX 0 0 0 0) [aR (some o), aI x1] T I R L (PXi T I R L Q) := by
  refine CtX.intro (by decide) (Nat.le_of_ble_eq_true rfl) (fun E hE hR hN => ?_)
  have hRm := hR.rm
  have hE : OkX E X RX1 cX1_weight 2 (some .int) := hE
  have hE1 := hE.1
  show GX E X T I R L 0 0 0 [some (aR (some o)), some (aI x1)] []
  unfold wx_X1_weight at hw
  intro hok
  refine g_bipush hE1 dX1_weight_0 (by decide) ?_
  refine g_aldn0 hE1 dX1_weight_2 ?_
  obtain ⟨ht1, hw⟩ := hw
  refine gx_getr hE in_X1 (t := 2) rfl (by decide) 3 3 rfl (by decide) rfl (by decide) rfl q228 (Or.inl rfl) ht1 dX1_weight_3 ?_ hok
  intro hok
  refine g_ildn1 hE1 dX1_weight_6 ?_
  obtain ⟨b2, hb3, hw⟩ := hw
  rw [hb3]
  obtain ⟨ht4, hw⟩ := hw
  obtain ⟨h5, h6, hw⟩ := hw
  refine gx_iald hE ht4 h5 h6 dX1_weight_7 ?_ hok
  intro hok
  refine g_isub hE1 dX1_weight_8 ?_
  exact gx_iret hE hR dX1_weight_9 (by decide) (by decide) rfl ⟨_, rfl, rfl, rfl, rfl, rfl, hw⟩ hok

/-- WhalingLogs$Archive.blames(I)I -/
def wx_X1_blames (X : XT) (o : Nat) (x1 : Int) (T : xT) (I : xI) (R : xR) (L : xL) (Q : Int → xT → xI → xR → Prop) (Y : Nat → xT → xI → xR → Prop) : Prop :=
  wx_X0_isIn X x1 0 5 T I R L (fun (r1 : Int) => 
  jn1 (fun (y0_14 : Int) => 
      wx_X0_refuse X y0_14 1 x1 T I R L (fun (T3 : xT) (I4 : xI) (R5 : xR) => tle T T3 → 
        xtag T3 o = 2 ∧
        ∃ b8 : Nat, R5 o 3 = some b8 ∧ xtag T3 b8 = 100 ∧ ib x1 (xlen T3 b8) ∧ xlen T3 b8 < 2147483648 ∧
        jn1 (fun (y0_35 : Int) => 
            wx_X0_refuse X y0_35 7 x1 T3 I4 R5 L (fun (T13 : xT) (I14 : xI) (R15 : xR) => tle T3 T13 → 
              ∃ b18 : Nat, R15 o 3 = some b18 ∧ xtag T13 b18 = 100 ∧ ib x1 (xlen T13 b18) ∧ xlen T13 b18 < 2147483648 ∧
              ib x1 (xlen T13 b18) ∧ xlen T13 b18 < 2147483648 ∧ ∀ I25 : xI, I25 = uI I14 b18 x1 ((I14 b18 x1) + 1) →
              wx_X1_weight X o x1 T13 I25 R15 L (fun (r26 : Int) => 
              Q r26 T13 I25 R15))
              (fun (e28 : Nat) (T29 : xT) (I30 : xI) (R31 : xR) => tle T3 T29 → xtag T29 e28 = 14 → 
              Y e28 T29 I30 R31))
          (fun (J_35 : Int → Prop) =>
          cEq (I4 b8 x1) 9
            (
            J_35 1)
            (
            J_35 0)))
        (fun (e38 : Nat) (T39 : xT) (I40 : xI) (R41 : xR) => tle T T39 → xtag T39 e38 = 14 → 
        Y e38 T39 I40 R41))
    (fun (J_14 : Int → Prop) =>
    cEq r1 0
      (
      J_14 1)
      (
      J_14 0)))
theorem hx_X1_blames : yX1_blames.cls = RX1 ∧ yX1_blames.cls ≠ "java/lang/invoke/MethodHandle" ∧ yX1_blames.cls ≠ "java/lang/invoke/VarHandle" ∧ (parseMethodDescriptor yX1_blames.desc).map (fun d => d.parameters.length) = some 1 := by decide +kernel
set_option maxHeartbeats 4000000 in
theorem tx_X1_blames (X : XT) {o : Nat} {x1 : Int} {T : xT} {I : xI} {R : xR} {L : xL} {Q : Int → xT → xI → xR → Prop} {Y : Nat → xT → xI → xR → Prop} (hw : wx_X1_blames X o x1 T I R L Q Y) : CtY X yX1_blames cX1_blames 2 (some .int) (rmX 5 2 16 112) [aR (some o), aI x1] T I R L (PXiTIR T I R L Q) (PYTIR T I R L "WhalingLogs$Refused" 14 Y) := by
  refine CtY.intro (by decide) (Nat.le_of_ble_eq_true rfl) (fun E hE hR hY hN => ?_)
  have hRm := hR.rm
  have hE : OkX E X RX1 cX1_blames 2 (some .int) := hE
  have hE1 := hE.1
  show GX E X T I R L 0 0 0 [some (aR (some o)), some (aI x1)] []
  unfold wx_X1_blames at hw
  intro hok
  refine g_ildn1 hE1 dX1_blames_0 ?_
  refine g_iconst hE1 dX1_blames_1 ?_
  refine g_iconst hE1 dX1_blames_2 ?_
  refine gx_callSN hE hRm (As := [aI x1, aI 0, aI 5]) hx_X0_isIn (tx_X0_isIn X hw) (lw_meth q394) q1268 q94 q393 ⟨by decide, by decide⟩ ⟨(by decide), (by decide)⟩ rfl (Nat.le_of_ble_eq_true rfl) dX1_blames_3 rfl (fun r9 Tz Iz Rz Lz hΦ => ?_) hok
  obtain ⟨r1, rfl, rfl, rfl, rfl, rfl, hw⟩ := hΦ
  show GX E X T I R L 0 0 6 [some (aR (some o)), some (aI x1)] [aI r1]
  intro hok
  refine jn1_walk (fun (y0_14 : Int) => GX E X T I R L 0 0 14 [some (aR (some o)), some (aI x1)] [aI y0_14]) hw (fun y0_14 hw => ?_) (fun J_14 hj_14 hw => ?_)
  · intro hok
    refine g_iconst hE1 dX1_blames_14 ?_
    refine g_ildn1 hE1 dX1_blames_15 ?_
    refine gy_callSN hE hRm (As := [aI y0_14, aI 1, aI x1]) hx_X0_refuse (tx_X0_refuse X hw) (lw_meth q1104) q1102 q94 q1103 ⟨by decide, by decide⟩ ⟨(by decide), (by decide)⟩ rfl (Nat.le_of_ble_eq_true rfl) dX1_blames_16 rfl (fun r9 T3 I4 R5 Lz hΦ => ?_) (fun Ec q9 T39 I40 R41 Lz hΦ => ?_) hok
    · obtain ⟨rfl, rfl, hl6, hw⟩ := hΦ
      have hw := hw hl6
      show GX E X T3 I4 R5 L 1 8 19 [some (aR (some o)), some (aI x1)] []
      intro hok
      refine g_aldn0 hE1 dX1_blames_19 ?_
      obtain ⟨ht7, hw⟩ := hw
      refine gx_getr hE in_X1 (t := 2) rfl (by decide) 3 3 rfl (by decide) rfl (by decide) rfl q228 (Or.inl rfl) ht7 dX1_blames_20 ?_ hok
      intro hok
      refine g_ildn1 hE1 dX1_blames_23 ?_
      obtain ⟨b8, hb9, hw⟩ := hw
      rw [hb9]
      obtain ⟨ht10, hw⟩ := hw
      obtain ⟨h11, h12, hw⟩ := hw
      refine gx_iald hE ht10 h11 h12 dX1_blames_24 ?_ hok
      intro hok
      refine g_bipush hE1 dX1_blames_25 (by decide) ?_
      refine jn1_walk (fun (y0_35 : Int) => GX E X T3 I4 R5 L 1 8 35 [some (aR (some o)), some (aI x1)] [aI y0_35]) hw (fun y0_35 hw => ?_) (fun J_35 hj_35 hw => ?_)
      · intro hok
        refine g_bipush hE1 dX1_blames_35 (by decide) ?_
        refine g_ildn1 hE1 dX1_blames_37 ?_
        refine gy_callSN hE hRm (As := [aI y0_35, aI 7, aI x1]) hx_X0_refuse (tx_X0_refuse X hw) (lw_meth q1104) q1102 q94 q1103 ⟨by decide, by decide⟩ ⟨(by decide), (by decide)⟩ rfl (Nat.le_of_ble_eq_true rfl) dX1_blames_38 rfl (fun r9 T13 I14 R15 Lz hΦ => ?_) (fun Ec q9 T29 I30 R31 Lz hΦ => ?_) hok
        · obtain ⟨rfl, rfl, hl16, hw⟩ := hΦ
          have hw := hw hl16
          show GX E X T13 I14 R15 L 2 16 41 [some (aR (some o)), some (aI x1)] []
          intro hok
          refine g_aldn0 hE1 dX1_blames_41 ?_
          have ht17 := hl16.tag ht7 (by decide)
          refine gx_getr hE in_X1 (t := 2) rfl (by decide) 3 3 rfl (by decide) rfl (by decide) rfl q228 (Or.inl rfl) ht17 dX1_blames_42 ?_ hok
          intro hok
          refine g_ildn1 hE1 dX1_blames_45 ?_
          refine g_dup2 hE1 dX1_blames_46 rfl rfl ?_
          obtain ⟨b18, hb19, hw⟩ := hw
          rw [hb19]
          obtain ⟨ht20, hw⟩ := hw
          obtain ⟨h21, h22, hw⟩ := hw
          refine gx_iald hE ht20 h21 h22 dX1_blames_47 ?_ hok
          intro hok
          refine g_iconst hE1 dX1_blames_48 ?_
          refine g_iadd hE1 dX1_blames_49 ?_
          obtain ⟨h23, h24, hw⟩ := hw
          refine gx_iast hE ht20 h23 h24 dX1_blames_50 ?_ hok
          intro hok
          have hw := hw _ rfl
          generalize uI I14 b18 x1 ((I14 b18 x1) + 1) = I25 at hw hok ⊢
          refine g_aldn0 hE1 dX1_blames_51 ?_
          refine g_ildn1 hE1 dX1_blames_52 ?_
          refine gx_callV hE hRm (As := [aI x1]) ht17 (by decide) (by decide) rfl hx_X1_weight (tx_X1_weight X hw) (lw_V q1367 q1368 q1369 q95 q1370) ⟨by decide, by decide⟩ ⟨(by decide), (by decide)⟩ rfl (Nat.le_of_ble_eq_true rfl) dX1_blames_53 rfl (fun r9 Tz Iz Rz Lz hΦ => ?_) hok
          obtain ⟨r26, rfl, rfl, rfl, rfl, rfl, hw⟩ := hΦ
          show GX E X T13 I25 R15 L 2 16 56 [some (aR (some o)), some (aI x1)] [aI r26]
          intro hok
          exact gx_iret hE hR dX1_blames_56 (by decide) (by decide) rfl ⟨_, rfl, rfl, (hl6.tr hl16), hw⟩ hok
        · have hq9 : ∃ q8, q8 = q9 := ⟨_, rfl⟩
          obtain ⟨e28, rfl⟩ := hq9
          obtain ⟨rfl, rfl, hl32, ht33, hw⟩ := hΦ
          have hw := hw hl32 ht33
          exact gx_out hE hY (by decide) (by decide) ⟨rfl, rfl, (hl6.tr hl32), ht33, hw⟩
      · skip
        obtain ⟨h34, h35, hT36, hN37⟩ := hw
        refine g_icmp_ne hE1 (tgt := 34) dX1_blames_27 (by decide) h34 h35 (fun q => ?_) (fun q => ?_)
        · have hw := hT36 q
          refine g_iconst hE1 dX1_blames_30 ?_
          refine g_goto hE1 (tgt := 35) dX1_blames_31 (by decide) ?_
          exact hj_35 _ hw hok
        · have hw := hN37 q
          refine g_iconst hE1 dX1_blames_34 ?_
          exact hj_35 _ hw hok
    · have hq9 : ∃ q8, q8 = q9 := ⟨_, rfl⟩
      obtain ⟨e38, rfl⟩ := hq9
      obtain ⟨rfl, rfl, hl42, ht43, hw⟩ := hΦ
      have hw := hw hl42 ht43
      exact gx_out hE hY (by decide) (by decide) ⟨rfl, rfl, hl42, ht43, hw⟩
  · skip
    obtain ⟨h44, h45, hT46, hN47⟩ := hw
    refine g_if_ne hE1 (tgt := 13) dX1_blames_6 (by decide) h44 (fun q => ?_) (fun q => ?_)
    · have hw := hT46 q
      refine g_iconst hE1 dX1_blames_9 ?_
      refine g_goto hE1 (tgt := 14) dX1_blames_10 (by decide) ?_
      exact hj_14 _ hw hok
    · have hw := hN47 q
      refine g_iconst hE1 dX1_blames_13 ?_
      exact hj_14 _ hw hok

/-- WhalingLogs.blame(I)I -/
def wx_X0_blame (X : XT) (o : Nat) (x1 : Int) (T : xT) (I : xI) (R : xR) (L : xL) (Q : Int → xT → xI → xR → xL → Prop) : Prop :=
  xtag T o = 1 ∧
  ∃ b2 : Nat, R o 0 = some b2 ∧ xtag T b2 = 2 ∧ wx_X1_copy X b2 T I R L (fun (r5 : Option Nat) (T6 : xT) (I7 : xI) (R8 : xR) (L9 : xL) => tle T T6 → 
  ∃ b12 : Nat, R8 o 0 = some b12 ∧ xtag T6 b12 = 2 ∧ wx_X1_blames X b12 x1 T6 I7 R8 L9 (fun (r15 : Int) (T16 : xT) (I17 : xI) (R18 : xR) => tle T6 T16 → 
    wx_X0_changed X o r5 r15 T16 I17 R18 L9 (fun (r21 : Int) (I22 : xI) (R23 : xR) => 
    Q r21 T16 I22 R23 L9))
    (fun (e25 : Nat) (T26 : xT) (I27 : xI) (R28 : xR) => tle T6 T26 → xtag T26 e25 = 14 → 
    wx_X0_refused X o (some e25) T26 I27 R28 L9 (fun (r32 : Int) (I33 : xI) => 
    Q r32 T26 I33 R28 L9)))
theorem hx_X0_blame : yX0_blame.cls = RX0 ∧ yX0_blame.cls ≠ "java/lang/invoke/MethodHandle" ∧ yX0_blame.cls ≠ "java/lang/invoke/VarHandle" ∧ (parseMethodDescriptor yX0_blame.desc).map (fun d => d.parameters.length) = some 1 := by decide +kernel
set_option maxHeartbeats 4000000 in
theorem tx_X0_blame (X : XT) {o : Nat} {x1 : Int} {T : xT} {I : xI} {R : xR} {L : xL} {Q : Int → xT → xI → xR → xL → Prop} (hw : wx_X0_blame X o x1 T I R L Q) : CtW X yX0_blame cX0_blame 4 (some .int) [(8, 21, 22, 55)] (rmX 7 162 1416 147) [aR (some o), aI x1] T I R L (PXiTIRL T I R L Q) := by
  refine CtW.intro (by decide) (Nat.le_of_ble_eq_true rfl) (fun E hE hR hH hN => ?_)
  have hRm := hR.rm
  have hE : OkX E X RX0 cX0_blame 4 (some .int) := hE
  have hE1 := hE.1
  show GX E X T I R L 0 0 0 [some (aR (some o)), some (aI x1), none, none] []
  unfold wx_X0_blame at hw
  intro hok
  refine g_aldn0 hE1 dX0_blame_0 ?_
  obtain ⟨ht1, hw⟩ := hw
  refine gx_getr hE in_X0 (t := 1) rfl (by decide) 0 0 rfl (by decide) rfl (by decide) rfl q353 (Or.inl rfl) ht1 dX0_blame_1 ?_ hok
  intro hok
  obtain ⟨b2, hb3, hw⟩ := hw
  rw [hb3]
  obtain ⟨ht4, hw⟩ := hw
  refine gx_callV hE hRm (As := []) ht4 (by decide) (by decide) rfl hx_X1_copy (tx_X1_copy X hw) (lw_V q395 q396 q397 q95 q398) ⟨by decide, by decide⟩ ⟨(by decide), (by decide)⟩ rfl (Nat.le_of_ble_eq_true rfl) dX0_blame_4 rfl (fun r9 T6 I7 R8 L9 hΦ => ?_) hok
  obtain ⟨r5, rfl, hl10, hw⟩ := hΦ
  have hw := hw hl10
  show GX E X T6 I7 R8 L9 160 1400 7 [some (aR (some o)), some (aI x1), none, none] [aR r5]
  intro hok
  refine g_astn2 hE1 dX0_blame_7 (by decide) rfl ?_
  refine g_aldn0 hE1 dX0_blame_8 ?_
  refine g_aldn2 hE1 dX0_blame_9 ?_
  refine g_aldn0 hE1 dX0_blame_10 ?_
  have ht11 := hl10.tag ht1 (by decide)
  refine gx_getr hE in_X0 (t := 1) rfl (by decide) 0 0 rfl (by decide) rfl (by decide) rfl q353 (Or.inl rfl) ht11 dX0_blame_11 ?_ hok
  intro hok
  refine g_ildn1 hE1 dX0_blame_14 ?_
  obtain ⟨b12, hb13, hw⟩ := hw
  rw [hb13]
  obtain ⟨ht14, hw⟩ := hw
  refine gy_callV hE hRm (As := [aI x1]) ht14 (by decide) (by decide) rfl hx_X1_blames (tx_X1_blames X hw) (lw_V q1363 q1364 q1365 q95 q1366) ⟨by decide, by decide⟩ ⟨(by decide), (by decide)⟩ rfl (Nat.le_of_ble_eq_true rfl) dX0_blame_15 rfl (fun r9 T16 I17 R18 Lz hΦ => ?_) (fun Ec q9 T26 I27 R28 Lz hΦ => ?_) hok
  · obtain ⟨r15, rfl, rfl, hl19, hw⟩ := hΦ
    have hw := hw hl19
    show GX E X T16 I17 R18 L9 162 1416 18 [some (aR (some o)), some (aI x1), some (aR r5), none] [aI r15, aR r5, aR (some o)]
    intro hok
    have ht20 := (hl10.tr hl19).tag ht1 (by decide)
    refine gx_callV hE hRm (As := [aR r5, aI r15]) ht20 (by decide) (by decide) rfl hx_X0_changed (tx_X0_changed X hw) (lw_V q1163 q1165 qs16 q94 q1166) ⟨by decide, by decide⟩ ⟨(by decide), (by decide)⟩ rfl (Nat.le_of_ble_eq_true rfl) dX0_blame_18 rfl (fun r9 Tz I22 R23 Lz hΦ => ?_) hok
    obtain ⟨r21, rfl, rfl, rfl, hw⟩ := hΦ
    show GX E X T16 I22 R23 L9 162 1416 21 [some (aR (some o)), some (aI x1), some (aR r5), none] [aI r21]
    intro hok
    exact gx_iret hE hR dX0_blame_21 (by decide) (by decide) rfl ⟨_, rfl, (hl10.tr hl19), hw⟩ hok
  · have hq9 : ∃ q8, q8 = q9 := ⟨_, rfl⟩
    obtain ⟨e25, rfl⟩ := hq9
    obtain ⟨rfl, rfl, hl29, ht30, hw⟩ := hΦ
    have hw := hw hl29 ht30
    refine gx_catch hE hH [] ⟨8, 21, 22, 55⟩ [] rfl (fun _ h9 => nomatch h9) (by decide) (by decide) q388 q1106 ?_
    show GX E X T26 I27 R28 L9 162 1416 22 [some (aR (some o)), some (aI x1), some (aR r5), none] [aR (some e25)]
    intro hok
    refine g_astn3 hE1 dX0_blame_22 (by decide) rfl ?_
    refine g_aldn0 hE1 dX0_blame_23 ?_
    refine g_aldn3 hE1 dX0_blame_24 ?_
    have ht31 := (hl10.tr hl29).tag ht1 (by decide)
    refine gx_callV hE hRm (As := [aR (some e25)]) ht31 (by decide) (by decide) rfl hx_X0_refused (tx_X0_refused X hw) (lw_V q1204 q1206 qs19 q94 q1207) ⟨by decide, by decide⟩ ⟨(by decide), (by decide)⟩ rfl (Nat.le_of_ble_eq_true rfl) dX0_blame_25 rfl (fun r9 Tz I33 Rz Lz hΦ => ?_) hok
    obtain ⟨r32, rfl, rfl, rfl, rfl, hw⟩ := hΦ
    show GX E X T26 I33 R28 L9 162 1416 28 [some (aR (some o)), some (aI x1), some (aR r5), some (aR (some e25))] [aI r32]
    intro hok
    exact gx_iret hE hR dX0_blame_28 (by decide) (by decide) rfl ⟨_, rfl, (hl10.tr hl29), hw⟩ hok

/-- WhalingLogs$Archive.rays(LWhalingLogs$Page;)I -/
def wx_X1_rays (X : XT) (o : Nat) (x1 : Option Nat) (T : xT) (I : xI) (R : xR) (L : xL) (Q : Int → Prop) : Prop :=
  lq2 (fun (x2_4 : Int) (x3_4 : Int) (K_4 : Int → Int → Prop) =>
    cLt x3_4 3
      (
      xtag T o = 2 ∧
      ∃ b2 : Nat, R o 2 = some b2 ∧ xtag T b2 = 100 ∧ ib x3_4 (xlen T b2) ∧ xlen T b2 < 2147483648 ∧
      ∃ b7 : Nat, x1 = some b7 ∧ xtag T b7 = 10 ∧ wx_X5_isLegible X b7 x3_4 (I b2 x3_4) T I R L (fun (r10 : Int) => 
      jn1 (fun (y1_31 : Int) => 
          K_4 (bOr x2_4 y1_31) (x3_4 + 1))
        (fun (J_31 : Int → Prop) =>
        cEq r10 0
          (
          J_31 0)
          (
          J_31 (bShl 1 x3_4)))))
      (
      Q x2_4)) 0 0
theorem hx_X1_rays : yX1_rays.cls = RX1 ∧ yX1_rays.cls ≠ "java/lang/invoke/MethodHandle" ∧ yX1_rays.cls ≠ "java/lang/invoke/VarHandle" ∧ (parseMethodDescriptor yX1_rays.desc).map (fun d => d.parameters.length) = some 1 := by decide +kernel
set_option maxHeartbeats 4000000 in
theorem tx_X1_rays (X : XT) {o : Nat} {x1 : Option Nat} {T : xT} {I : xI} {R : xR} {L : xL} {Q : Int → Prop} (hw : wx_X1_rays X o x1 T I R L Q) : CtX X yX1_rays cX1_rays 4 (some .int) (rmX 2 0 0 86) [aR (some o), aR x1] T I R L (PXi T I R L Q) := by
  refine CtX.intro (by decide) (Nat.le_of_ble_eq_true rfl) (fun E hE hR hN => ?_)
  have hRm := hR.rm
  have hE : OkX E X RX1 cX1_rays 4 (some .int) := hE
  have hE1 := hE.1
  show GX E X T I R L 0 0 0 [some (aR (some o)), some (aR x1), none, none] []
  unfold wx_X1_rays at hw
  intro hok
  refine g_iconst hE1 dX1_rays_0 ?_
  refine g_istn2 hE1 dX1_rays_1 (by decide) rfl ?_
  refine g_iconst hE1 dX1_rays_2 ?_
  refine g_istn3 hE1 dX1_rays_3 (by decide) rfl ?_
  refine lq2_walk (fun (x2_4 : Int) (x3_4 : Int) => GX E X T I R L 0 0 4 [some (aR (some o)), some (aR x1), some (aI x2_4), some (aI x3_4)] []) (fun K_4 hk_4 x2_4 x3_4 hw => ?_) _ _ hw hok
  intro hok
  refine g_ildn3 hE1 dX1_rays_4 ?_
  refine g_iconst hE1 dX1_rays_5 ?_
  obtain ⟨h16, h17, hT18, hN19⟩ := hw
  refine g_icmp_ge hE1 (tgt := 39) dX1_rays_6 (by decide) h16 h17 (fun q => ?_) (fun q => ?_)
  · have hw := hT18 q
    refine g_ildn2 hE1 dX1_rays_9 ?_
    refine g_aldn1 hE1 dX1_rays_10 ?_
    refine g_ildn3 hE1 dX1_rays_11 ?_
    refine g_aldn0 hE1 dX1_rays_12 ?_
    obtain ⟨ht1, hw⟩ := hw
    refine gx_getr hE in_X1 (t := 2) rfl (by decide) 2 2 rfl (by decide) rfl (by decide) rfl q226 (Or.inl rfl) ht1 dX1_rays_13 ?_ hok
    intro hok
    refine g_ildn3 hE1 dX1_rays_16 ?_
    obtain ⟨b2, hb3, hw⟩ := hw
    rw [hb3]
    obtain ⟨ht4, hw⟩ := hw
    obtain ⟨h5, h6, hw⟩ := hw
    refine gx_iald hE ht4 h5 h6 dX1_rays_17 ?_ hok
    intro hok
    obtain ⟨b7, hb8, hw⟩ := hw
    rw [hb8]
    obtain ⟨ht9, hw⟩ := hw
    refine gx_callV hE hRm (As := [aI x3_4, aI (I b2 x3_4)]) ht9 (by decide) (by decide) rfl hx_X5_isLegible (tx_X5_isLegible X hw) (lw_V q1321 q1322 q1323 q125 q1324) ⟨by decide, by decide⟩ ⟨(by decide), (by decide)⟩ rfl (Nat.le_of_ble_eq_true rfl) dX1_rays_18 rfl (fun r9 Tz Iz Rz Lz hΦ => ?_) hok
    obtain ⟨r10, rfl, rfl, rfl, rfl, rfl, hw⟩ := hΦ
    show GX E X T I R L 0 0 21 [some (aR (some o)), some (aR (some b7)), some (aI x2_4), some (aI x3_4)] [aI r10, aI x2_4]
    intro hok
    refine jn1_walk (fun (y1_31 : Int) => GX E X T I R L 0 0 31 [some (aR (some o)), some (aR (some b7)), some (aI x2_4), some (aI x3_4)] [aI y1_31, aI x2_4]) hw (fun y1_31 hw => ?_) (fun J_31 hj_31 hw => ?_)
    · intro hok
      refine g_ior hE1 dX1_rays_31 ?_
      refine g_istn2 hE1 dX1_rays_32 (by decide) rfl ?_
      refine g_iinc3 hE1 dX1_rays_33 (by decide) rfl ?_
      refine g_goto hE1 (tgt := 4) dX1_rays_36 (by decide) ?_
      simpa only [hb3, hb8] using hk_4 _ _ hw hok
    · skip
      obtain ⟨h12, h13, hT14, hN15⟩ := hw
      refine g_if_eq hE1 (tgt := 30) dX1_rays_21 (by decide) h12 (fun q => ?_) (fun q => ?_)
      · have hw := hT14 q
        refine g_iconst hE1 dX1_rays_30 ?_
        exact hj_31 _ hw hok
      · have hw := hN15 q
        refine g_iconst hE1 dX1_rays_24 ?_
        refine g_ildn3 hE1 dX1_rays_25 ?_
        refine g_ishl hE1 dX1_rays_26 ?_
        refine g_goto hE1 (tgt := 31) dX1_rays_27 (by decide) ?_
        exact hj_31 _ hw hok
  · have hw := hN19 q
    refine g_ildn2 hE1 dX1_rays_39 ?_
    exact gx_iret hE hR dX1_rays_40 (by decide) (by decide) rfl ⟨_, rfl, rfl, rfl, rfl, rfl, hw⟩ hok

/-- WhalingLogs.leastOf(I)I -/
def wx_X0_leastOf (X : XT) (x0 : Int) (T : xT) (I : xI) (R : xR) (L : xL) (Q : Int → Prop) : Prop :=
  lq1 (fun (x1_2 : Int) (K_2 : Int → Prop) =>
    jn0 (
        jn1 (fun (y0_32 : Int) => 
            Q y0_32)
          (fun (J_32 : Int → Prop) =>
          cEq x1_2 3
            (
            J_32 (-5))
            (
            J_32 x1_2)))
      (fun (J_21 : Prop) =>
      cLt x1_2 3
        (
        cEq (bAnd (bShr x0 x1_2) 1) 0
          (
          K_2 (x1_2 + 1))
          (
          J_21))
        (
        J_21))) 0
theorem hx_X0_leastOf : yX0_leastOf.cls ≠ "java/lang/invoke/MethodHandle" ∧ yX0_leastOf.cls ≠ "java/lang/invoke/VarHandle" ∧ (parseMethodDescriptor yX0_leastOf.desc).map (fun d => d.parameters.length) = some 1 := by decide +kernel
set_option maxHeartbeats 4000000 in
theorem tx_X0_leastOf (X : XT) {x0 : Int} {T : xT} {I : xI} {R : xR} {L : xL} {Q : Int → Prop} (hw : wx_X0_leastOf X x0 T I R L Q) : CtX X yX0_leastOf cX0_leastOf 2 (some .int) (rmX 0 0 0 0) [aI x0] T I R L (PXi T I R L Q) := by
  refine CtX.intro (by decide) (Nat.le_of_ble_eq_true rfl) (fun E hE hR hN => ?_)
  have hRm := hR.rm
  have hE : OkX E X RX0 cX0_leastOf 2 (some .int) := hE
  have hE1 := hE.1
  show GX E X T I R L 0 0 0 [some (aI x0), none] []
  unfold wx_X0_leastOf at hw
  intro hok
  refine g_iconst hE1 dX0_leastOf_0 ?_
  refine g_istn1 hE1 dX0_leastOf_1 (by decide) rfl ?_
  refine lq1_walk (fun (x1_2 : Int) => GX E X T I R L 0 0 2 [some (aI x0), some (aI x1_2)] []) (fun K_2 hk_2 x1_2 hw => ?_) _ hw hok
  intro hok
  refine g_ildn1 hE1 dX0_leastOf_2 ?_
  refine g_iconst hE1 dX0_leastOf_3 ?_
  refine jn0_walk (GX E X T I R L 0 0 21 [some (aI x0), some (aI x1_2)] []) hw (fun  hw => ?_) (fun J_21 hj_21 hw => ?_)
  · intro hok
    refine g_ildn1 hE1 dX0_leastOf_21 ?_
    refine g_iconst hE1 dX0_leastOf_22 ?_
    refine jn1_walk (fun (y0_32 : Int) => GX E X T I R L 0 0 32 [some (aI x0), some (aI x1_2)] [aI y0_32]) hw (fun y0_32 hw => ?_) (fun J_32 hj_32 hw => ?_)
    · intro hok
      exact gx_iret hE hR dX0_leastOf_32 (by decide) (by decide) rfl ⟨_, rfl, rfl, rfl, rfl, rfl, hw⟩ hok
    · skip
      obtain ⟨h1, h2, hT3, hN4⟩ := hw
      refine g_icmp_ne hE1 (tgt := 31) dX0_leastOf_23 (by decide) h1 h2 (fun q => ?_) (fun q => ?_)
      · have hw := hT3 q
        refine g_bipush hE1 dX0_leastOf_26 (by decide) ?_
        refine g_goto hE1 (tgt := 32) dX0_leastOf_28 (by decide) ?_
        exact hj_32 _ hw hok
      · have hw := hN4 q
        refine g_ildn1 hE1 dX0_leastOf_31 ?_
        exact hj_32 _ hw hok
  · skip
    obtain ⟨h9, h10, hT11, hN12⟩ := hw
    refine g_icmp_ge hE1 (tgt := 21) dX0_leastOf_4 (by decide) h9 h10 (fun q => ?_) (fun q => ?_)
    · have hw := hT11 q
      refine g_ildn0 hE1 dX0_leastOf_7 ?_
      refine g_ildn1 hE1 dX0_leastOf_8 ?_
      refine g_ishr hE1 dX0_leastOf_9 ?_
      refine g_iconst hE1 dX0_leastOf_10 ?_
      refine g_iand hE1 dX0_leastOf_11 ?_
      obtain ⟨h5, h6, hT7, hN8⟩ := hw
      refine g_if_ne hE1 (tgt := 21) dX0_leastOf_12 (by decide) h5 (fun q => ?_) (fun q => ?_)
      · have hw := hT7 q
        refine g_iinc1 hE1 dX0_leastOf_15 (by decide) rfl ?_
        refine g_goto hE1 (tgt := 2) dX0_leastOf_18 (by decide) ?_
        exact hk_2 _ hw hok
      · have hw := hN8 q
        exact hj_21  hw hok
    · have hw := hN12 q
      exact hj_21  hw hok

/-- WhalingLogs.pageOf(II)I -/
def wx_X0_pageOf (X : XT) (o : Nat) (x1 : Int) (x2 : Int) (T : xT) (I : xI) (R : xR) (L : xL) (Q : Int → Prop) : Prop :=
  xtag T o = 1 ∧
  ∃ b2 : Nat, R o 0 = some b2 ∧ xtag T b2 = 2 ∧ wx_X1_isPage X b2 x1 T I R L (fun (r5 : Int) => 
  cEq r5 0
    (
    Q (-1))
    (
    ∃ b7 : Nat, R o 0 = some b7 ∧ xtag T b7 = 2 ∧
    ∃ b10 : Nat, R b7 1 = some b10 ∧ xtag T b10 = 4 ∧ wx_J4_get X b10 x1 T I R L (fun (r13 : Option Nat) => 
    ∃ b15 : Nat, r13 = some b15 ∧ xtag T b15 = 10 ∧
    jn1 (fun (y0_127 : Int) => 
        Q y0_127)
      (fun (J_127 : Int → Prop) =>
      inR x2 ∧ ((x2 < 0 ∨ 5 < x2) →
        J_127 (-2)) ∧
      (x2 = 0 →
        J_127 (I b15 0)) ∧
      (x2 = 1 →
        J_127 (I b15 2)) ∧
      (x2 = 2 →
        ∃ b22 : Nat, R b15 1 = some b22 ∧ xtag T b22 = 11 ∧ wx_J24_size X b22 T I R L (fun (r25 : Int) => 
        J_127 r25)) ∧
      (x2 = 3 →
        wx_X5_many X b15 1 T I R L (fun (r28 : Int) => 
        J_127 r28)) ∧
      (x2 = 4 →
        ∃ b31 : Nat, R o 0 = some b31 ∧ xtag T b31 = 2 ∧ wx_X1_rays X b31 (some b15) T I R L (fun (r34 : Int) => 
        J_127 r34)) ∧
      (x2 = 5 →
        ∃ b37 : Nat, R o 0 = some b37 ∧ xtag T b37 = 2 ∧ wx_X1_rays X b37 (some b15) T I R L (fun (r40 : Int) => 
        wx_X0_leastOf X r40 T I R L (fun (r42 : Int) => 
        J_127 r42)))))))
theorem hx_X0_pageOf : yX0_pageOf.cls = RX0 ∧ yX0_pageOf.cls ≠ "java/lang/invoke/MethodHandle" ∧ yX0_pageOf.cls ≠ "java/lang/invoke/VarHandle" ∧ (parseMethodDescriptor yX0_pageOf.desc).map (fun d => d.parameters.length) = some 2 := by decide +kernel
set_option maxHeartbeats 4000000 in
theorem tx_X0_pageOf (X : XT) {o : Nat} {x1 : Int} {x2 : Int} {T : xT} {I : xI} {R : xR} {L : xL} {Q : Int → Prop} (hw : wx_X0_pageOf X o x1 x2 T I R L Q) : CtX X yX0_pageOf cX0_pageOf 4 (some .int) (rmX 4 0 0 109) [aR (some o), aI x1, aI x2] T I R L (PXi T I R L Q) := by
  refine CtX.intro (by decide) (Nat.le_of_ble_eq_true rfl) (fun E hE hR hN => ?_)
  have hRm := hR.rm
  have hE : OkX E X RX0 cX0_pageOf 4 (some .int) := hE
  have hE1 := hE.1
  show GX E X T I R L 0 0 0 [some (aR (some o)), some (aI x1), some (aI x2), none] []
  unfold wx_X0_pageOf at hw
  intro hok
  refine g_aldn0 hE1 dX0_pageOf_0 ?_
  obtain ⟨ht1, hw⟩ := hw
  refine gx_getr hE in_X0 (t := 1) rfl (by decide) 0 0 rfl (by decide) rfl (by decide) rfl q353 (Or.inl rfl) ht1 dX0_pageOf_1 ?_ hok
  intro hok
  refine g_ildn1 hE1 dX0_pageOf_4 ?_
  obtain ⟨b2, hb3, hw⟩ := hw
  rw [hb3]
  obtain ⟨ht4, hw⟩ := hw
  refine gx_callV hE hRm (As := [aI x1]) ht4 (by decide) (by decide) rfl hx_X1_isPage (tx_X1_isPage X hw) (lw_V q1282 q1265 q1266 q95 q1267) ⟨by decide, by decide⟩ ⟨(by decide), (by decide)⟩ rfl (Nat.le_of_ble_eq_true rfl) dX0_pageOf_5 rfl (fun r9 Tz Iz Rz Lz hΦ => ?_) hok
  obtain ⟨r5, rfl, rfl, rfl, rfl, rfl, hw⟩ := hΦ
  show GX E X T I R L 0 0 8 [some (aR (some o)), some (aI x1), some (aI x2), none] [aI r5]
  intro hok
  obtain ⟨h45, h46, hT47, hN48⟩ := hw
  refine g_if_ne hE1 (tgt := 13) dX0_pageOf_8 (by decide) h45 (fun q => ?_) (fun q => ?_)
  · have hw := hT47 q
    refine g_iconst hE1 dX0_pageOf_11 ?_
    exact gx_iret hE hR dX0_pageOf_12 (by decide) (by decide) rfl ⟨_, rfl, rfl, rfl, rfl, rfl, hw⟩ hok
  · have hw := hN48 q
    refine g_aldn0 hE1 dX0_pageOf_13 ?_
    refine gx_getr hE in_X0 (t := 1) rfl (by decide) 0 0 rfl (by decide) rfl (by decide) rfl q353 (Or.inl rfl) ht1 dX0_pageOf_14 ?_ hok
    intro hok
    obtain ⟨b7, hb8, hw⟩ := hw
    rw [hb8]
    obtain ⟨ht9, hw⟩ := hw
    refine gx_getrN hE in_X1 (t := 2) rfl (by decide) 1 1 rfl (by decide) rfl (by decide) rfl q225 (Or.inl rfl) ht9 dX0_pageOf_17 ?_ hok
    intro hok
    refine g_ildn1 hE1 dX0_pageOf_20 ?_
    obtain ⟨b10, hb11, hw⟩ := hw
    rw [hb11]
    obtain ⟨ht12, hw⟩ := hw
    refine gx_callV hE hRm (As := [aI x1]) ht12 (by decide) (by decide) rfl hx_J4_get (tx_J4_get X hw) (lw_V q1375 q596 q2595 q100 q597) ⟨by decide, by decide⟩ ⟨(by decide), (by decide)⟩ rfl (Nat.le_of_ble_eq_true rfl) dX0_pageOf_21 rfl (fun r9 Tz Iz Rz Lz hΦ => ?_) hok
    obtain ⟨r13, rfl, rfl, rfl, rfl, rfl, hw⟩ := hΦ
    show GX E X T I R L 0 0 24 [some (aR (some o)), some (aI x1), some (aI x2), none] [aR r13]
    intro hok
    obtain ⟨b15, hb16, hw⟩ := hw
    rw [hb16]
    obtain ⟨ht17, hw⟩ := hw
    refine gx_castS hE ht17 (by decide) (by decide) rfl q1291 dX0_pageOf_24 ?_ hok
    intro hok
    refine g_astn3 hE1 dX0_pageOf_27 (by decide) rfl ?_
    refine g_ildn2 hE1 dX0_pageOf_28 ?_
    refine jn1_walk (fun (y0_127 : Int) => GX E X T I R L 0 0 127 [some (aR (some o)), some (aI x1), some (aI x2), some (aR (some b15))] [aI y0_127]) hw (fun y0_127 hw => ?_) (fun J_127 hj_127 hw => ?_)
    · intro hok
      exact gx_iret hE hR dX0_pageOf_127 (by decide) (by decide) rfl ⟨_, rfl, rfl, rfl, rfl, rfl, hw⟩ hok
    · skip
      obtain ⟨h18, h19, h20, h21, h27, h30, h36, h44⟩ := hw
      refine g_table hE1 dX0_pageOf_29 h18 125 (by decide) [68, 75, 82, 92, 100, 111] (by decide) (by decide) (fun q => ?_) (fun i t hi he => ?_)
      · have hw := h19 q
        refine g_bipush hE1 dX0_pageOf_125 (by decide) ?_
        exact hj_127 _ hw hok
      rcases i with _ | i
      · obtain rfl : 68 = t := Option.some.inj hi
        have hw := h20 (by omega)
        refine g_aldn3 hE1 dX0_pageOf_68 ?_
        refine gx_getiN hE in_X5 (t := 10) rfl (by decide) 0 0 rfl (by decide) rfl (by decide) rfl q963 (Or.inl rfl) ht17 dX0_pageOf_69 ?_ hok
        intro hok
        refine g_goto hE1 (tgt := 127) dX0_pageOf_72 (by decide) ?_
        exact hj_127 _ hw hok
      rcases i with _ | i
      · obtain rfl : 75 = t := Option.some.inj hi
        have hw := h21 (by omega)
        refine g_aldn3 hE1 dX0_pageOf_75 ?_
        refine gx_getiN hE in_X5 (t := 10) rfl (by decide) 2 2 rfl (by decide) rfl (by decide) rfl q970 (Or.inl rfl) ht17 dX0_pageOf_76 ?_ hok
        intro hok
        refine g_goto hE1 (tgt := 127) dX0_pageOf_79 (by decide) ?_
        exact hj_127 _ hw hok
      rcases i with _ | i
      · obtain rfl : 82 = t := Option.some.inj hi
        have hw := h27 (by omega)
        refine g_aldn3 hE1 dX0_pageOf_82 ?_
        refine gx_getrN hE in_X5 (t := 10) rfl (by decide) 1 1 rfl (by decide) rfl (by decide) rfl q967 (Or.inl rfl) ht17 dX0_pageOf_83 ?_ hok
        intro hok
        obtain ⟨b22, hb23, hw⟩ := hw
        rw [hb23]
        obtain ⟨ht24, hw⟩ := hw
        refine gx_callV hE hRm (As := []) ht24 (by decide) (by decide) rfl hx_J24_size (tx_J24_size X hw) (lw_V q1376 q538 q2592 q126 q539) ⟨by decide, by decide⟩ ⟨(by decide), (by decide)⟩ rfl (Nat.le_of_ble_eq_true rfl) dX0_pageOf_86 rfl (fun r9 Tz Iz Rz Lz hΦ => ?_) hok
        obtain ⟨r25, rfl, rfl, rfl, rfl, rfl, hw⟩ := hΦ
        show GX E X T I R L 0 0 89 [some (aR (some o)), some (aI x1), some (aI x2), some (aR (some b15))] [aI r25]
        intro hok
        refine g_goto hE1 (tgt := 127) dX0_pageOf_89 (by decide) ?_
        exact hj_127 _ hw hok
      rcases i with _ | i
      · obtain rfl : 92 = t := Option.some.inj hi
        have hw := h30 (by omega)
        refine g_aldn3 hE1 dX0_pageOf_92 ?_
        refine g_iconst hE1 dX0_pageOf_93 ?_
        refine gx_callV hE hRm (As := [aI 1]) ht17 (by decide) (by decide) rfl hx_X5_many (tx_X5_many X hw) (lw_V q1377 q1329 q1330 q125 q1331) ⟨by decide, by decide⟩ ⟨(by decide), (by decide)⟩ rfl (Nat.le_of_ble_eq_true rfl) dX0_pageOf_94 rfl (fun r9 Tz Iz Rz Lz hΦ => ?_) hok
        obtain ⟨r28, rfl, rfl, rfl, rfl, rfl, hw⟩ := hΦ
        show GX E X T I R L 0 0 97 [some (aR (some o)), some (aI x1), some (aI x2), some (aR (some b15))] [aI r28]
        intro hok
        refine g_goto hE1 (tgt := 127) dX0_pageOf_97 (by decide) ?_
        exact hj_127 _ hw hok
      rcases i with _ | i
      · obtain rfl : 100 = t := Option.some.inj hi
        have hw := h36 (by omega)
        refine g_aldn0 hE1 dX0_pageOf_100 ?_
        refine gx_getr hE in_X0 (t := 1) rfl (by decide) 0 0 rfl (by decide) rfl (by decide) rfl q353 (Or.inl rfl) ht1 dX0_pageOf_101 ?_ hok
        intro hok
        refine g_aldn3 hE1 dX0_pageOf_104 ?_
        obtain ⟨b31, hb32, hw⟩ := hw
        rw [hb32]
        obtain ⟨ht33, hw⟩ := hw
        refine gx_callV hE hRm (As := [aR (some b15)]) ht33 (by decide) (by decide) rfl hx_X1_rays (tx_X1_rays X hw) (lw_V q1378 q1379 q1380 q95 q1381) ⟨by decide, by decide⟩ ⟨(by decide), (by decide)⟩ rfl (Nat.le_of_ble_eq_true rfl) dX0_pageOf_105 rfl (fun r9 Tz Iz Rz Lz hΦ => ?_) hok
        obtain ⟨r34, rfl, rfl, rfl, rfl, rfl, hw⟩ := hΦ
        show GX E X T I R L 0 0 108 [some (aR (some o)), some (aI x1), some (aI x2), some (aR (some b15))] [aI r34]
        intro hok
        refine g_goto hE1 (tgt := 127) dX0_pageOf_108 (by decide) ?_
        exact hj_127 _ hw hok
      rcases i with _ | i
      · obtain rfl : 111 = t := Option.some.inj hi
        have hw := h44 (by omega)
        refine g_aldn0 hE1 dX0_pageOf_111 ?_
        refine gx_getr hE in_X0 (t := 1) rfl (by decide) 0 0 rfl (by decide) rfl (by decide) rfl q353 (Or.inl rfl) ht1 dX0_pageOf_112 ?_ hok
        intro hok
        refine g_aldn3 hE1 dX0_pageOf_115 ?_
        obtain ⟨b37, hb38, hw⟩ := hw
        rw [hb38]
        obtain ⟨ht39, hw⟩ := hw
        refine gx_callV hE hRm (As := [aR (some b15)]) ht39 (by decide) (by decide) rfl hx_X1_rays (tx_X1_rays X hw) (lw_V q1378 q1379 q1380 q95 q1381) ⟨by decide, by decide⟩ ⟨(by decide), (by decide)⟩ rfl (Nat.le_of_ble_eq_true rfl) dX0_pageOf_116 rfl (fun r9 Tz Iz Rz Lz hΦ => ?_) hok
        obtain ⟨r40, rfl, rfl, rfl, rfl, rfl, hw⟩ := hΦ
        show GX E X T I R L 0 0 119 [some (aR (some o)), some (aI x1), some (aI x2), some (aR (some b15))] [aI r40]
        intro hok
        refine gx_callS hE hRm (As := [aI r40]) hx_X0_leastOf (tx_X0_leastOf X hw) (lw_S q1382 q1383 q94 q1384) ⟨by decide, by decide⟩ ⟨(by decide), (by decide)⟩ rfl (Nat.le_of_ble_eq_true rfl) dX0_pageOf_119 rfl (fun r9 Tz Iz Rz Lz hΦ => ?_) hok
        obtain ⟨r42, rfl, rfl, rfl, rfl, rfl, hw⟩ := hΦ
        show GX E X T I R L 0 0 122 [some (aR (some o)), some (aI x1), some (aI x2), some (aR (some b15))] [aI r42]
        intro hok
        refine g_goto hE1 (tgt := 127) dX0_pageOf_122 (by decide) ?_
        exact hj_127 _ hw hok
      exact absurd hi (by simp)

/-- WhalingLogs$Entry.number(I)I -/
def wx_X6_number (X : XT) (o : Nat) (x1 : Int) (T : xT) (I : xI) (R : xR) (L : xL) (Q : Int → Prop) : Prop :=
  jn1 (fun (y0_53 : Int) => 
      Q y0_53)
    (fun (J_53 : Int → Prop) =>
    inR x1 ∧ ((x1 < 0 ∨ 2 < x1) →
      xtag T o = 12 ∧
      J_53 (I o 3)) ∧
    (x1 = 0 →
      xtag T o = 12 ∧
      J_53 (I o 0)) ∧
    (x1 = 1 →
      xtag T o = 12 ∧
      J_53 (I o 1)) ∧
    (x1 = 2 →
      xtag T o = 12 ∧
      J_53 (I o 2)))
theorem hx_X6_number : yX6_number.cls = RX6 ∧ yX6_number.cls ≠ "java/lang/invoke/MethodHandle" ∧ yX6_number.cls ≠ "java/lang/invoke/VarHandle" ∧ (parseMethodDescriptor yX6_number.desc).map (fun d => d.parameters.length) = some 1 := by decide +kernel
set_option maxHeartbeats 4000000 in
theorem tx_X6_number (X : XT) {o : Nat} {x1 : Int} {T : xT} {I : xI} {R : xR} {L : xL} {Q : Int → Prop} (hw : wx_X6_number X o x1 T I R L Q) : CtX X yX6_number cX6_number 2 (some .int) (rmX 0 0 0 0) [aR (some o), aI x1] T I R L (PXi T I R L Q) := by
  refine CtX.intro (by decide) (Nat.le_of_ble_eq_true rfl) (fun E hE hR hN => ?_)
  have hRm := hR.rm
  have hE : OkX E X RX6 cX6_number 2 (some .int) := hE
  have hE1 := hE.1
  show GX E X T I R L 0 0 0 [some (aR (some o)), some (aI x1)] []
  unfold wx_X6_number at hw
  intro hok
  refine g_ildn1 hE1 dX6_number_0 ?_
  refine jn1_walk (fun (y0_53 : Int) => GX E X T I R L 0 0 53 [some (aR (some o)), some (aI x1)] [aI y0_53]) hw (fun y0_53 hw => ?_) (fun J_53 hj_53 hw => ?_)
  · intro hok
    exact gx_iret hE hR dX6_number_53 (by decide) (by decide) rfl ⟨_, rfl, rfl, rfl, rfl, rfl, hw⟩ hok
  · skip
    obtain ⟨h2, h3, h5, h7, h9⟩ := hw
    refine g_table hE1 dX6_number_1 h2 49 (by decide) [28, 35, 42] (by decide) (by decide) (fun q => ?_) (fun i t hi he => ?_)
    · have hw := h3 q
      refine g_aldn0 hE1 dX6_number_49 ?_
      obtain ⟨ht1, hw⟩ := hw
      refine gx_geti hE in_X6 (t := 12) rfl (by decide) 3 3 rfl (by decide) rfl (by decide) rfl q1000 (Or.inl rfl) ht1 dX6_number_50 ?_ hok
      intro hok
      exact hj_53 _ hw hok
    rcases i with _ | i
    · obtain rfl : 28 = t := Option.some.inj hi
      have hw := h5 (by omega)
      refine g_aldn0 hE1 dX6_number_28 ?_
      obtain ⟨ht4, hw⟩ := hw
      refine gx_geti hE in_X6 (t := 12) rfl (by decide) 0 0 rfl (by decide) rfl (by decide) rfl q991 (Or.inl rfl) ht4 dX6_number_29 ?_ hok
      intro hok
      refine g_goto hE1 (tgt := 53) dX6_number_32 (by decide) ?_
      exact hj_53 _ hw hok
    rcases i with _ | i
    · obtain rfl : 35 = t := Option.some.inj hi
      have hw := h7 (by omega)
      refine g_aldn0 hE1 dX6_number_35 ?_
      obtain ⟨ht6, hw⟩ := hw
      refine gx_geti hE in_X6 (t := 12) rfl (by decide) 1 1 rfl (by decide) rfl (by decide) rfl q994 (Or.inl rfl) ht6 dX6_number_36 ?_ hok
      intro hok
      refine g_goto hE1 (tgt := 53) dX6_number_39 (by decide) ?_
      exact hj_53 _ hw hok
    rcases i with _ | i
    · obtain rfl : 42 = t := Option.some.inj hi
      have hw := h9 (by omega)
      refine g_aldn0 hE1 dX6_number_42 ?_
      obtain ⟨ht8, hw⟩ := hw
      refine gx_geti hE in_X6 (t := 12) rfl (by decide) 2 2 rfl (by decide) rfl (by decide) rfl q997 (Or.inl rfl) ht8 dX6_number_43 ?_ hok
      intro hok
      refine g_goto hE1 (tgt := 53) dX6_number_46 (by decide) ?_
      exact hj_53 _ hw hok
    exact absurd hi (by simp)

/-- WhalingLogs.entryOf(III)I -/
def wx_X0_entryOf (X : XT) (o : Nat) (x1 : Int) (x2 : Int) (x3 : Int) (T : xT) (I : xI) (R : xR) (L : xL) (Q : Int → Prop) : Prop :=
  xtag T o = 1 ∧
  ∃ b2 : Nat, R o 0 = some b2 ∧ xtag T b2 = 2 ∧ wx_X1_isEntry X b2 x1 x2 T I R L (fun (r5 : Int) => 
  cEq r5 0
    (
    Q (-1))
    (
    wx_X0_isIn X x3 0 3 T I R L (fun (r7 : Int) => 
    jn1 (fun (y0_56 : Int) => 
        Q y0_56)
      (fun (J_56 : Int → Prop) =>
      cEq r7 0
        (
        J_56 (-2))
        (
        ∃ b9 : Nat, R o 0 = some b9 ∧ xtag T b9 = 2 ∧
        ∃ b12 : Nat, R b9 1 = some b12 ∧ xtag T b12 = 4 ∧ wx_J4_get X b12 x1 T I R L (fun (r15 : Option Nat) => 
        ∃ b17 : Nat, r15 = some b17 ∧ xtag T b17 = 10 ∧
        ∃ b20 : Nat, R b17 1 = some b20 ∧ xtag T b20 = 11 ∧ wx_J24_get X b20 x2 T I R L (fun (r23 : Option Nat) => 
        ∃ b25 : Nat, r23 = some b25 ∧ xtag T b25 = 12 ∧
        wx_X6_number X b25 x3 T I R L (fun (r28 : Int) => 
        J_56 r28))))))))
theorem hx_X0_entryOf : yX0_entryOf.cls = RX0 ∧ yX0_entryOf.cls ≠ "java/lang/invoke/MethodHandle" ∧ yX0_entryOf.cls ≠ "java/lang/invoke/VarHandle" ∧ (parseMethodDescriptor yX0_entryOf.desc).map (fun d => d.parameters.length) = some 3 := by decide +kernel
set_option maxHeartbeats 4000000 in
theorem tx_X0_entryOf (X : XT) {o : Nat} {x1 : Int} {x2 : Int} {x3 : Int} {T : xT} {I : xI} {R : xR} {L : xL} {Q : Int → Prop} (hw : wx_X0_entryOf X o x1 x2 x3 T I R L Q) : CtX X yX0_entryOf cX0_entryOf 4 (some .int) (rmX 4 0 0 85) [aR (some o), aI x1, aI x2, aI x3] T I R L (PXi T I R L Q) := by
  refine CtX.intro (by decide) (Nat.le_of_ble_eq_true rfl) (fun E hE hR hN => ?_)
  have hRm := hR.rm
  have hE : OkX E X RX0 cX0_entryOf 4 (some .int) := hE
  have hE1 := hE.1
  show GX E X T I R L 0 0 0 [some (aR (some o)), some (aI x1), some (aI x2), some (aI x3)] []
  unfold wx_X0_entryOf at hw
  intro hok
  refine g_aldn0 hE1 dX0_entryOf_0 ?_
  obtain ⟨ht1, hw⟩ := hw
  refine gx_getr hE in_X0 (t := 1) rfl (by decide) 0 0 rfl (by decide) rfl (by decide) rfl q353 (Or.inl rfl) ht1 dX0_entryOf_1 ?_ hok
  intro hok
  refine g_ildn1 hE1 dX0_entryOf_4 ?_
  refine g_ildn2 hE1 dX0_entryOf_5 ?_
  obtain ⟨b2, hb3, hw⟩ := hw
  rw [hb3]
  obtain ⟨ht4, hw⟩ := hw
  refine gx_callV hE hRm (As := [aI x1, aI x2]) ht4 (by decide) (by decide) rfl hx_X1_isEntry (tx_X1_isEntry X hw) (lw_V q1389 q1351 q1352 q95 q1353) ⟨by decide, by decide⟩ ⟨(by decide), (by decide)⟩ rfl (Nat.le_of_ble_eq_true rfl) dX0_entryOf_6 rfl (fun r9 Tz Iz Rz Lz hΦ => ?_) hok
  obtain ⟨r5, rfl, rfl, rfl, rfl, rfl, hw⟩ := hΦ
  show GX E X T I R L 0 0 9 [some (aR (some o)), some (aI x1), some (aI x2), some (aI x3)] [aI r5]
  intro hok
  obtain ⟨h34, h35, hT36, hN37⟩ := hw
  refine g_if_ne hE1 (tgt := 14) dX0_entryOf_9 (by decide) h34 (fun q => ?_) (fun q => ?_)
  · have hw := hT36 q
    refine g_iconst hE1 dX0_entryOf_12 ?_
    exact gx_iret hE hR dX0_entryOf_13 (by decide) (by decide) rfl ⟨_, rfl, rfl, rfl, rfl, rfl, hw⟩ hok
  · have hw := hN37 q
    refine g_ildn3 hE1 dX0_entryOf_14 ?_
    refine g_iconst hE1 dX0_entryOf_15 ?_
    refine g_iconst hE1 dX0_entryOf_16 ?_
    refine gx_callS hE hRm (As := [aI x3, aI 0, aI 3]) hx_X0_isIn (tx_X0_isIn X hw) (lw_S q392 q393 q94 q394) ⟨by decide, by decide⟩ ⟨(by decide), (by decide)⟩ rfl (Nat.le_of_ble_eq_true rfl) dX0_entryOf_17 rfl (fun r9 Tz Iz Rz Lz hΦ => ?_) hok
    obtain ⟨r7, rfl, rfl, rfl, rfl, rfl, hw⟩ := hΦ
    show GX E X T I R L 0 0 20 [some (aR (some o)), some (aI x1), some (aI x2), some (aI x3)] [aI r7]
    intro hok
    refine jn1_walk (fun (y0_56 : Int) => GX E X T I R L 0 0 56 [some (aR (some o)), some (aI x1), some (aI x2), some (aI x3)] [aI y0_56]) hw (fun y0_56 hw => ?_) (fun J_56 hj_56 hw => ?_)
    · intro hok
      exact gx_iret hE hR dX0_entryOf_56 (by decide) (by decide) rfl ⟨_, rfl, rfl, rfl, rfl, rfl, hw⟩ hok
    · skip
      obtain ⟨h30, h31, hT32, hN33⟩ := hw
      refine g_if_eq hE1 (tgt := 54) dX0_entryOf_20 (by decide) h30 (fun q => ?_) (fun q => ?_)
      · have hw := hT32 q
        refine g_bipush hE1 dX0_entryOf_54 (by decide) ?_
        exact hj_56 _ hw hok
      · have hw := hN33 q
        refine g_aldn0 hE1 dX0_entryOf_23 ?_
        refine gx_getr hE in_X0 (t := 1) rfl (by decide) 0 0 rfl (by decide) rfl (by decide) rfl q353 (Or.inl rfl) ht1 dX0_entryOf_24 ?_ hok
        intro hok
        obtain ⟨b9, hb10, hw⟩ := hw
        rw [hb10]
        obtain ⟨ht11, hw⟩ := hw
        refine gx_getrN hE in_X1 (t := 2) rfl (by decide) 1 1 rfl (by decide) rfl (by decide) rfl q225 (Or.inl rfl) ht11 dX0_entryOf_27 ?_ hok
        intro hok
        refine g_ildn1 hE1 dX0_entryOf_30 ?_
        obtain ⟨b12, hb13, hw⟩ := hw
        rw [hb13]
        obtain ⟨ht14, hw⟩ := hw
        refine gx_callV hE hRm (As := [aI x1]) ht14 (by decide) (by decide) rfl hx_J4_get (tx_J4_get X hw) (lw_V q1375 q596 q2595 q100 q597) ⟨by decide, by decide⟩ ⟨(by decide), (by decide)⟩ rfl (Nat.le_of_ble_eq_true rfl) dX0_entryOf_31 rfl (fun r9 Tz Iz Rz Lz hΦ => ?_) hok
        obtain ⟨r15, rfl, rfl, rfl, rfl, rfl, hw⟩ := hΦ
        show GX E X T I R L 0 0 34 [some (aR (some o)), some (aI x1), some (aI x2), some (aI x3)] [aR r15]
        intro hok
        obtain ⟨b17, hb18, hw⟩ := hw
        rw [hb18]
        obtain ⟨ht19, hw⟩ := hw
        refine gx_castS hE ht19 (by decide) (by decide) rfl q1291 dX0_entryOf_34 ?_ hok
        intro hok
        refine gx_getrN hE in_X5 (t := 10) rfl (by decide) 1 1 rfl (by decide) rfl (by decide) rfl q967 (Or.inl rfl) ht19 dX0_entryOf_37 ?_ hok
        intro hok
        refine g_ildn2 hE1 dX0_entryOf_40 ?_
        obtain ⟨b20, hb21, hw⟩ := hw
        rw [hb21]
        obtain ⟨ht22, hw⟩ := hw
        refine gx_callV hE hRm (As := [aI x2]) ht22 (by decide) (by decide) rfl hx_J24_get (tx_J24_get X hw) (lw_V q1390 q583 q2593 q126 q584) ⟨by decide, by decide⟩ ⟨(by decide), (by decide)⟩ rfl (Nat.le_of_ble_eq_true rfl) dX0_entryOf_41 rfl (fun r9 Tz Iz Rz Lz hΦ => ?_) hok
        obtain ⟨r23, rfl, rfl, rfl, rfl, rfl, hw⟩ := hΦ
        show GX E X T I R L 0 0 44 [some (aR (some o)), some (aI x1), some (aI x2), some (aI x3)] [aR r23]
        intro hok
        obtain ⟨b25, hb26, hw⟩ := hw
        rw [hb26]
        obtain ⟨ht27, hw⟩ := hw
        refine gx_castS hE ht27 (by decide) (by decide) rfl q1391 dX0_entryOf_44 ?_ hok
        intro hok
        refine g_ildn3 hE1 dX0_entryOf_47 ?_
        refine gx_callV hE hRm (As := [aI x3]) ht27 (by decide) (by decide) rfl hx_X6_number (tx_X6_number X hw) (lw_V q1392 q1393 q1394 q127 q1395) ⟨by decide, by decide⟩ ⟨(by decide), (by decide)⟩ rfl (Nat.le_of_ble_eq_true rfl) dX0_entryOf_48 rfl (fun r9 Tz Iz Rz Lz hΦ => ?_) hok
        obtain ⟨r28, rfl, rfl, rfl, rfl, rfl, hw⟩ := hΦ
        show GX E X T I R L 0 0 51 [some (aR (some o)), some (aI x1), some (aI x2), some (aI x3)] [aI r28]
        intro hok
        refine g_goto hE1 (tgt := 56) dX0_entryOf_51 (by decide) ?_
        exact hj_56 _ hw hok

/-- WhalingLogs$Listing.spreads(LWhalingLogs$Waters;)LWhalingLogs$Listing; -/
def wx_X3_spreads (X : XT) (o : Nat) (x1 : Option Nat) (T : xT) (I : xI) (R : xR) (L : xL) (Q : Option Nat → xI → Prop) : Prop :=
  lq2 (fun (x2_2 : Int) (I_2 : xI) (K_2 : Int → xI → Prop) =>
    xtag T o = 7 ∧
    cLt x2_2 (I_2 o 7)
      (
      ∃ b2 : Nat, R o 6 = some b2 ∧ xtag T b2 = 2 ∧
      ∃ b5 : Nat, R o 0 = some b5 ∧ xtag T b5 = 104 ∧ ib x2_2 (xlen T b5) ∧ xlen T b5 < 2147483648 ∧
      ∃ b10 : Nat, R b5 x2_2 = some b10 ∧ xtag T b10 = 12 ∧
      ∃ b13 : Nat, x1 = some b13 ∧ xtag T b13 = 6 ∧ wx_X2_spreads X b13 (R b2 0) (I_2 b10 1) (R o 3) (192 * x2_2) T I_2 R L (fun (I16 : xI) => 
      K_2 (x2_2 + 1) I16))
      (
      Q (some o) I_2)) 0 I
theorem hx_X3_spreads : yX3_spreads.cls = RX3 ∧ yX3_spreads.cls ≠ "java/lang/invoke/MethodHandle" ∧ yX3_spreads.cls ≠ "java/lang/invoke/VarHandle" ∧ (parseMethodDescriptor yX3_spreads.desc).map (fun d => d.parameters.length) = some 1 := by decide +kernel
set_option maxHeartbeats 4000000 in
theorem tx_X3_spreads (X : XT) {o : Nat} {x1 : Option Nat} {T : xT} {I : xI} {R : xR} {L : xL} {Q : Option Nat → xI → Prop} (hw : wx_X3_spreads X o x1 T I R L Q) : CtX X yX3_spreads cX3_spreads 3 (some (.object "WhalingLogs$Listing")) (rmX 3 0 0 70) [aR (some o), aR x1] T I R L (PXqI T I R L Q) := by
  refine CtX.intro (by decide) (Nat.le_of_ble_eq_true rfl) (fun E hE hR hN => ?_)
  have hRm := hR.rm
  have hE : OkX E X RX3 cX3_spreads 3 (some (.object "WhalingLogs$Listing")) := hE
  have hE1 := hE.1
  show GX E X T I R L 0 0 0 [some (aR (some o)), some (aR x1), none] []
  unfold wx_X3_spreads at hw
  intro hok
  refine g_iconst hE1 dX3_spreads_0 ?_
  refine g_istn2 hE1 dX3_spreads_1 (by decide) rfl ?_
  refine lq2_walk (fun (x2_2 : Int) (I_2 : xI) => GX E X T I_2 R L 0 0 2 [some (aR (some o)), some (aR x1), some (aI x2_2)] []) (fun K_2 hk_2 x2_2 I_2 hw => ?_) _ _ hw hok
  intro hok
  refine g_ildn2 hE1 dX3_spreads_2 ?_
  refine g_aldn0 hE1 dX3_spreads_3 ?_
  obtain ⟨ht1, hw⟩ := hw
  refine gx_geti hE in_X3 (t := 7) rfl (by decide) 7 7 rfl (by decide) rfl (by decide) rfl q297 (Or.inl rfl) ht1 dX3_spreads_4 ?_ hok
  intro hok
  obtain ⟨h18, h19, hT20, hN21⟩ := hw
  refine g_icmp_ge hE1 (tgt := 45) dX3_spreads_7 (by decide) h18 h19 (fun q => ?_) (fun q => ?_)
  · have hw := hT20 q
    refine g_aldn1 hE1 dX3_spreads_10 ?_
    refine g_aldn0 hE1 dX3_spreads_11 ?_
    refine gx_getr hE in_X3 (t := 7) rfl (by decide) 6 6 rfl (by decide) rfl (by decide) rfl q296 (Or.inl rfl) ht1 dX3_spreads_12 ?_ hok
    intro hok
    obtain ⟨b2, hb3, hw⟩ := hw
    rw [hb3]
    obtain ⟨ht4, hw⟩ := hw
    refine gx_getrN hE in_X1 (t := 2) rfl (by decide) 0 0 rfl (by decide) rfl (by decide) rfl q221 (Or.inl rfl) ht4 dX3_spreads_15 ?_ hok
    intro hok
    refine g_aldn0 hE1 dX3_spreads_18 ?_
    refine gx_getr hE in_X3 (t := 7) rfl (by decide) 0 0 rfl (by decide) rfl (by decide) rfl q286 (Or.inl rfl) ht1 dX3_spreads_19 ?_ hok
    intro hok
    refine g_ildn2 hE1 dX3_spreads_22 ?_
    obtain ⟨b5, hb6, hw⟩ := hw
    rw [hb6]
    obtain ⟨ht7, hw⟩ := hw
    obtain ⟨h8, h9, hw⟩ := hw
    refine gx_aald hE ht7 (by decide) h8 h9 dX3_spreads_23 ?_ hok
    intro hok
    obtain ⟨b10, hb11, hw⟩ := hw
    rw [hb11]
    obtain ⟨ht12, hw⟩ := hw
    refine gx_getiN hE in_X6 (t := 12) rfl (by decide) 1 1 rfl (by decide) rfl (by decide) rfl q995 (Or.inl rfl) ht12 dX3_spreads_24 ?_ hok
    intro hok
    refine g_aldn0 hE1 dX3_spreads_27 ?_
    refine gx_getr hE in_X3 (t := 7) rfl (by decide) 3 3 rfl (by decide) rfl (by decide) rfl q292 (Or.inl rfl) ht1 dX3_spreads_28 ?_ hok
    intro hok
    refine g_sipush hE1 dX3_spreads_31 (by decide) ?_
    refine g_ildn2 hE1 dX3_spreads_34 ?_
    refine g_imul hE1 dX3_spreads_35 ?_
    obtain ⟨b13, hb14, hw⟩ := hw
    rw [hb14]
    obtain ⟨ht15, hw⟩ := hw
    refine gx_callV hE hRm (As := [aR (R b2 0), aI (I_2 b10 1), aR (R o 3), aI (192 * x2_2)]) ht15 (by decide) (by decide) rfl hx_X2_spreads (tx_X2_spreads X hw) (lw_V q1417 q1224 q1225 q102 q1226) ⟨by decide, by decide⟩ ⟨(by decide), (by decide)⟩ rfl (Nat.le_of_ble_eq_true rfl) dX3_spreads_36 rfl (fun r9 Tz I16 Rz Lz hΦ => ?_) hok
    obtain ⟨rfl, rfl, rfl, rfl, hw⟩ := hΦ
    show GX E X T I16 R L 0 0 39 [some (aR (some o)), some (aR (some b13)), some (aI x2_2)] []
    intro hok
    refine g_iinc2 hE1 dX3_spreads_39 (by decide) rfl ?_
    refine g_goto hE1 (tgt := 2) dX3_spreads_42 (by decide) ?_
    simpa only [hb3, hb6, hb11, hb14] using hk_2 _ _ hw hok
  · have hw := hN21 q
    refine g_aldn0 hE1 dX3_spreads_45 ?_
    exact gx_aret hE hR dX3_spreads_46 (by decide) (by decide) (Or.inl ⟨_, rfl⟩) ⟨_, rfl, rfl, rfl, rfl, hw⟩ hok

/-- WhalingLogs.spread()LWhalingLogs$Listing; -/
def wx_X0_spread (X : XT) (o : Nat)  (T : xT) (I : xI) (R : xR) (L : xL) (Q : Option Nat → xT → xI → xR → Prop) : Prop :=
  xtag T o = 1 ∧ wx_X0_listed X o T I R L (fun (r2 : Option Nat) (T3 : xT) (I4 : xI) (R5 : xR) => tle T T3 → 
  ∃ b8 : Nat, r2 = some b8 ∧ xtag T3 b8 = 7 ∧ wx_X3_spreads X b8 (R5 o 5) T3 I4 R5 L (fun (r11 : Option Nat) (I12 : xI) => 
  Q r11 T3 I12 R5))
theorem hx_X0_spread : yX0_spread.cls = RX0 ∧ yX0_spread.cls ≠ "java/lang/invoke/MethodHandle" ∧ yX0_spread.cls ≠ "java/lang/invoke/VarHandle" ∧ (parseMethodDescriptor yX0_spread.desc).map (fun d => d.parameters.length) = some 0 := by decide +kernel
set_option maxHeartbeats 4000000 in
theorem tx_X0_spread (X : XT) {o : Nat}  {T : xT} {I : xI} {R : xR} {L : xL} {Q : Option Nat → xT → xI → xR → Prop} (hw : wx_X0_spread X o T I R L Q) : CtX X yX0_spread cX0_spread 1 (some (.object "WhalingLogs$Listing")) (rmX 7 1 5 151) [aR (some o)] T I R L (PXqTIR T I R L Q) := by
  refine CtX.intro (by decide) (Nat.le_of_ble_eq_true rfl) (fun E hE hR hN => ?_)
  have hRm := hR.rm
  have hE : OkX E X RX0 cX0_spread 1 (some (.object "WhalingLogs$Listing")) := hE
  have hE1 := hE.1
  show GX E X T I R L 0 0 0 [some (aR (some o))] []
  unfold wx_X0_spread at hw
  intro hok
  refine g_aldn0 hE1 dX0_spread_0 ?_
  obtain ⟨ht1, hw⟩ := hw
  refine gx_callV hE hRm (As := []) ht1 (by decide) (by decide) rfl hx_X0_listed (tx_X0_listed X hw) (lw_V q1300 q1302 qs22 q94 q1303) ⟨by decide, by decide⟩ ⟨(by decide), (by decide)⟩ rfl (Nat.le_of_ble_eq_true rfl) dX0_spread_1 rfl (fun r9 T3 I4 R5 Lz hΦ => ?_) hok
  obtain ⟨r2, rfl, rfl, hl6, hw⟩ := hΦ
  have hw := hw hl6
  show GX E X T3 I4 R5 L 1 5 4 [some (aR (some o))] [aR r2]
  intro hok
  refine g_aldn0 hE1 dX0_spread_4 ?_
  have ht7 := hl6.tag ht1 (by decide)
  refine gx_getr hE in_X0 (t := 1) rfl (by decide) 5 5 rfl (by decide) rfl (by decide) rfl q358 (Or.inl rfl) ht7 dX0_spread_5 ?_ hok
  intro hok
  obtain ⟨b8, hb9, hw⟩ := hw
  rw [hb9]
  obtain ⟨ht10, hw⟩ := hw
  refine gx_callV hE hRm (As := [aR (R5 o 5)]) ht10 (by decide) (by decide) rfl hx_X3_spreads (tx_X3_spreads X hw) (lw_V q1413 q1414 q1415 q103 q1416) ⟨by decide, by decide⟩ ⟨(by decide), (by decide)⟩ rfl (Nat.le_of_ble_eq_true rfl) dX0_spread_8 rfl (fun r9 Tz I12 Rz Lz hΦ => ?_) hok
  obtain ⟨r11, rfl, rfl, rfl, rfl, hw⟩ := hΦ
  show GX E X T3 I12 R5 L 1 5 11 [some (aR (some o))] [aR r11]
  intro hok
  exact gx_aret hE hR dX0_spread_11 (by decide) (by decide) (Or.inl ⟨_, rfl⟩) ⟨_, rfl, rfl, hl6, hw⟩ hok

/-- WhalingLogs$Listing.isOnWater(I)Z -/
def wx_X3_isOnWater (X : XT) (o : Nat) (x1 : Int) (T : xT) (I : xI) (R : xR) (L : xL) (Q : Int → Prop) : Prop :=
  xtag T o = 7 ∧
  ∃ b2 : Nat, R o 6 = some b2 ∧ xtag T b2 = 2 ∧
  ∃ b5 : Nat, R o 0 = some b5 ∧ xtag T b5 = 104 ∧ ib x1 (xlen T b5) ∧ xlen T b5 < 2147483648 ∧
  ∃ b10 : Nat, R b5 x1 = some b10 ∧ xtag T b10 = 12 ∧
  ∃ b13 : Nat, R b2 0 = some b13 ∧ xtag T b13 = 3 ∧ wx_J0_get X b13 (I b10 1) T I R L (fun (r16 : Int) => 
  jn1 (fun (y0_27 : Int) => 
      bl y0_27 ∧ Q y0_27)
    (fun (J_27 : Int → Prop) =>
    cEq r16 0
      (
      J_27 1)
      (
      J_27 0)))
theorem hx_X3_isOnWater : yX3_isOnWater.cls = RX3 ∧ yX3_isOnWater.cls ≠ "java/lang/invoke/MethodHandle" ∧ yX3_isOnWater.cls ≠ "java/lang/invoke/VarHandle" ∧ (parseMethodDescriptor yX3_isOnWater.desc).map (fun d => d.parameters.length) = some 1 := by decide +kernel
set_option maxHeartbeats 4000000 in
theorem tx_X3_isOnWater (X : XT) {o : Nat} {x1 : Int} {T : xT} {I : xI} {R : xR} {L : xL} {Q : Int → Prop} (hw : wx_X3_isOnWater X o x1 T I R L Q) : CtX X yX3_isOnWater cX3_isOnWater 2 (some .boolean) (rmX 2 0 0 42) [aR (some o), aI x1] T I R L (PXi T I R L Q) := by
  refine CtX.intro (by decide) (Nat.le_of_ble_eq_true rfl) (fun E hE hR hN => ?_)
  have hRm := hR.rm
  have hE : OkX E X RX3 cX3_isOnWater 2 (some .boolean) := hE
  have hE1 := hE.1
  show GX E X T I R L 0 0 0 [some (aR (some o)), some (aI x1)] []
  unfold wx_X3_isOnWater at hw
  intro hok
  refine g_aldn0 hE1 dX3_isOnWater_0 ?_
  obtain ⟨ht1, hw⟩ := hw
  refine gx_getr hE in_X3 (t := 7) rfl (by decide) 6 6 rfl (by decide) rfl (by decide) rfl q296 (Or.inl rfl) ht1 dX3_isOnWater_1 ?_ hok
  intro hok
  obtain ⟨b2, hb3, hw⟩ := hw
  rw [hb3]
  obtain ⟨ht4, hw⟩ := hw
  refine gx_getrN hE in_X1 (t := 2) rfl (by decide) 0 0 rfl (by decide) rfl (by decide) rfl q221 (Or.inl rfl) ht4 dX3_isOnWater_4 ?_ hok
  intro hok
  refine g_aldn0 hE1 dX3_isOnWater_7 ?_
  refine gx_getr hE in_X3 (t := 7) rfl (by decide) 0 0 rfl (by decide) rfl (by decide) rfl q286 (Or.inl rfl) ht1 dX3_isOnWater_8 ?_ hok
  intro hok
  refine g_ildn1 hE1 dX3_isOnWater_11 ?_
  obtain ⟨b5, hb6, hw⟩ := hw
  rw [hb6]
  obtain ⟨ht7, hw⟩ := hw
  obtain ⟨h8, h9, hw⟩ := hw
  refine gx_aald hE ht7 (by decide) h8 h9 dX3_isOnWater_12 ?_ hok
  intro hok
  obtain ⟨b10, hb11, hw⟩ := hw
  rw [hb11]
  obtain ⟨ht12, hw⟩ := hw
  refine gx_getiN hE in_X6 (t := 12) rfl (by decide) 1 1 rfl (by decide) rfl (by decide) rfl q995 (Or.inl rfl) ht12 dX3_isOnWater_13 ?_ hok
  intro hok
  obtain ⟨b13, hb14, hw⟩ := hw
  rw [hb14]
  obtain ⟨ht15, hw⟩ := hw
  refine gx_callV hE hRm (As := [aI (I b10 1)]) ht15 (by decide) (by decide) rfl hx_J0_get (tx_J0_get X hw) (lw_V q1430 q1229 q1230 q96 q1231) ⟨by decide, by decide⟩ ⟨(by decide), (by decide)⟩ rfl (Nat.le_of_ble_eq_true rfl) dX3_isOnWater_16 rfl (fun r9 Tz Iz Rz Lz hΦ => ?_) hok
  obtain ⟨r16, rfl, rfl, rfl, rfl, rfl, hw⟩ := hΦ
  show GX E X T I R L 0 0 19 [some (aR (some o)), some (aI x1)] [aI r16]
  intro hok
  refine jn1_walk (fun (y0_27 : Int) => GX E X T I R L 0 0 27 [some (aR (some o)), some (aI x1)] [aI y0_27]) hw (fun y0_27 hw => ?_) (fun J_27 hj_27 hw => ?_)
  · intro hok
    obtain ⟨h18, hw⟩ := hw
    exact gx_iret hE hR dX3_isOnWater_27 (by decide) (by decide) (narrow_bl h18) ⟨_, rfl, rfl, rfl, rfl, rfl, hw⟩ hok
  · skip
    obtain ⟨h19, h20, hT21, hN22⟩ := hw
    refine g_if_ne hE1 (tgt := 26) dX3_isOnWater_19 (by decide) h19 (fun q => ?_) (fun q => ?_)
    · have hw := hT21 q
      refine g_iconst hE1 dX3_isOnWater_22 ?_
      refine g_goto hE1 (tgt := 27) dX3_isOnWater_23 (by decide) ?_
      exact hj_27 _ hw hok
    · have hw := hN22 q
      refine g_iconst hE1 dX3_isOnWater_26 ?_
      exact hj_27 _ hw hok

/-- WhalingLogs$Listing.between(II)I -/
def wx_X3_between (X : XT) (o : Nat) (x1 : Int) (x2 : Int) (T : xT) (I : xI) (R : xR) (L : xL) (Q : Int → Prop) : Prop :=
  xtag T o = 7 ∧
  ∃ b2 : Nat, R o 0 = some b2 ∧ xtag T b2 = 104 ∧ ib x2 (xlen T b2) ∧ xlen T b2 < 2147483648 ∧
  ∃ b7 : Nat, R b2 x2 = some b7 ∧ xtag T b7 = 12 ∧
  ∃ b10 : Nat, R o 3 = some b10 ∧ xtag T b10 = 100 ∧ ib ((192 * x1) + (I b7 1)) (xlen T b10) ∧ xlen T b10 < 2147483648 ∧
  Q (I b10 ((192 * x1) + (I b7 1)))
theorem hx_X3_between : yX3_between.cls = RX3 ∧ yX3_between.cls ≠ "java/lang/invoke/MethodHandle" ∧ yX3_between.cls ≠ "java/lang/invoke/VarHandle" ∧ (parseMethodDescriptor yX3_between.desc).map (fun d => d.parameters.length) = some 2 := by decide +kernel
set_option maxHeartbeats 4000000 in
theorem tx_X3_between (X : XT) {o : Nat} {x1 : Int} {x2 : Int} {T : xT} {I : xI} {R : xR} {L : xL} {Q : Int → Prop} (hw : wx_X3_between X o x1 x2 T I R L Q) : CtX X yX3_between cX3_between 3 (some .int) (rmX 0 0 0 0) [aR (some o), aI x1, aI x2] T I R L (PXi T I R L Q) := by
  refine CtX.intro (by decide) (Nat.le_of_ble_eq_true rfl) (fun E hE hR hN => ?_)
  have hRm := hR.rm
  have hE : OkX E X RX3 cX3_between 3 (some .int) := hE
  have hE1 := hE.1
  show GX E X T I R L 0 0 0 [some (aR (some o)), some (aI x1), some (aI x2)] []
  unfold wx_X3_between at hw
  intro hok
  refine g_aldn0 hE1 dX3_between_0 ?_
  obtain ⟨ht1, hw⟩ := hw
  refine gx_getr hE in_X3 (t := 7) rfl (by decide) 3 3 rfl (by decide) rfl (by decide) rfl q292 (Or.inl rfl) ht1 dX3_between_1 ?_ hok
  intro hok
  refine g_sipush hE1 dX3_between_4 (by decide) ?_
  refine g_ildn1 hE1 dX3_between_7 ?_
  refine g_imul hE1 dX3_between_8 ?_
  refine g_aldn0 hE1 dX3_between_9 ?_
  refine gx_getr hE in_X3 (t := 7) rfl (by decide) 0 0 rfl (by decide) rfl (by decide) rfl q286 (Or.inl rfl) ht1 dX3_between_10 ?_ hok
  intro hok
  refine g_ildn2 hE1 dX3_between_13 ?_
  obtain ⟨b2, hb3, hw⟩ := hw
  rw [hb3]
  obtain ⟨ht4, hw⟩ := hw
  obtain ⟨h5, h6, hw⟩ := hw
  refine gx_aald hE ht4 (by decide) h5 h6 dX3_between_14 ?_ hok
  intro hok
  obtain ⟨b7, hb8, hw⟩ := hw
  rw [hb8]
  obtain ⟨ht9, hw⟩ := hw
  refine gx_getiN hE in_X6 (t := 12) rfl (by decide) 1 1 rfl (by decide) rfl (by decide) rfl q995 (Or.inl rfl) ht9 dX3_between_15 ?_ hok
  intro hok
  refine g_iadd hE1 dX3_between_18 ?_
  obtain ⟨b10, hb11, hw⟩ := hw
  rw [hb11]
  obtain ⟨ht12, hw⟩ := hw
  obtain ⟨h13, h14, hw⟩ := hw
  refine gx_iald hE ht12 h13 h14 dX3_between_19 ?_ hok
  intro hok
  exact gx_iret hE hR dX3_between_20 (by decide) (by decide) rfl ⟨_, rfl, rfl, rfl, rfl, rfl, hw⟩ hok

/-- WhalingLogs$Listing.canBoth(II)Z -/
def wx_X3_canBoth (X : XT) (o : Nat) (x1 : Int) (x2 : Int) (T : xT) (I : xI) (R : xR) (L : xL) (Q : Int → Prop) : Prop :=
  xtag T o = 7 ∧ wx_X3_between X o x1 x2 T I R L (fun (r2 : Int) => 
  ∃ b4 : Nat, R o 6 = some b4 ∧ xtag T b4 = 2 ∧
  ∃ b7 : Nat, R o 0 = some b7 ∧ xtag T b7 = 104 ∧ ib x1 (xlen T b7) ∧ xlen T b7 < 2147483648 ∧
  ∃ b12 : Nat, R b7 x1 = some b12 ∧ xtag T b12 = 12 ∧
  ∃ b15 : Nat, R o 0 = some b15 ∧ xtag T b15 = 104 ∧ ib x2 (xlen T b15) ∧ xlen T b15 < 2147483648 ∧
  ∃ b20 : Nat, R b15 x2 = some b20 ∧ xtag T b20 = 12 ∧
  ((-2147483648 : Int) < ((I b12 0) - (I b20 0)) ∧ (((I b12 0) - (I b20 0)) : Int) < 2147483648) ∧
  jn1 (fun (y0_44 : Int) => 
      bl y0_44 ∧ Q y0_44)
    (fun (J_44 : Int → Prop) =>
    cLt ((I b4 4) * (if 0 ≤ ((I b12 0) - (I b20 0)) then ((I b12 0) - (I b20 0)) else -((I b12 0) - (I b20 0)))) r2
      (
      J_44 0)
      (
      J_44 1)))
theorem hx_X3_canBoth : yX3_canBoth.cls = RX3 ∧ yX3_canBoth.cls ≠ "java/lang/invoke/MethodHandle" ∧ yX3_canBoth.cls ≠ "java/lang/invoke/VarHandle" ∧ (parseMethodDescriptor yX3_canBoth.desc).map (fun d => d.parameters.length) = some 2 := by decide +kernel
set_option maxHeartbeats 4000000 in
theorem tx_X3_canBoth (X : XT) {o : Nat} {x1 : Int} {x2 : Int} {T : xT} {I : xI} {R : xR} {L : xL} {Q : Int → Prop} (hw : wx_X3_canBoth X o x1 x2 T I R L Q) : CtX X yX3_canBoth cX3_canBoth 3 (some .boolean) (rmX 1 0 0 64) [aR (some o), aI x1, aI x2] T I R L (PXi T I R L Q) := by
  refine CtX.intro (by decide) (Nat.le_of_ble_eq_true rfl) (fun E hE hR hN => ?_)
  have hRm := hR.rm
  have hE : OkX E X RX3 cX3_canBoth 3 (some .boolean) := hE
  have hE1 := hE.1
  show GX E X T I R L 0 0 0 [some (aR (some o)), some (aI x1), some (aI x2)] []
  unfold wx_X3_canBoth at hw
  intro hok
  refine g_aldn0 hE1 dX3_canBoth_0 ?_
  refine g_ildn1 hE1 dX3_canBoth_1 ?_
  refine g_ildn2 hE1 dX3_canBoth_2 ?_
  obtain ⟨ht1, hw⟩ := hw
  refine gx_callV hE hRm (As := [aI x1, aI x2]) ht1 (by decide) (by decide) rfl hx_X3_between (tx_X3_between X hw) (lw_V q1435 q1436 q1437 q103 q1438) ⟨by decide, by decide⟩ ⟨(by decide), (by decide)⟩ rfl (Nat.le_of_ble_eq_true rfl) dX3_canBoth_3 rfl (fun r9 Tz Iz Rz Lz hΦ => ?_) hok
  obtain ⟨r2, rfl, rfl, rfl, rfl, rfl, hw⟩ := hΦ
  show GX E X T I R L 0 0 6 [some (aR (some o)), some (aI x1), some (aI x2)] [aI r2]
  intro hok
  refine g_aldn0 hE1 dX3_canBoth_6 ?_
  refine gx_getr hE in_X3 (t := 7) rfl (by decide) 6 6 rfl (by decide) rfl (by decide) rfl q296 (Or.inl rfl) ht1 dX3_canBoth_7 ?_ hok
  intro hok
  obtain ⟨b4, hb5, hw⟩ := hw
  rw [hb5]
  obtain ⟨ht6, hw⟩ := hw
  refine gx_getiN hE in_X1 (t := 2) rfl (by decide) 4 4 rfl (by decide) rfl (by decide) rfl q232 (Or.inl rfl) ht6 dX3_canBoth_10 ?_ hok
  intro hok
  refine g_aldn0 hE1 dX3_canBoth_13 ?_
  refine gx_getr hE in_X3 (t := 7) rfl (by decide) 0 0 rfl (by decide) rfl (by decide) rfl q286 (Or.inl rfl) ht1 dX3_canBoth_14 ?_ hok
  intro hok
  refine g_ildn1 hE1 dX3_canBoth_17 ?_
  obtain ⟨b7, hb8, hw⟩ := hw
  rw [hb8]
  obtain ⟨ht9, hw⟩ := hw
  obtain ⟨h10, h11, hw⟩ := hw
  refine gx_aald hE ht9 (by decide) h10 h11 dX3_canBoth_18 ?_ hok
  intro hok
  obtain ⟨b12, hb13, hw⟩ := hw
  rw [hb13]
  obtain ⟨ht14, hw⟩ := hw
  refine gx_getiN hE in_X6 (t := 12) rfl (by decide) 0 0 rfl (by decide) rfl (by decide) rfl q992 (Or.inl rfl) ht14 dX3_canBoth_19 ?_ hok
  intro hok
  refine g_aldn0 hE1 dX3_canBoth_22 ?_
  refine gx_getr hE in_X3 (t := 7) rfl (by decide) 0 0 rfl (by decide) rfl (by decide) rfl q286 (Or.inl rfl) ht1 dX3_canBoth_23 ?_ hok
  intro hok
  refine g_ildn2 hE1 dX3_canBoth_26 ?_
  obtain ⟨b15, hb16, hw⟩ := hw
  rw [hb16]
  obtain ⟨ht17, hw⟩ := hw
  obtain ⟨h18, h19, hw⟩ := hw
  refine gx_aald hE ht17 (by decide) h18 h19 dX3_canBoth_27 ?_ hok
  intro hok
  obtain ⟨b20, hb21, hw⟩ := hw
  rw [hb21]
  obtain ⟨ht22, hw⟩ := hw
  refine gx_getiN hE in_X6 (t := 12) rfl (by decide) 0 0 rfl (by decide) rfl (by decide) rfl q992 (Or.inl rfl) ht22 dX3_canBoth_28 ?_ hok
  intro hok
  refine g_isub hE1 dX3_canBoth_31 ?_
  obtain ⟨h23, hw⟩ := hw
  refine gx_abs hE hRm h23 q1439 q1326 q109 q1327 (by decide) (by decide) (by decide) (by decide) (Nat.le_of_ble_eq_true rfl) dX3_canBoth_32 ?_ hok
  intro hok
  refine g_imul hE1 dX3_canBoth_35 ?_
  refine jn1_walk (fun (y0_44 : Int) => GX E X T I R L 0 0 44 [some (aR (some o)), some (aI x1), some (aI x2)] [aI y0_44]) hw (fun y0_44 hw => ?_) (fun J_44 hj_44 hw => ?_)
  · intro hok
    obtain ⟨h24, hw⟩ := hw
    exact gx_iret hE hR dX3_canBoth_44 (by decide) (by decide) (narrow_bl h24) ⟨_, rfl, rfl, rfl, rfl, rfl, hw⟩ hok
  · skip
    obtain ⟨h25, h26, hT27, hN28⟩ := hw
    refine g_icmp_gt hE1 (tgt := 43) dX3_canBoth_36 (by decide) h26 h25 (fun q => ?_) (fun q => ?_)
    · have hw := hT27 q
      refine g_iconst hE1 dX3_canBoth_43 ?_
      exact hj_44 _ hw hok
    · have hw := hN28 q
      refine g_iconst hE1 dX3_canBoth_39 ?_
      refine g_goto hE1 (tgt := 44) dX3_canBoth_40 (by decide) ?_
      exact hj_44 _ hw hok

