set_option maxRecDepth 100000
/-- WhalingLogs.entry(IIII)I -/
def wx_X0_entry (X : XT) (o : Nat) (x1 : Int) (x2 : Int) (x3 : Int) (x4 : Int) (T : xT) (I : xI) (R : xR) (L : xL) (Q : Int → xT → xI → xR → xL → Prop) : Prop :=
  xtag T o = 1 ∧
  ∃ b2 : Nat, R o 0 = some b2 ∧ xtag T b2 = 2 ∧ wx_X1_copy X b2 T I R L (fun (r5 : Option Nat) (T6 : xT) (I7 : xI) (R8 : xR) (L9 : xL) => tle T T6 → 
  jn6 (fun (e_59 : Nat) (T_59 : xT) (I_59 : xI) (R_59 : xR) (k_59 : Nat) (n_59 : Nat) => 
      wx_X0_refused X o (some e_59) T_59 I_59 R_59 L9 (fun (r13 : Int) (I14 : xI) => 
      Q r13 T_59 I14 R_59 L9))
    (fun (J_59 : Nat → xT → xI → xR → Nat → Nat → Prop) =>
    ∃ b16 : Nat, R8 o 0 = some b16 ∧ xtag T6 b16 = 2 ∧ wx_X1_checkForEntry X b16 x1 x4 T6 I7 R8 L9 (fun (T19 : xT) (I20 : xI) (R21 : xR) => tle T6 T19 → 
      wx_X0_isIn X x2 0 999 T19 I20 R21 L9 (fun (r23 : Int) => 
      jn0 (
          Q (-2) T19 I20 R21 L9)
        (fun (J_37 : Prop) =>
        cEq r23 0
          (
          J_37)
          (
          wx_X0_isCell X x3 T19 I20 R21 L9 (fun (r25 : Int) => 
          cEq r25 0
            (
            J_37)
            (
            ∃ b28 : Nat, R21 o 0 = some b28 ∧ xtag T19 b28 = 2 ∧ wx_X1_addsEntry X b28 x1 x2 x3 x4 T19 I20 R21 L9 (fun (r31 : Int) (T32 : xT) (I33 : xI) (R34 : xR) => tle T19 T32 → 
              wx_X0_changed X o r5 r31 T32 I33 R34 L9 (fun (r37 : Int) (I38 : xI) (R39 : xR) => 
              Q r37 T32 I38 R39 L9))
              (fun (e41 : Nat) (T42 : xT) (I43 : xI) (R44 : xR) => tle T19 T42 → xtag T42 e41 = 14 → 
              J_59 e41 T42 I43 R44 164 1428)))))))
      (fun (e55 : Nat) (T56 : xT) (I57 : xI) (R58 : xR) => tle T6 T56 → xtag T56 e55 = 14 → 
      J_59 e55 T56 I57 R58 162 1416)))
theorem hx_X0_entry : yX0_entry.cls = RX0 ∧ yX0_entry.cls ≠ "java/lang/invoke/MethodHandle" ∧ yX0_entry.cls ≠ "java/lang/invoke/VarHandle" ∧ (parseMethodDescriptor yX0_entry.desc).map (fun d => d.parameters.length) = some 4 := by decide +kernel
set_option maxHeartbeats 4000000 in
theorem tx_X0_entry (X : XT) {o : Nat} {x1 : Int} {x2 : Int} {x3 : Int} {x4 : Int} {T : xT} {I : xI} {R : xR} {L : xL} {Q : Int → xT → xI → xR → xL → Prop} (hw : wx_X0_entry X o x1 x2 x3 x4 T I R L Q) : CtW X yX0_entry cX0_entry 7 (some .int) [(9, 39, 59, 55), (40, 58, 59, 55)] (rmX 7 164 1428 155) [aR (some o), aI x1, aI x2, aI x3, aI x4] T I R L (PXiTIRL T I R L Q) := by
  refine CtW.intro (by decide) (Nat.le_of_ble_eq_true rfl) (fun E hE hR hH hN => ?_)
  have hRm := hR.rm
  have hE : OkX E X RX0 cX0_entry 7 (some .int) := hE
  have hE1 := hE.1
  show GX E X T I R L 0 0 0 [some (aR (some o)), some (aI x1), some (aI x2), some (aI x3), some (aI x4), none, none] []
  unfold wx_X0_entry at hw
  intro hok
  refine g_aldn0 hE1 dX0_entry_0 ?_
  obtain ⟨ht1, hw⟩ := hw
  refine gx_getr hE in_X0 (t := 1) rfl (by decide) 0 0 rfl (by decide) rfl (by decide) rfl q353 (Or.inl rfl) ht1 dX0_entry_1 ?_ hok
  intro hok
  obtain ⟨b2, hb3, hw⟩ := hw
  rw [hb3]
  obtain ⟨ht4, hw⟩ := hw
  refine gx_callV hE hRm (As := []) ht4 (by decide) (by decide) rfl hx_X1_copy (tx_X1_copy X hw) (lw_V q395 q396 q397 q95 q398) ⟨by decide, by decide⟩ ⟨(by decide), (by decide)⟩ rfl (Nat.le_of_ble_eq_true rfl) dX0_entry_4 rfl (fun r9 T6 I7 R8 L9 hΦ => ?_) hok
  obtain ⟨r5, rfl, hl10, hw⟩ := hΦ
  have hw := hw hl10
  show GX E X T6 I7 R8 L9 160 1400 7 [some (aR (some o)), some (aI x1), some (aI x2), some (aI x3), some (aI x4), none, none] [aR r5]
  intro hok
  refine g_ast5 hE1 dX0_entry_7 (by decide) rfl ?_
  refine g_aldn0 hE1 dX0_entry_9 ?_
  have ht11 := hl10.tag ht1 (by decide)
  refine gx_getr hE in_X0 (t := 1) rfl (by decide) 0 0 rfl (by decide) rfl (by decide) rfl q353 (Or.inl rfl) ht11 dX0_entry_10 ?_ hok
  intro hok
  refine g_ildn1 hE1 dX0_entry_13 ?_
  refine g_ild4 hE1 dX0_entry_14 ?_
  refine jn6_walk (fun (e_59 : Nat) (T_59 : xT) (I_59 : xI) (R_59 : xR) (k_59 : Nat) (n_59 : Nat) => tle T6 T_59 → k_59 ≤ 164 → n_59 ≤ 1428 → GX E X T_59 I_59 R_59 L9 k_59 n_59 59 [some (aR (some o)), some (aI x1), some (aI x2), some (aI x3), some (aI x4), some (aR r5), none] [aR (some e_59)]) hw (fun e_59 T_59 I_59 R_59 k_59 n_59 hw => ?_) (fun J_59 hj_59 hw => ?_)
  · intro hl_59 hkc_59 hnc_59; intro hok
    refine g_ast6 hE1 dX0_entry_59 (by decide) rfl ?_
    refine g_aldn0 hE1 dX0_entry_61 ?_
    refine g_ald6 hE1 dX0_entry_62 ?_
    have ht12 := (hl10.tr hl_59).tag ht1 (by decide)
    refine gx_callV hE hRm (As := [aR (some e_59)]) ht12 (by decide) (by decide) rfl hx_X0_refused (tx_X0_refused X hw) (lw_V q1204 q1206 qs19 q94 q1207) ⟨by decide, by decide⟩ ⟨(show k_59 + 0 ≤ 164 by omega), (show n_59 + 0 ≤ 1428 by omega)⟩ rfl (Nat.le_of_ble_eq_true rfl) dX0_entry_64 rfl (fun r9 Tz I14 Rz Lz hΦ => ?_) hok
    obtain ⟨r13, rfl, rfl, rfl, rfl, hw⟩ := hΦ
    show GX E X T_59 I14 R_59 L9 k_59 n_59 67 [some (aR (some o)), some (aI x1), some (aI x2), some (aI x3), some (aI x4), some (aR r5), some (aR (some e_59))] [aI r13]
    intro hok
    exact gx_iret hE hR dX0_entry_67 (show k_59 ≤ 164 by omega) (show n_59 ≤ 1428 by omega) rfl ⟨_, rfl, (hl10.tr hl_59), hw⟩ hok
  · skip
    obtain ⟨b16, hb17, hw⟩ := hw
    rw [hb17]
    obtain ⟨ht18, hw⟩ := hw
    refine gy_callV hE hRm (As := [aI x1, aI x4]) ht18 (by decide) (by decide) rfl hx_X1_checkForEntry (tx_X1_checkForEntry X hw) (lw_V q1256 q1257 q1258 q95 q1259) ⟨by decide, by decide⟩ ⟨(by decide), (by decide)⟩ rfl (Nat.le_of_ble_eq_true rfl) dX0_entry_16 rfl (fun r9 T19 I20 R21 Lz hΦ => ?_) (fun Ec q9 T56 I57 R58 Lz hΦ => ?_) hok
    · obtain ⟨rfl, rfl, hl22, hw⟩ := hΦ
      have hw := hw hl22
      show GX E X T19 I20 R21 L9 162 1416 19 [some (aR (some o)), some (aI x1), some (aI x2), some (aI x3), some (aI x4), some (aR r5), none] []
      intro hok
      refine g_ildn2 hE1 dX0_entry_19 ?_
      refine g_iconst hE1 dX0_entry_20 ?_
      refine g_sipush hE1 dX0_entry_21 (by decide) ?_
      refine gx_callS hE hRm (As := [aI x2, aI 0, aI 999]) hx_X0_isIn (tx_X0_isIn X hw) (lw_S q392 q393 q94 q394) ⟨by decide, by decide⟩ ⟨(by decide), (by decide)⟩ rfl (Nat.le_of_ble_eq_true rfl) dX0_entry_24 rfl (fun r9 Tz Iz Rz Lz hΦ => ?_) hok
      obtain ⟨r23, rfl, rfl, rfl, rfl, rfl, hw⟩ := hΦ
      show GX E X T19 I20 R21 L9 162 1416 27 [some (aR (some o)), some (aI x1), some (aI x2), some (aI x3), some (aI x4), some (aR r5), none] [aI r23]
      intro hok
      refine jn0_walk (GX E X T19 I20 R21 L9 162 1416 37 [some (aR (some o)), some (aI x1), some (aI x2), some (aI x3), some (aI x4), some (aR r5), none] []) hw (fun  hw => ?_) (fun J_37 hj_37 hw => ?_)
      · intro hok
        refine g_bipush hE1 dX0_entry_37 (by decide) ?_
        exact gx_iret hE hR dX0_entry_39 (by decide) (by decide) rfl ⟨_, rfl, (hl10.tr hl22), hw⟩ hok
      · skip
        obtain ⟨h51, h52, hT53, hN54⟩ := hw
        refine g_if_eq hE1 (tgt := 37) dX0_entry_27 (by decide) h51 (fun q => ?_) (fun q => ?_)
        · have hw := hT53 q
          exact hj_37  hw hok
        · have hw := hN54 q
          refine g_ildn3 hE1 dX0_entry_30 ?_
          refine gx_callS hE hRm (As := [aI x3]) hx_X0_isCell (tx_X0_isCell X hw) (lw_S q389 q390 q94 q391) ⟨by decide, by decide⟩ ⟨(by decide), (by decide)⟩ rfl (Nat.le_of_ble_eq_true rfl) dX0_entry_31 rfl (fun r9 Tz Iz Rz Lz hΦ => ?_) hok
          obtain ⟨r25, rfl, rfl, rfl, rfl, rfl, hw⟩ := hΦ
          show GX E X T19 I20 R21 L9 162 1416 34 [some (aR (some o)), some (aI x1), some (aI x2), some (aI x3), some (aI x4), some (aR r5), none] [aI r25]
          intro hok
          obtain ⟨h47, h48, hT49, hN50⟩ := hw
          refine g_if_ne hE1 (tgt := 40) dX0_entry_34 (by decide) h47 (fun q => ?_) (fun q => ?_)
          · have hw := hT49 q
            exact hj_37  hw hok
          · have hw := hN50 q
            refine g_aldn0 hE1 dX0_entry_40 ?_
            refine g_ald5 hE1 dX0_entry_41 ?_
            refine g_aldn0 hE1 dX0_entry_43 ?_
            have ht27 := (hl10.tr hl22).tag ht1 (by decide)
            refine gx_getr hE in_X0 (t := 1) rfl (by decide) 0 0 rfl (by decide) rfl (by decide) rfl q353 (Or.inl rfl) ht27 dX0_entry_44 ?_ hok
            intro hok
            refine g_ildn1 hE1 dX0_entry_47 ?_
            refine g_ildn2 hE1 dX0_entry_48 ?_
            refine g_ildn3 hE1 dX0_entry_49 ?_
            refine g_ild4 hE1 dX0_entry_50 ?_
            obtain ⟨b28, hb29, hw⟩ := hw
            rw [hb29]
            obtain ⟨ht30, hw⟩ := hw
            refine gy_callV hE hRm (As := [aI x1, aI x2, aI x3, aI x4]) ht30 (by decide) (by decide) rfl hx_X1_addsEntry (tx_X1_addsEntry X hw) (lw_V q1269 q1270 q1271 q95 q1272) ⟨by decide, by decide⟩ ⟨(by decide), (by decide)⟩ rfl (Nat.le_of_ble_eq_true rfl) dX0_entry_52 rfl (fun r9 T32 I33 R34 Lz hΦ => ?_) (fun Ec q9 T42 I43 R44 Lz hΦ => ?_) hok
            · obtain ⟨r31, rfl, rfl, hl35, hw⟩ := hΦ
              have hw := hw hl35
              show GX E X T32 I33 R34 L9 164 1428 55 [some (aR (some o)), some (aI x1), some (aI x2), some (aI x3), some (aI x4), some (aR r5), none] [aI r31, aR r5, aR (some o)]
              intro hok
              have ht36 := ((hl10.tr hl22).tr hl35).tag ht1 (by decide)
              refine gx_callV hE hRm (As := [aR r5, aI r31]) ht36 (by decide) (by decide) rfl hx_X0_changed (tx_X0_changed X hw) (lw_V q1163 q1165 qs16 q94 q1166) ⟨by decide, by decide⟩ ⟨(by decide), (by decide)⟩ rfl (Nat.le_of_ble_eq_true rfl) dX0_entry_55 rfl (fun r9 Tz I38 R39 Lz hΦ => ?_) hok
              obtain ⟨r37, rfl, rfl, rfl, hw⟩ := hΦ
              show GX E X T32 I38 R39 L9 164 1428 58 [some (aR (some o)), some (aI x1), some (aI x2), some (aI x3), some (aI x4), some (aR r5), none] [aI r37]
              intro hok
              exact gx_iret hE hR dX0_entry_58 (by decide) (by decide) rfl ⟨_, rfl, ((hl10.tr hl22).tr hl35), hw⟩ hok
            · have hq9 : ∃ q8, q8 = q9 := ⟨_, rfl⟩
              obtain ⟨e41, rfl⟩ := hq9
              obtain ⟨rfl, rfl, hl45, ht46, hw⟩ := hΦ
              have hw := hw hl45 ht46
              refine gx_catch hE hH [⟨9, 39, 59, 55⟩] ⟨40, 58, 59, 55⟩ [] rfl (List.forall_mem_cons.mpr ⟨Or.inl (by decide), (fun _ h9 => nomatch h9)⟩) (by decide) (by decide) q388 q1106 ?_
              show GX E X T42 I43 R44 L9 164 1428 59 [some (aR (some o)), some (aI x1), some (aI x2), some (aI x3), some (aI x4), some (aR r5), none] [aR (some e41)]
              intro hok
              exact hj_59 _ _ _ _ _ _ hw (hl22.tr hl45) (by omega) (by omega) hok
    · have hq9 : ∃ q8, q8 = q9 := ⟨_, rfl⟩
      obtain ⟨e55, rfl⟩ := hq9
      obtain ⟨rfl, rfl, hl59, ht60, hw⟩ := hΦ
      have hw := hw hl59 ht60
      refine gx_catch hE hH [] ⟨9, 39, 59, 55⟩ [⟨40, 58, 59, 55⟩] rfl (fun _ h9 => nomatch h9) (by decide) (by decide) q388 q1106 ?_
      show GX E X T56 I57 R58 L9 162 1416 59 [some (aR (some o)), some (aI x1), some (aI x2), some (aI x3), some (aI x4), some (aR r5), none] [aR (some e55)]
      intro hok
      exact hj_59 _ _ _ _ _ _ hw hl59 (by omega) (by omega) hok

/-- java/util/LinkedList.unlink(Ljava/util/LinkedList$Node;)Ljava/lang/Object; -/
def wx_J4_unlink (X : XT) (o : Nat) (x1 : Option Nat) (T : xT) (I : xI) (R : xR) (L : xL) (Q : Option Nat → xI → xR → Prop) : Prop :=
  ∃ b1 : Nat, x1 = some b1 ∧ xtag T b1 = 13 ∧
  jn1 (fun (R_40 : xR) => 
      jn1 (fun (R_64 : xR) => 
          ∀ R4 : xR, R4 = uR R_64 b1 0 none →
          xtag T o = 4 ∧
          ∀ I6 : xI, I6 = uI I o 1 ((I o 1) - 1) →
          ∀ I7 : xI, I7 = uI I6 o 0 ((I6 o 0) + 1) →
          Q (R b1 0) I7 R4)
        (fun (J_64 : xR → Prop) =>
        (R b1 1 = none →
          xtag T o = 4 ∧ ∀ R11 : xR, R11 = uR R_40 o 3 (R b1 2) →
          J_64 R11) ∧
        (∀ b8 : Nat, R b1 1 = some b8 →
          xtag T b8 = 13 ∧ ∀ R13 : xR, R13 = uR R_40 b8 2 (R b1 2) →
          ∀ R14 : xR, R14 = uR R13 b1 1 none →
          J_64 R14)))
    (fun (J_40 : xR → Prop) =>
    (R b1 2 = none →
      xtag T o = 4 ∧ ∀ R18 : xR, R18 = uR R o 2 (R b1 1) →
      J_40 R18) ∧
    (∀ b15 : Nat, R b1 2 = some b15 →
      xtag T b15 = 13 ∧ ∀ R20 : xR, R20 = uR R b15 1 (R b1 1) →
      ∀ R21 : xR, R21 = uR R20 b1 2 none →
      J_40 R21))
theorem hx_J4_unlink : yJ4_unlink.cls = RJ4 ∧ yJ4_unlink.cls ≠ "java/lang/invoke/MethodHandle" ∧ yJ4_unlink.cls ≠ "java/lang/invoke/VarHandle" ∧ (parseMethodDescriptor yJ4_unlink.desc).map (fun d => d.parameters.length) = some 1 := by decide +kernel
set_option maxHeartbeats 4000000 in
theorem tx_J4_unlink (X : XT) {o : Nat} {x1 : Option Nat} {T : xT} {I : xI} {R : xR} {L : xL} {Q : Option Nat → xI → xR → Prop} (hw : wx_J4_unlink X o x1 T I R L Q) : CtX X yJ4_unlink cJ4_unlink 5 (some (.object "java/lang/Object")) (rmX 0 0 0 0) [aR (some o), aR x1] T I R L (PXqIR T I R L Q) := by
  refine CtX.intro (by decide) (Nat.le_of_ble_eq_true rfl) (fun E hE hR hN => ?_)
  have hRm := hR.rm
  have hE : OkX E X RJ4 cJ4_unlink 5 (some (.object "java/lang/Object")) := hE
  have hE1 := hE.1
  show GX E X T I R L 0 0 0 [some (aR (some o)), some (aR x1), none, none, none] []
  unfold wx_J4_unlink at hw
  intro hok
  refine g_aldn1 hE1 dJ4_unlink_0 ?_
  obtain ⟨b1, hb2, hw⟩ := hw
  rw [hb2]
  obtain ⟨ht3, hw⟩ := hw
  refine gx_getr hE in_J25 (t := 13) rfl (by decide) 0 0 rfl (by decide) rfl (by decide) rfl q1059 (Or.inl rfl) ht3 dJ4_unlink_1 ?_ hok
  intro hok
  refine g_astn2 hE1 dJ4_unlink_4 (by decide) rfl ?_
  refine g_aldn1 hE1 dJ4_unlink_5 ?_
  refine gx_getr hE in_J25 (t := 13) rfl (by decide) 1 1 rfl (by decide) rfl (by decide) rfl q1062 (Or.inl rfl) ht3 dJ4_unlink_6 ?_ hok
  intro hok
  refine g_astn3 hE1 dJ4_unlink_9 (by decide) rfl ?_
  refine g_aldn1 hE1 dJ4_unlink_10 ?_
  refine gx_getr hE in_J25 (t := 13) rfl (by decide) 2 2 rfl (by decide) rfl (by decide) rfl q1064 (Or.inl rfl) ht3 dJ4_unlink_11 ?_ hok
  intro hok
  refine g_ast4 hE1 dJ4_unlink_14 (by decide) rfl ?_
  refine g_ald4 hE1 dJ4_unlink_16 ?_
  refine jn1_walk (fun (R_40 : xR) => GX E X T I R_40 L 0 0 40 [some (aR (some o)), some (aR (some b1)), some (aR (R b1 0)), some (aR (R b1 1)), some (aR (R b1 2))] []) hw (fun R_40 hw => ?_) (fun J_40 hj_40 hw => ?_)
  · intro hok
    refine g_aldn3 hE1 dJ4_unlink_40 ?_
    refine jn1_walk (fun (R_64 : xR) => GX E X T I R_64 L 0 0 64 [some (aR (some o)), some (aR (some b1)), some (aR (R b1 0)), some (aR (R b1 1)), some (aR (R b1 2))] []) hw (fun R_64 hw => ?_) (fun J_64 hj_64 hw => ?_)
    · intro hok
      refine g_aldn1 hE1 dJ4_unlink_64 ?_
      refine g_null hE1 dJ4_unlink_65 ?_
      refine gx_putr hE in_J25 (t := 13) rfl (by decide) 0 0 rfl (by decide) rfl (by decide) (ty := tyJ25 0) tyJ25 tyJ25_ok nmJ25 rfl q1059 (Or.inl rfl) rfl (tyJ25_ok 0 (by decide)) nar_o fit_o ht3 dJ4_unlink_66 ?_ hok
      intro hok
      have hw := hw _ rfl
      generalize uR R_64 b1 0 none = R4 at hw hok ⊢
      refine g_aldn0 hE1 dJ4_unlink_69 ?_
      refine g_dup hE1 dJ4_unlink_70 rfl ?_
      obtain ⟨ht5, hw⟩ := hw
      refine gx_geti hE in_J4 (t := 4) rfl (by decide) 1 1 rfl (by decide) rfl (by decide) rfl q198 (Or.inl rfl) ht5 dJ4_unlink_71 ?_ hok
      intro hok
      refine g_iconst hE1 dJ4_unlink_74 ?_
      refine g_isub hE1 dJ4_unlink_75 ?_
      refine gx_puti hE in_J4 (t := 4) rfl (by decide) 1 1 rfl (by decide) rfl (by decide) (ty := tyJ4 1) tyJ4 tyJ4_ok nmJ4 rfl q198 (Or.inl rfl) rfl (tyJ4_ok 1 (by decide)) rfl rfl ht5 dJ4_unlink_76 ?_ hok
      intro hok
      have hw := hw _ rfl
      generalize uI I o 1 ((I o 1) - 1) = I6 at hw hok ⊢
      refine g_aldn0 hE1 dJ4_unlink_79 ?_
      refine g_dup hE1 dJ4_unlink_80 rfl ?_
      refine gx_geti hE in_J4 (t := 4) rfl (by decide) 0 0 rfl (by decide) rfl (by decide) rfl q209 (Or.inr q205) ht5 dJ4_unlink_81 ?_ hok
      intro hok
      refine g_iconst hE1 dJ4_unlink_84 ?_
      refine g_iadd hE1 dJ4_unlink_85 ?_
      refine gx_puti hE in_J4 (t := 4) rfl (by decide) 0 0 rfl (by decide) rfl (by decide) (ty := tyJ4 0) tyJ4 tyJ4_ok nmJ4 rfl q209 (Or.inr q205) rfl (tyJ4_ok 0 (by decide)) rfl rfl ht5 dJ4_unlink_86 ?_ hok
      intro hok
      have hw := hw _ rfl
      generalize uI I6 o 0 ((I6 o 0) + 1) = I7 at hw hok ⊢
      refine g_aldn2 hE1 dJ4_unlink_89 ?_
      exact gx_aret hE hR dJ4_unlink_90 (by decide) (by decide) (Or.inl ⟨_, rfl⟩) ⟨_, rfl, rfl, rfl, hw⟩ hok
    · skip
      refine g_ifnonnull hE1 (tgt := 53) dJ4_unlink_41 (by decide) (fun q => ?_) (fun b8 hb9 => ?_)
      · have hw := hw.1 q
        refine g_aldn0 hE1 dJ4_unlink_44 ?_
        refine g_ald4 hE1 dJ4_unlink_45 ?_
        obtain ⟨ht10, hw⟩ := hw
        refine gx_putr hE in_J4 (t := 4) rfl (by decide) 3 3 rfl (by decide) rfl (by decide) (ty := tyJ4 3) tyJ4 tyJ4_ok nmJ4 rfl q201 (Or.inl rfl) rfl (tyJ4_ok 3 (by decide)) nar_o fit_o ht10 dJ4_unlink_47 ?_ hok
        intro hok
        have hw := hw _ rfl
        generalize uR R_40 o 3 (R b1 2) = R11 at hw hok ⊢
        refine g_goto hE1 (tgt := 64) dJ4_unlink_50 (by decide) ?_
        exact hj_64 _ hw hok
      · have hw := hw.2 b8 hb9
        rw [hb9]
        refine g_aldn3 hE1 dJ4_unlink_53 ?_
        refine g_ald4 hE1 dJ4_unlink_54 ?_
        obtain ⟨ht12, hw⟩ := hw
        refine gx_putr hE in_J25 (t := 13) rfl (by decide) 2 2 rfl (by decide) rfl (by decide) (ty := tyJ25 2) tyJ25 tyJ25_ok nmJ25 rfl q1064 (Or.inl rfl) rfl (tyJ25_ok 2 (by decide)) nar_o fit_o ht12 dJ4_unlink_56 ?_ hok
        intro hok
        have hw := hw _ rfl
        generalize uR R_40 b8 2 (R b1 2) = R13 at hw hok ⊢
        refine g_aldn1 hE1 dJ4_unlink_59 ?_
        refine g_null hE1 dJ4_unlink_60 ?_
        refine gx_putr hE in_J25 (t := 13) rfl (by decide) 1 1 rfl (by decide) rfl (by decide) (ty := tyJ25 1) tyJ25 tyJ25_ok nmJ25 rfl q1062 (Or.inl rfl) rfl (tyJ25_ok 1 (by decide)) nar_o fit_o ht3 dJ4_unlink_61 ?_ hok
        intro hok
        have hw := hw _ rfl
        generalize uR R13 b1 1 none = R14 at hw hok ⊢
        simpa only [hb2, hb9] using hj_64 _ hw hok
  · skip
    refine g_ifnonnull hE1 (tgt := 29) dJ4_unlink_18 (by decide) (fun q => ?_) (fun b15 hb16 => ?_)
    · have hw := hw.1 q
      refine g_aldn0 hE1 dJ4_unlink_21 ?_
      refine g_aldn3 hE1 dJ4_unlink_22 ?_
      obtain ⟨ht17, hw⟩ := hw
      refine gx_putr hE in_J4 (t := 4) rfl (by decide) 2 2 rfl (by decide) rfl (by decide) (ty := tyJ4 2) tyJ4 tyJ4_ok nmJ4 rfl q200 (Or.inl rfl) rfl (tyJ4_ok 2 (by decide)) nar_o fit_o ht17 dJ4_unlink_23 ?_ hok
      intro hok
      have hw := hw _ rfl
      generalize uR R o 2 (R b1 1) = R18 at hw hok ⊢
      refine g_goto hE1 (tgt := 40) dJ4_unlink_26 (by decide) ?_
      exact hj_40 _ hw hok
    · have hw := hw.2 b15 hb16
      rw [hb16]
      refine g_ald4 hE1 dJ4_unlink_29 ?_
      refine g_aldn3 hE1 dJ4_unlink_31 ?_
      obtain ⟨ht19, hw⟩ := hw
      refine gx_putr hE in_J25 (t := 13) rfl (by decide) 1 1 rfl (by decide) rfl (by decide) (ty := tyJ25 1) tyJ25 tyJ25_ok nmJ25 rfl q1062 (Or.inl rfl) rfl (tyJ25_ok 1 (by decide)) nar_o fit_o ht19 dJ4_unlink_32 ?_ hok
      intro hok
      have hw := hw _ rfl
      generalize uR R b15 1 (R b1 1) = R20 at hw hok ⊢
      refine g_aldn1 hE1 dJ4_unlink_35 ?_
      refine g_null hE1 dJ4_unlink_36 ?_
      refine gx_putr hE in_J25 (t := 13) rfl (by decide) 2 2 rfl (by decide) rfl (by decide) (ty := tyJ25 2) tyJ25 tyJ25_ok nmJ25 rfl q1064 (Or.inl rfl) rfl (tyJ25_ok 2 (by decide)) nar_o fit_o ht3 dJ4_unlink_37 ?_ hok
      intro hok
      have hw := hw _ rfl
      generalize uR R20 b1 2 none = R21 at hw hok ⊢
      simpa only [hb2, hb16] using hj_40 _ hw hok

/-- java/util/LinkedList.remove(I)Ljava/lang/Object; -/
def wx_J4_remove (X : XT) (o : Nat) (x1 : Int) (T : xT) (I : xI) (R : xR) (L : xL) (Q : Option Nat → xI → xR → Prop) : Prop :=
  xtag T o = 4 ∧ wx_J4_checkElementIndex X o x1 T I R L (
  wx_J4_node X o x1 T I R L (fun (r3 : Option Nat) => 
  wx_J4_unlink X o r3 T I R L (fun (r5 : Option Nat) (I6 : xI) (R7 : xR) => 
  Q r5 I6 R7)))
theorem hx_J4_remove : yJ4_remove.cls = RJ4 ∧ yJ4_remove.cls ≠ "java/lang/invoke/MethodHandle" ∧ yJ4_remove.cls ≠ "java/lang/invoke/VarHandle" ∧ (parseMethodDescriptor yJ4_remove.desc).map (fun d => d.parameters.length) = some 1 := by decide +kernel
set_option maxHeartbeats 4000000 in
theorem tx_J4_remove (X : XT) {o : Nat} {x1 : Int} {T : xT} {I : xI} {R : xR} {L : xL} {Q : Option Nat → xI → xR → Prop} (hw : wx_J4_remove X o x1 T I R L Q) : CtX X yJ4_remove cJ4_remove 2 (some (.object "java/lang/Object")) (rmX 2 0 0 42) [aR (some o), aI x1] T I R L (PXqIR T I R L Q) := by
  refine CtX.intro (by decide) (Nat.le_of_ble_eq_true rfl) (fun E hE hR hN => ?_)
  have hRm := hR.rm
  have hE : OkX E X RJ4 cJ4_remove 2 (some (.object "java/lang/Object")) := hE
  have hE1 := hE.1
  show GX E X T I R L 0 0 0 [some (aR (some o)), some (aI x1)] []
  unfold wx_J4_remove at hw
  intro hok
  refine g_aldn0 hE1 dJ4_remove_0 ?_
  refine g_ildn1 hE1 dJ4_remove_1 ?_
  obtain ⟨ht1, hw⟩ := hw
  refine gx_callV hE hRm (As := [aI x1]) ht1 (by decide) (by decide) rfl hx_J4_checkElementIndex (tx_J4_checkElementIndex X hw) (lw_V q598 q600 qs6 q100 q601) ⟨by decide, by decide⟩ ⟨(by decide), (by decide)⟩ rfl (Nat.le_of_ble_eq_true rfl) dJ4_remove_2 rfl (fun r9 Tz Iz Rz Lz hΦ => ?_) hok
  obtain ⟨rfl, rfl, rfl, rfl, rfl, hw⟩ := hΦ
  show GX E X T I R L 0 0 5 [some (aR (some o)), some (aI x1)] []
  intro hok
  refine g_aldn0 hE1 dJ4_remove_5 ?_
  refine g_aldn0 hE1 dJ4_remove_6 ?_
  refine g_ildn1 hE1 dJ4_remove_7 ?_
  refine gx_callV hE hRm (As := [aI x1]) ht1 (by decide) (by decide) rfl hx_J4_node (tx_J4_node X hw) (lw_V q606 q504 q505 q100 q506) ⟨by decide, by decide⟩ ⟨(by decide), (by decide)⟩ rfl (Nat.le_of_ble_eq_true rfl) dJ4_remove_8 rfl (fun r9 Tz Iz Rz Lz hΦ => ?_) hok
  obtain ⟨r3, rfl, rfl, rfl, rfl, rfl, hw⟩ := hΦ
  show GX E X T I R L 0 0 11 [some (aR (some o)), some (aI x1)] [aR r3, aR (some o)]
  intro hok
  refine gx_callV hE hRm (As := [aR r3]) ht1 (by decide) (by decide) rfl hx_J4_unlink (tx_J4_unlink X hw) (lw_V q1287 q1288 q1289 q100 q1290) ⟨by decide, by decide⟩ ⟨(by decide), (by decide)⟩ rfl (Nat.le_of_ble_eq_true rfl) dJ4_remove_11 rfl (fun r9 Tz I6 R7 Lz hΦ => ?_) hok
  obtain ⟨r5, rfl, rfl, rfl, hw⟩ := hΦ
  show GX E X T I6 R7 L 0 0 14 [some (aR (some o)), some (aI x1)] [aR r5]
  intro hok
  exact gx_aret hE hR dJ4_remove_14 (by decide) (by decide) (Or.inl ⟨_, rfl⟩) ⟨_, rfl, rfl, rfl, hw⟩ hok

/-- java/util/LinkedList.linkBefore(Ljava/lang/Object;Ljava/util/LinkedList$Node;)V -/
def wx_J4_linkBefore (X : XT) (o : Nat) (x1 : Option Nat) (x2 : Option Nat) (T : xT) (I : xI) (R : xR) (L : xL) (Q : xT → xI → xR → Prop) : Prop :=
  ∃ b1 : Nat, x2 = some b1 ∧ xtag T b1 = 13 ∧
  ∀ q4 : Nat, xtag T q4 = 0 → bsX X ≤ q4 → ∀ T7 : xT, T7 = xnew T q4 13 0 →
  wx_J25_init X q4 (R b1 2) x1 (some b1) T7 I R L (fun (R10 : xR) => 
  ∀ R13 : xR, R13 = uR R10 b1 2 (some q4) →
  jn1 (fun (R_42 : xR) => 
      xtag T7 o = 4 ∧
      ∀ I15 : xI, I15 = uI I o 1 ((I o 1) + 1) →
      ∀ I16 : xI, I16 = uI I15 o 0 ((I15 o 0) + 1) →
      Q T7 I16 R_42)
    (fun (J_42 : xR → Prop) =>
    (R b1 2 = none →
      xtag T7 o = 4 ∧ ∀ R20 : xR, R20 = uR R13 o 2 (some q4) →
      J_42 R20) ∧
    (∀ b17 : Nat, R b1 2 = some b17 →
      xtag T7 b17 = 13 ∧ ∀ R22 : xR, R22 = uR R13 b17 1 (some q4) →
      J_42 R22)))
theorem hx_J4_linkBefore : yJ4_linkBefore.cls = RJ4 ∧ yJ4_linkBefore.cls ≠ "java/lang/invoke/MethodHandle" ∧ yJ4_linkBefore.cls ≠ "java/lang/invoke/VarHandle" ∧ (parseMethodDescriptor yJ4_linkBefore.desc).map (fun d => d.parameters.length) = some 2 := by decide +kernel
set_option maxHeartbeats 4000000 in
theorem tx_J4_linkBefore (X : XT) {o : Nat} {x1 : Option Nat} {x2 : Option Nat} {T : xT} {I : xI} {R : xR} {L : xL} {Q : xT → xI → xR → Prop} (hw : wx_J4_linkBefore X o x1 x2 T I R L Q) : CtX X yJ4_linkBefore cJ4_linkBefore 5 none (rmX 2 1 3 43) [aR (some o), aR x1, aR x2] T I R L (PXvTIR T I R L Q) := by
  refine CtX.intro (by decide) (Nat.le_of_ble_eq_true rfl) (fun E hE hR hN => ?_)
  have hRm := hR.rm
  have hE : OkX E X RJ4 cJ4_linkBefore 5 none := hE
  have hE1 := hE.1
  show GX E X T I R L 0 0 0 [some (aR (some o)), some (aR x1), some (aR x2), none, none] []
  unfold wx_J4_linkBefore at hw
  intro hok
  refine g_aldn2 hE1 dJ4_linkBefore_0 ?_
  obtain ⟨b1, hb2, hw⟩ := hw
  rw [hb2]
  obtain ⟨ht3, hw⟩ := hw
  refine gx_getr hE in_J25 (t := 13) rfl (by decide) 2 2 rfl (by decide) rfl (by decide) rfl q1064 (Or.inl rfl) ht3 dJ4_linkBefore_1 ?_ hok
  intro hok
  refine g_astn3 hE1 dJ4_linkBefore_4 (by decide) rfl ?_
  refine gx_new hE hRm in_J25 tyJ25 tyJ25_ok (t := 13) rfl (by decide) (by decide) rfl (by decide) q1051 q1052 q128 (by decide) (by decide) dJ4_linkBefore_5 (fun q4 hq5 hbs6 => ?_) hok
  intro hok
  have hw := hw q4 hq5 hbs6 _ rfl
  have hl8 := tle.new (T := T) (q := q4) (t := 13) (n := 0) hq5
  have hT9 : xtag (xnew T q4 13 0) q4 = 13 := if_pos rfl
  generalize xnew T q4 13 0 = T7 at hw hl8 hok hT9 ⊢
  refine g_dup hE1 dJ4_linkBefore_8 rfl ?_
  refine g_aldn3 hE1 dJ4_linkBefore_9 ?_
  refine g_aldn1 hE1 dJ4_linkBefore_10 ?_
  refine g_aldn2 hE1 dJ4_linkBefore_11 ?_
  refine gx_callI hE hRm (As := [aR (R b1 2), aR x1, aR (some b1)]) (b := q4) hx_J25_init (lw_meth q1055) q1053 q128 q1054 rfl (tx_J25_init X hw) ⟨by decide, by decide⟩ ⟨(by decide), (by decide)⟩ rfl (Nat.le_of_ble_eq_true rfl) dJ4_linkBefore_12 rfl (fun r9 Tz Iz R10 Lz hΦ => ?_) hok
  obtain ⟨rfl, rfl, rfl, rfl, hw⟩ := hΦ
  show GX E X T7 I R10 L 1 3 15 [some (aR (some o)), some (aR x1), some (aR (some b1)), some (aR (R b1 2)), none] [aR (some q4)]
  intro hok
  refine g_ast4 hE1 dJ4_linkBefore_15 (by decide) rfl ?_
  refine g_aldn2 hE1 dJ4_linkBefore_17 ?_
  refine g_ald4 hE1 dJ4_linkBefore_18 ?_
  have ht12 := hl8.tag ht3 (by decide)
  refine gx_putr hE in_J25 (t := 13) rfl (by decide) 2 2 rfl (by decide) rfl (by decide) (ty := tyJ25 2) tyJ25 tyJ25_ok nmJ25 rfl q1064 (Or.inl rfl) rfl (tyJ25_ok 2 (by decide)) nar_o fit_o ht12 dJ4_linkBefore_20 ?_ hok
  intro hok
  have hw := hw _ rfl
  generalize uR R10 b1 2 (some q4) = R13 at hw hok ⊢
  refine g_aldn3 hE1 dJ4_linkBefore_23 ?_
  refine jn1_walk (fun (R_42 : xR) => GX E X T7 I R_42 L 1 3 42 [some (aR (some o)), some (aR x1), some (aR (some b1)), some (aR (R b1 2)), some (aR (some q4))] []) hw (fun R_42 hw => ?_) (fun J_42 hj_42 hw => ?_)
  · intro hok
    refine g_aldn0 hE1 dJ4_linkBefore_42 ?_
    refine g_dup hE1 dJ4_linkBefore_43 rfl ?_
    obtain ⟨ht14, hw⟩ := hw
    refine gx_geti hE in_J4 (t := 4) rfl (by decide) 1 1 rfl (by decide) rfl (by decide) rfl q198 (Or.inl rfl) ht14 dJ4_linkBefore_44 ?_ hok
    intro hok
    refine g_iconst hE1 dJ4_linkBefore_47 ?_
    refine g_iadd hE1 dJ4_linkBefore_48 ?_
    refine gx_puti hE in_J4 (t := 4) rfl (by decide) 1 1 rfl (by decide) rfl (by decide) (ty := tyJ4 1) tyJ4 tyJ4_ok nmJ4 rfl q198 (Or.inl rfl) rfl (tyJ4_ok 1 (by decide)) rfl rfl ht14 dJ4_linkBefore_49 ?_ hok
    intro hok
    have hw := hw _ rfl
    generalize uI I o 1 ((I o 1) + 1) = I15 at hw hok ⊢
    refine g_aldn0 hE1 dJ4_linkBefore_52 ?_
    refine g_dup hE1 dJ4_linkBefore_53 rfl ?_
    refine gx_geti hE in_J4 (t := 4) rfl (by decide) 0 0 rfl (by decide) rfl (by decide) rfl q209 (Or.inr q205) ht14 dJ4_linkBefore_54 ?_ hok
    intro hok
    refine g_iconst hE1 dJ4_linkBefore_57 ?_
    refine g_iadd hE1 dJ4_linkBefore_58 ?_
    refine gx_puti hE in_J4 (t := 4) rfl (by decide) 0 0 rfl (by decide) rfl (by decide) (ty := tyJ4 0) tyJ4 tyJ4_ok nmJ4 rfl q209 (Or.inr q205) rfl (tyJ4_ok 0 (by decide)) rfl rfl ht14 dJ4_linkBefore_59 ?_ hok
    intro hok
    have hw := hw _ rfl
    generalize uI I15 o 0 ((I15 o 0) + 1) = I16 at hw hok ⊢
    exact gx_vret hE hR dJ4_linkBefore_62 (by decide) (by decide) ⟨rfl, rfl, hl8, hw⟩ hok
  · skip
    refine g_ifnonnull hE1 (tgt := 36) dJ4_linkBefore_24 (by decide) (fun q => ?_) (fun b17 hb18 => ?_)
    · have hw := hw.1 q
      refine g_aldn0 hE1 dJ4_linkBefore_27 ?_
      refine g_ald4 hE1 dJ4_linkBefore_28 ?_
      obtain ⟨ht19, hw⟩ := hw
      refine gx_putr hE in_J4 (t := 4) rfl (by decide) 2 2 rfl (by decide) rfl (by decide) (ty := tyJ4 2) tyJ4 tyJ4_ok nmJ4 rfl q200 (Or.inl rfl) rfl (tyJ4_ok 2 (by decide)) nar_o fit_o ht19 dJ4_linkBefore_30 ?_ hok
      intro hok
      have hw := hw _ rfl
      generalize uR R13 o 2 (some q4) = R20 at hw hok ⊢
      refine g_goto hE1 (tgt := 42) dJ4_linkBefore_33 (by decide) ?_
      exact hj_42 _ hw hok
    · have hw := hw.2 b17 hb18
      rw [hb18]
      refine g_aldn3 hE1 dJ4_linkBefore_36 ?_
      refine g_ald4 hE1 dJ4_linkBefore_37 ?_
      obtain ⟨ht21, hw⟩ := hw
      refine gx_putr hE in_J25 (t := 13) rfl (by decide) 1 1 rfl (by decide) rfl (by decide) (ty := tyJ25 1) tyJ25 tyJ25_ok nmJ25 rfl q1062 (Or.inl rfl) rfl (tyJ25_ok 1 (by decide)) nar_o fit_o ht21 dJ4_linkBefore_39 ?_ hok
      intro hok
      have hw := hw _ rfl
      generalize uR R13 b17 1 (some q4) = R22 at hw hok ⊢
      simpa only [hb2, hb18] using hj_42 _ hw hok

/-- java/util/LinkedList.add(ILjava/lang/Object;)V -/
def wx_J4_add (X : XT) (o : Nat) (x1 : Int) (x2 : Option Nat) (T : xT) (I : xI) (R : xR) (L : xL) (Q : xT → xI → xR → Prop) : Prop :=
  xtag T o = 4 ∧ wx_J4_checkPositionIndex X o x1 T I R L (
  jn5 (fun (T_31 : xT) (I_31 : xI) (R_31 : xR) (k_31 : Nat) (n_31 : Nat) => 
      Q T_31 I_31 R_31)
    (fun (J_31 : xT → xI → xR → Nat → Nat → Prop) =>
    cEq x1 (I o 1)
      (
      wx_J4_linkLast X o x2 T I R L (fun (T3 : xT) (I4 : xI) (R5 : xR) => tle T T3 → 
      J_31 T3 I4 R5 1 3))
      (
      wx_J4_node X o x1 T I R L (fun (r7 : Option Nat) => 
      wx_J4_linkBefore X o x2 r7 T I R L (fun (T9 : xT) (I10 : xI) (R11 : xR) => tle T T9 → 
      J_31 T9 I10 R11 1 3)))))
theorem hx_J4_add : yJ4_add.cls = RJ4 ∧ yJ4_add.cls ≠ "java/lang/invoke/MethodHandle" ∧ yJ4_add.cls ≠ "java/lang/invoke/VarHandle" ∧ (parseMethodDescriptor yJ4_add.desc).map (fun d => d.parameters.length) = some 2 := by decide +kernel
set_option maxHeartbeats 4000000 in
theorem tx_J4_add (X : XT) {o : Nat} {x1 : Int} {x2 : Option Nat} {T : xT} {I : xI} {R : xR} {L : xL} {Q : xT → xI → xR → Prop} (hw : wx_J4_add X o x1 x2 T I R L Q) : CtX X yJ4_add cJ4_add 3 none (rmX 3 2 6 67) [aR (some o), aI x1, aR x2] T I R L (PXvTIR T I R L Q) := by
  refine CtX.intro (by decide) (Nat.le_of_ble_eq_true rfl) (fun E hE hR hN => ?_)
  have hRm := hR.rm
  have hE : OkX E X RJ4 cJ4_add 3 none := hE
  have hE1 := hE.1
  show GX E X T I R L 0 0 0 [some (aR (some o)), some (aI x1), some (aR x2)] []
  unfold wx_J4_add at hw
  intro hok
  refine g_aldn0 hE1 dJ4_add_0 ?_
  refine g_ildn1 hE1 dJ4_add_1 ?_
  obtain ⟨ht1, hw⟩ := hw
  refine gx_callV hE hRm (As := [aI x1]) ht1 (by decide) (by decide) rfl hx_J4_checkPositionIndex (tx_J4_checkPositionIndex X hw) (lw_V q489 q491 qs4 q100 q492) ⟨by decide, by decide⟩ ⟨(by decide), (by decide)⟩ rfl (Nat.le_of_ble_eq_true rfl) dJ4_add_2 rfl (fun r9 Tz Iz Rz Lz hΦ => ?_) hok
  obtain ⟨rfl, rfl, rfl, rfl, rfl, hw⟩ := hΦ
  show GX E X T I R L 0 0 5 [some (aR (some o)), some (aI x1), some (aR x2)] []
  intro hok
  refine g_ildn1 hE1 dJ4_add_5 ?_
  refine g_aldn0 hE1 dJ4_add_6 ?_
  refine gx_geti hE in_J4 (t := 4) rfl (by decide) 1 1 rfl (by decide) rfl (by decide) rfl q198 (Or.inl rfl) ht1 dJ4_add_7 ?_ hok
  intro hok
  refine jn5_walk (fun (T_31 : xT) (I_31 : xI) (R_31 : xR) (k_31 : Nat) (n_31 : Nat) => tle T T_31 → k_31 ≤ 2 → n_31 ≤ 6 → GX E X T_31 I_31 R_31 L k_31 n_31 31 [some (aR (some o)), some (aI x1), some (aR x2)] []) hw (fun T_31 I_31 R_31 k_31 n_31 hw => ?_) (fun J_31 hj_31 hw => ?_)
  · intro hl_31 hkc_31 hnc_31; intro hok
    exact gx_vret hE hR dJ4_add_31 (show k_31 ≤ 2 by omega) (show n_31 ≤ 6 by omega) ⟨rfl, rfl, hl_31, hw⟩ hok
  · skip
    obtain ⟨h13, h14, hT15, hN16⟩ := hw
    refine g_icmp_ne hE1 (tgt := 21) dJ4_add_10 (by decide) h13 h14 (fun q => ?_) (fun q => ?_)
    · have hw := hT15 q
      refine g_aldn0 hE1 dJ4_add_13 ?_
      refine g_aldn2 hE1 dJ4_add_14 ?_
      refine gx_callV hE hRm (As := [aR x2]) ht1 (by decide) (by decide) rfl hx_J4_linkLast (tx_J4_linkLast X hw) (lw_V q1047 q1048 q1049 q100 q1050) ⟨by decide, by decide⟩ ⟨(by decide), (by decide)⟩ rfl (Nat.le_of_ble_eq_true rfl) dJ4_add_15 rfl (fun r9 T3 I4 R5 Lz hΦ => ?_) hok
      obtain ⟨rfl, rfl, hl6, hw⟩ := hΦ
      have hw := hw hl6
      show GX E X T3 I4 R5 L 1 3 18 [some (aR (some o)), some (aI x1), some (aR x2)] []
      intro hok
      refine g_goto hE1 (tgt := 31) dJ4_add_18 (by decide) ?_
      exact hj_31 _ _ _ _ _ hw hl6 (by omega) (by omega) hok
    · have hw := hN16 q
      refine g_aldn0 hE1 dJ4_add_21 ?_
      refine g_aldn2 hE1 dJ4_add_22 ?_
      refine g_aldn0 hE1 dJ4_add_23 ?_
      refine g_ildn1 hE1 dJ4_add_24 ?_
      refine gx_callV hE hRm (As := [aI x1]) ht1 (by decide) (by decide) rfl hx_J4_node (tx_J4_node X hw) (lw_V q606 q504 q505 q100 q506) ⟨by decide, by decide⟩ ⟨(by decide), (by decide)⟩ rfl (Nat.le_of_ble_eq_true rfl) dJ4_add_25 rfl (fun r9 Tz Iz Rz Lz hΦ => ?_) hok
      obtain ⟨r7, rfl, rfl, rfl, rfl, rfl, hw⟩ := hΦ
      show GX E X T I R L 0 0 28 [some (aR (some o)), some (aI x1), some (aR x2)] [aR r7, aR x2, aR (some o)]
      intro hok
      refine gx_callV hE hRm (As := [aR x2, aR r7]) ht1 (by decide) (by decide) rfl hx_J4_linkBefore (tx_J4_linkBefore X hw) (lw_V q1296 q1297 q1298 q100 q1299) ⟨by decide, by decide⟩ ⟨(by decide), (by decide)⟩ rfl (Nat.le_of_ble_eq_true rfl) dJ4_add_28 rfl (fun r9 T9 I10 R11 Lz hΦ => ?_) hok
      obtain ⟨rfl, rfl, hl12, hw⟩ := hΦ
      have hw := hw hl12
      show GX E X T9 I10 R11 L 1 3 31 [some (aR (some o)), some (aI x1), some (aR x2)] []
      intro hok
      exact hj_31 _ _ _ _ _ hw hl12 (by omega) (by omega) hok

/-- WhalingLogs.listed()LWhalingLogs$Listing; -/
def wx_X0_listed (X : XT) (o : Nat)  (T : xT) (I : xI) (R : xR) (L : xL) (Q : Option Nat → xT → xI → xR → Prop) : Prop :=
  xtag T o = 1 ∧
  ∃ b2 : Nat, R o 6 = some b2 ∧ xtag T b2 = 7 ∧ wx_X3_lists X b2 (R o 0) T I R L (fun (r5 : Option Nat) (T6 : xT) (I7 : xI) (R8 : xR) => tle T T6 → 
  Q r5 T6 I7 R8)
theorem hx_X0_listed : yX0_listed.cls = RX0 ∧ yX0_listed.cls ≠ "java/lang/invoke/MethodHandle" ∧ yX0_listed.cls ≠ "java/lang/invoke/VarHandle" ∧ (parseMethodDescriptor yX0_listed.desc).map (fun d => d.parameters.length) = some 0 := by decide +kernel
set_option maxHeartbeats 4000000 in
theorem tx_X0_listed (X : XT) {o : Nat}  {T : xT} {I : xI} {R : xR} {L : xL} {Q : Option Nat → xT → xI → xR → Prop} (hw : wx_X0_listed X o T I R L Q) : CtX X yX0_listed cX0_listed 1 (some (.object "WhalingLogs$Listing")) (rmX 6 1 5 131) [aR (some o)] T I R L (PXqTIR T I R L Q) := by
  refine CtX.intro (by decide) (Nat.le_of_ble_eq_true rfl) (fun E hE hR hN => ?_)
  have hRm := hR.rm
  have hE : OkX E X RX0 cX0_listed 1 (some (.object "WhalingLogs$Listing")) := hE
  have hE1 := hE.1
  show GX E X T I R L 0 0 0 [some (aR (some o))] []
  unfold wx_X0_listed at hw
  intro hok
  refine g_aldn0 hE1 dX0_listed_0 ?_
  obtain ⟨ht1, hw⟩ := hw
  refine gx_getr hE in_X0 (t := 1) rfl (by decide) 6 6 rfl (by decide) rfl (by decide) rfl q359 (Or.inl rfl) ht1 dX0_listed_1 ?_ hok
  intro hok
  refine g_aldn0 hE1 dX0_listed_4 ?_
  refine gx_getr hE in_X0 (t := 1) rfl (by decide) 0 0 rfl (by decide) rfl (by decide) rfl q353 (Or.inl rfl) ht1 dX0_listed_5 ?_ hok
  intro hok
  obtain ⟨b2, hb3, hw⟩ := hw
  rw [hb3]
  obtain ⟨ht4, hw⟩ := hw
  refine gx_callV hE hRm (As := [aR (R o 0)]) ht4 (by decide) (by decide) rfl hx_X3_lists (tx_X3_lists X hw) (lw_V q1078 q1079 q1080 q103 q1081) ⟨by decide, by decide⟩ ⟨(by decide), (by decide)⟩ rfl (Nat.le_of_ble_eq_true rfl) dX0_listed_8 rfl (fun r9 T6 I7 R8 Lz hΦ => ?_) hok
  obtain ⟨r5, rfl, rfl, hl9, hw⟩ := hΦ
  have hw := hw hl9
  show GX E X T6 I7 R8 L 1 5 11 [some (aR (some o))] [aR r5]
  intro hok
  exact gx_aret hE hR dX0_listed_11 (by decide) (by decide) (Or.inl ⟨_, rfl⟩) ⟨_, rfl, rfl, hl9, hw⟩ hok

/-- WhalingLogs$Listing.crossings()I -/
def wx_X3_crossings (X : XT) (o : Nat)  (T : xT) (I : xI) (R : xR) (L : xL) (Q : Int → Prop) : Prop :=
  lq2 (fun (x1_4 : Int) (x2_4 : Int) (K_4 : Int → Int → Prop) =>
    xtag T o = 7 ∧
    cLt x2_4 (I o 7)
      (
      lq2 (fun (x1_16 : Int) (x3_16 : Int) (K_16 : Int → Int → Prop) =>
        cLt x3_16 (I o 7)
          (
          ∃ b2 : Nat, R o 1 = some b2 ∧ xtag T b2 = 100 ∧ ib x2_4 (xlen T b2) ∧ xlen T b2 < 2147483648 ∧
          ∃ b7 : Nat, R o 1 = some b7 ∧ xtag T b7 = 100 ∧ ib x3_16 (xlen T b7) ∧ xlen T b7 < 2147483648 ∧
          jn1 (fun (y1_66 : Int) => 
              K_16 (x1_16 + y1_66) (x3_16 + 1))
            (fun (J_66 : Int → Prop) =>
            jn0 (
                J_66 0)
              (fun (J_65 : Prop) =>
              cLt (I b7 x3_16) (I b2 x2_4)
                (
                ∃ b12 : Nat, R o 0 = some b12 ∧ xtag T b12 = 104 ∧ ib x2_4 (xlen T b12) ∧ xlen T b12 < 2147483648 ∧
                ∃ b17 : Nat, R b12 x2_4 = some b17 ∧ xtag T b17 = 12 ∧
                ∃ b20 : Nat, R o 0 = some b20 ∧ xtag T b20 = 104 ∧ ib x3_16 (xlen T b20) ∧ xlen T b20 < 2147483648 ∧
                ∃ b25 : Nat, R b20 x3_16 = some b25 ∧ xtag T b25 = 12 ∧
                cLt (I b17 0) (I b25 0)
                  (
                  J_66 1)
                  (
                  J_65))
                (
                J_65))))
          (
          K_4 x1_16 (x2_4 + 1))) x1_4 (x2_4 + 1))
      (
      Q x1_4)) 0 0
theorem hx_X3_crossings : yX3_crossings.cls = RX3 ∧ yX3_crossings.cls ≠ "java/lang/invoke/MethodHandle" ∧ yX3_crossings.cls ≠ "java/lang/invoke/VarHandle" ∧ (parseMethodDescriptor yX3_crossings.desc).map (fun d => d.parameters.length) = some 0 := by decide +kernel
set_option maxHeartbeats 4000000 in
theorem tx_X3_crossings (X : XT) {o : Nat}  {T : xT} {I : xI} {R : xR} {L : xL} {Q : Int → Prop} (hw : wx_X3_crossings X o T I R L Q) : CtX X yX3_crossings cX3_crossings 4 (some .int) (rmX 0 0 0 0) [aR (some o)] T I R L (PXi T I R L Q) := by
  refine CtX.intro (by decide) (Nat.le_of_ble_eq_true rfl) (fun E hE hR hN => ?_)
  have hRm := hR.rm
  have hE : OkX E X RX3 cX3_crossings 4 (some .int) := hE
  have hE1 := hE.1
  show GX E X T I R L 0 0 0 [some (aR (some o)), none, none, none] []
  unfold wx_X3_crossings at hw
  intro hok
  refine g_iconst hE1 dX3_crossings_0 ?_
  refine g_istn1 hE1 dX3_crossings_1 (by decide) rfl ?_
  refine g_iconst hE1 dX3_crossings_2 ?_
  refine g_istn2 hE1 dX3_crossings_3 (by decide) rfl ?_
  refine lq2_walk (fun (x1_4 : Int) (x2_4 : Int) => GX E X T I R L 0 0 4 [some (aR (some o)), some (aI x1_4), some (aI x2_4), none] []) (fun K_4 hk_4 x1_4 x2_4 hw => ?_) _ _ hw hok
  intro hok
  refine g_ildn2 hE1 dX3_crossings_4 ?_
  refine g_aldn0 hE1 dX3_crossings_5 ?_
  obtain ⟨ht1, hw⟩ := hw
  refine gx_geti hE in_X3 (t := 7) rfl (by decide) 7 7 rfl (by decide) rfl (by decide) rfl q297 (Or.inl rfl) ht1 dX3_crossings_6 ?_ hok
  intro hok
  obtain ⟨h40, h41, hT42, hN43⟩ := hw
  refine g_icmp_ge hE1 (tgt := 80) dX3_crossings_9 (by decide) h40 h41 (fun q => ?_) (fun q => ?_)
  · have hw := hT42 q
    refine g_ildn2 hE1 dX3_crossings_12 ?_
    refine g_iconst hE1 dX3_crossings_13 ?_
    refine g_iadd hE1 dX3_crossings_14 ?_
    refine g_istn3 hE1 dX3_crossings_15 (by decide) rfl ?_
    refine lq2_walk (fun (x1_16 : Int) (x3_16 : Int) => GX E X T I R L 0 0 16 [some (aR (some o)), some (aI x1_16), some (aI x2_4), some (aI x3_16)] []) (fun K_16 hk_16 x1_16 x3_16 hw => ?_) _ _ hw hok
    intro hok
    refine g_ildn3 hE1 dX3_crossings_16 ?_
    refine g_aldn0 hE1 dX3_crossings_17 ?_
    refine gx_geti hE in_X3 (t := 7) rfl (by decide) 7 7 rfl (by decide) rfl (by decide) rfl q297 (Or.inl rfl) ht1 dX3_crossings_18 ?_ hok
    intro hok
    obtain ⟨h36, h37, hT38, hN39⟩ := hw
    refine g_icmp_ge hE1 (tgt := 74) dX3_crossings_21 (by decide) h36 h37 (fun q => ?_) (fun q => ?_)
    · have hw := hT38 q
      refine g_ildn1 hE1 dX3_crossings_24 ?_
      refine g_aldn0 hE1 dX3_crossings_25 ?_
      refine gx_getr hE in_X3 (t := 7) rfl (by decide) 1 1 rfl (by decide) rfl (by decide) rfl q288 (Or.inl rfl) ht1 dX3_crossings_26 ?_ hok
      intro hok
      refine g_ildn2 hE1 dX3_crossings_29 ?_
      obtain ⟨b2, hb3, hw⟩ := hw
      rw [hb3]
      obtain ⟨ht4, hw⟩ := hw
      obtain ⟨h5, h6, hw⟩ := hw
      refine gx_iald hE ht4 h5 h6 dX3_crossings_30 ?_ hok
      intro hok
      refine g_aldn0 hE1 dX3_crossings_31 ?_
      refine gx_getr hE in_X3 (t := 7) rfl (by decide) 1 1 rfl (by decide) rfl (by decide) rfl q288 (Or.inl rfl) ht1 dX3_crossings_32 ?_ hok
      intro hok
      refine g_ildn3 hE1 dX3_crossings_35 ?_
      obtain ⟨b7, hb8, hw⟩ := hw
      rw [hb8]
      obtain ⟨ht9, hw⟩ := hw
      obtain ⟨h10, h11, hw⟩ := hw
      refine gx_iald hE ht9 h10 h11 dX3_crossings_36 ?_ hok
      intro hok
      refine jn1_walk (fun (y1_66 : Int) => GX E X T I R L 0 0 66 [some (aR (some o)), some (aI x1_16), some (aI x2_4), some (aI x3_16)] [aI y1_66, aI x1_16]) hw (fun y1_66 hw => ?_) (fun J_66 hj_66 hw => ?_)
      · intro hok
        refine g_iadd hE1 dX3_crossings_66 ?_
        refine g_istn1 hE1 dX3_crossings_67 (by decide) rfl ?_
        refine g_iinc3 hE1 dX3_crossings_68 (by decide) rfl ?_
        refine g_goto hE1 (tgt := 16) dX3_crossings_71 (by decide) ?_
        exact hk_16 _ _ hw hok
      · skip
        refine jn0_walk (GX E X T I R L 0 0 65 [some (aR (some o)), some (aI x1_16), some (aI x2_4), some (aI x3_16)] [aI x1_16]) hw (fun  hw => ?_) (fun J_65 hj_65 hw => ?_)
        · intro hok
          refine g_iconst hE1 dX3_crossings_65 ?_
          exact hj_66 _ hw hok
        · skip
          obtain ⟨h32, h33, hT34, hN35⟩ := hw
          refine g_icmp_le hE1 (tgt := 65) dX3_crossings_37 (by decide) h33 h32 (fun q => ?_) (fun q => ?_)
          · have hw := hT34 q
            refine g_aldn0 hE1 dX3_crossings_40 ?_
            refine gx_getr hE in_X3 (t := 7) rfl (by decide) 0 0 rfl (by decide) rfl (by decide) rfl q286 (Or.inl rfl) ht1 dX3_crossings_41 ?_ hok
            intro hok
            refine g_ildn2 hE1 dX3_crossings_44 ?_
            obtain ⟨b12, hb13, hw⟩ := hw
            rw [hb13]
            obtain ⟨ht14, hw⟩ := hw
            obtain ⟨h15, h16, hw⟩ := hw
            refine gx_aald hE ht14 (by decide) h15 h16 dX3_crossings_45 ?_ hok
            intro hok
            obtain ⟨b17, hb18, hw⟩ := hw
            rw [hb18]
            obtain ⟨ht19, hw⟩ := hw
            refine gx_getiN hE in_X6 (t := 12) rfl (by decide) 0 0 rfl (by decide) rfl (by decide) rfl q992 (Or.inl rfl) ht19 dX3_crossings_46 ?_ hok
            intro hok
            refine g_aldn0 hE1 dX3_crossings_49 ?_
            refine gx_getr hE in_X3 (t := 7) rfl (by decide) 0 0 rfl (by decide) rfl (by decide) rfl q286 (Or.inl rfl) ht1 dX3_crossings_50 ?_ hok
            intro hok
            refine g_ildn3 hE1 dX3_crossings_53 ?_
            obtain ⟨b20, hb21, hw⟩ := hw
            rw [hb21]
            obtain ⟨ht22, hw⟩ := hw
            obtain ⟨h23, h24, hw⟩ := hw
            refine gx_aald hE ht22 (by decide) h23 h24 dX3_crossings_54 ?_ hok
            intro hok
            obtain ⟨b25, hb26, hw⟩ := hw
            rw [hb26]
            obtain ⟨ht27, hw⟩ := hw
            refine gx_getiN hE in_X6 (t := 12) rfl (by decide) 0 0 rfl (by decide) rfl (by decide) rfl q992 (Or.inl rfl) ht27 dX3_crossings_55 ?_ hok
            intro hok
            obtain ⟨h28, h29, hT30, hN31⟩ := hw
            refine g_icmp_ge hE1 (tgt := 65) dX3_crossings_58 (by decide) h28 h29 (fun q => ?_) (fun q => ?_)
            · have hw := hT30 q
              refine g_iconst hE1 dX3_crossings_61 ?_
              refine g_goto hE1 (tgt := 66) dX3_crossings_62 (by decide) ?_
              exact hj_66 _ hw hok
            · have hw := hN31 q
              exact hj_65  hw hok
          · have hw := hN35 q
            exact hj_65  hw hok
    · have hw := hN39 q
      refine g_iinc2 hE1 dX3_crossings_74 (by decide) rfl ?_
      refine g_goto hE1 (tgt := 4) dX3_crossings_77 (by decide) ?_
      refine g_kl3 ?_
      exact hk_4 _ _ hw hok
  · have hw := hN43 q
    refine g_ildn1 hE1 dX3_crossings_80 ?_
    exact gx_iret hE hR dX3_crossings_81 (by decide) (by decide) rfl ⟨_, rfl, rfl, rfl, rfl, rfl, hw⟩ hok

/-- WhalingLogs.move(II)I -/
def wx_X0_move (X : XT) (o : Nat) (x1 : Int) (x2 : Int) (T : xT) (I : xI) (R : xR) (L : xL) (Q : Int → xT → xI → xR → xL → Prop) : Prop :=
  xtag T o = 1 ∧
  ∃ b2 : Nat, R o 0 = some b2 ∧ xtag T b2 = 2 ∧ wx_X1_isPage X b2 x1 T I R L (fun (r5 : Int) => 
  jn0 (
      Q (-1) T I R L)
    (fun (J_22 : Prop) =>
    cEq r5 0
      (
      J_22)
      (
      ∃ b7 : Nat, R o 0 = some b7 ∧ xtag T b7 = 2 ∧ wx_X1_isPage X b7 x2 T I R L (fun (r10 : Int) => 
      cEq r10 0
        (
        J_22)
        (
        ∃ b12 : Nat, R o 0 = some b12 ∧ xtag T b12 = 2 ∧ wx_X1_copy X b12 T I R L (fun (r15 : Option Nat) (T16 : xT) (I17 : xI) (R18 : xR) (L19 : xL) => tle T T16 → 
        ∃ b22 : Nat, R18 o 0 = some b22 ∧ xtag T16 b22 = 2 ∧
        ∃ b25 : Nat, R18 b22 1 = some b25 ∧ xtag T16 b25 = 4 ∧ wx_J4_remove X b25 x1 T16 I17 R18 L19 (fun (r28 : Option Nat) (I29 : xI) (R30 : xR) => 
        ∃ b32 : Nat, r28 = some b32 ∧ xtag T16 b32 = 10 ∧
        ∃ b35 : Nat, R30 o 0 = some b35 ∧ xtag T16 b35 = 2 ∧
        ∃ b38 : Nat, R30 b35 1 = some b38 ∧ xtag T16 b38 = 4 ∧ wx_J4_add X b38 x2 (some b32) T16 I29 R30 L19 (fun (T41 : xT) (I42 : xI) (R43 : xR) => tle T16 T41 → 
        wx_X0_listed X o T41 I42 R43 L19 (fun (r46 : Option Nat) (T47 : xT) (I48 : xI) (R49 : xR) => tle T41 T47 → 
        ∃ b51 : Nat, r46 = some b51 ∧ xtag T47 b51 = 7 ∧ wx_X3_crossings X b51 T47 I48 R49 L19 (fun (r54 : Int) => 
        wx_X0_changed X o r15 r54 T47 I48 R49 L19 (fun (r57 : Int) (I58 : xI) (R59 : xR) => 
        Q r57 T47 I58 R59 L19)))))))))))
theorem hx_X0_move : yX0_move.cls = RX0 ∧ yX0_move.cls ≠ "java/lang/invoke/MethodHandle" ∧ yX0_move.cls ≠ "java/lang/invoke/VarHandle" ∧ (parseMethodDescriptor yX0_move.desc).map (fun d => d.parameters.length) = some 2 := by decide +kernel
set_option maxHeartbeats 4000000 in
theorem tx_X0_move (X : XT) {o : Nat} {x1 : Int} {x2 : Int} {T : xT} {I : xI} {R : xR} {L : xL} {Q : Int → xT → xI → xR → xL → Prop} (hw : wx_X0_move X o x1 x2 T I R L Q) : CtX X yX0_move cX0_move 5 (some .int) (rmX 7 163 1411 151) [aR (some o), aI x1, aI x2] T I R L (PXiTIRL T I R L Q) := by
  refine CtX.intro (by decide) (Nat.le_of_ble_eq_true rfl) (fun E hE hR hN => ?_)
  have hRm := hR.rm
  have hE : OkX E X RX0 cX0_move 5 (some .int) := hE
  have hE1 := hE.1
  show GX E X T I R L 0 0 0 [some (aR (some o)), some (aI x1), some (aI x2), none, none] []
  unfold wx_X0_move at hw
  intro hok
  refine g_aldn0 hE1 dX0_move_0 ?_
  obtain ⟨ht1, hw⟩ := hw
  refine gx_getr hE in_X0 (t := 1) rfl (by decide) 0 0 rfl (by decide) rfl (by decide) rfl q353 (Or.inl rfl) ht1 dX0_move_1 ?_ hok
  intro hok
  refine g_ildn1 hE1 dX0_move_4 ?_
  obtain ⟨b2, hb3, hw⟩ := hw
  rw [hb3]
  obtain ⟨ht4, hw⟩ := hw
  refine gx_callV hE hRm (As := [aI x1]) ht4 (by decide) (by decide) rfl hx_X1_isPage (tx_X1_isPage X hw) (lw_V q1282 q1265 q1266 q95 q1267) ⟨by decide, by decide⟩ ⟨(by decide), (by decide)⟩ rfl (Nat.le_of_ble_eq_true rfl) dX0_move_5 rfl (fun r9 Tz Iz Rz Lz hΦ => ?_) hok
  obtain ⟨r5, rfl, rfl, rfl, rfl, rfl, hw⟩ := hΦ
  show GX E X T I R L 0 0 8 [some (aR (some o)), some (aI x1), some (aI x2), none, none] [aI r5]
  intro hok
  refine jn0_walk (GX E X T I R L 0 0 22 [some (aR (some o)), some (aI x1), some (aI x2), none, none] []) hw (fun  hw => ?_) (fun J_22 hj_22 hw => ?_)
  · intro hok
    refine g_iconst hE1 dX0_move_22 ?_
    exact gx_iret hE hR dX0_move_23 (by decide) (by decide) rfl ⟨_, rfl, tle.rf, hw⟩ hok
  · skip
    obtain ⟨h65, h66, hT67, hN68⟩ := hw
    refine g_if_eq hE1 (tgt := 22) dX0_move_8 (by decide) h65 (fun q => ?_) (fun q => ?_)
    · have hw := hT67 q
      exact hj_22  hw hok
    · have hw := hN68 q
      refine g_aldn0 hE1 dX0_move_11 ?_
      refine gx_getr hE in_X0 (t := 1) rfl (by decide) 0 0 rfl (by decide) rfl (by decide) rfl q353 (Or.inl rfl) ht1 dX0_move_12 ?_ hok
      intro hok
      refine g_ildn2 hE1 dX0_move_15 ?_
      obtain ⟨b7, hb8, hw⟩ := hw
      rw [hb8]
      obtain ⟨ht9, hw⟩ := hw
      refine gx_callV hE hRm (As := [aI x2]) ht9 (by decide) (by decide) rfl hx_X1_isPage (tx_X1_isPage X hw) (lw_V q1282 q1265 q1266 q95 q1267) ⟨by decide, by decide⟩ ⟨(by decide), (by decide)⟩ rfl (Nat.le_of_ble_eq_true rfl) dX0_move_16 rfl (fun r9 Tz Iz Rz Lz hΦ => ?_) hok
      obtain ⟨r10, rfl, rfl, rfl, rfl, rfl, hw⟩ := hΦ
      show GX E X T I R L 0 0 19 [some (aR (some o)), some (aI x1), some (aI x2), none, none] [aI r10]
      intro hok
      obtain ⟨h61, h62, hT63, hN64⟩ := hw
      refine g_if_ne hE1 (tgt := 24) dX0_move_19 (by decide) h61 (fun q => ?_) (fun q => ?_)
      · have hw := hT63 q
        exact hj_22  hw hok
      · have hw := hN64 q
        refine g_aldn0 hE1 dX0_move_24 ?_
        refine gx_getr hE in_X0 (t := 1) rfl (by decide) 0 0 rfl (by decide) rfl (by decide) rfl q353 (Or.inl rfl) ht1 dX0_move_25 ?_ hok
        intro hok
        obtain ⟨b12, hb13, hw⟩ := hw
        rw [hb13]
        obtain ⟨ht14, hw⟩ := hw
        refine gx_callV hE hRm (As := []) ht14 (by decide) (by decide) rfl hx_X1_copy (tx_X1_copy X hw) (lw_V q395 q396 q397 q95 q398) ⟨by decide, by decide⟩ ⟨(by decide), (by decide)⟩ rfl (Nat.le_of_ble_eq_true rfl) dX0_move_28 rfl (fun r9 T16 I17 R18 L19 hΦ => ?_) hok
        obtain ⟨r15, rfl, hl20, hw⟩ := hΦ
        have hw := hw hl20
        show GX E X T16 I17 R18 L19 160 1400 31 [some (aR (some o)), some (aI x1), some (aI x2), none, none] [aR r15]
        intro hok
        refine g_astn3 hE1 dX0_move_31 (by decide) rfl ?_
        refine g_aldn0 hE1 dX0_move_32 ?_
        have ht21 := hl20.tag ht1 (by decide)
        refine gx_getr hE in_X0 (t := 1) rfl (by decide) 0 0 rfl (by decide) rfl (by decide) rfl q353 (Or.inl rfl) ht21 dX0_move_33 ?_ hok
        intro hok
        obtain ⟨b22, hb23, hw⟩ := hw
        rw [hb23]
        obtain ⟨ht24, hw⟩ := hw
        refine gx_getrN hE in_X1 (t := 2) rfl (by decide) 1 1 rfl (by decide) rfl (by decide) rfl q225 (Or.inl rfl) ht24 dX0_move_36 ?_ hok
        intro hok
        refine g_ildn1 hE1 dX0_move_39 ?_
        obtain ⟨b25, hb26, hw⟩ := hw
        rw [hb26]
        obtain ⟨ht27, hw⟩ := hw
        refine gx_callV hE hRm (As := [aI x1]) ht27 (by decide) (by decide) rfl hx_J4_remove (tx_J4_remove X hw) (lw_V q1283 q1284 q1285 q100 q1286) ⟨by decide, by decide⟩ ⟨(by decide), (by decide)⟩ rfl (Nat.le_of_ble_eq_true rfl) dX0_move_40 rfl (fun r9 Tz I29 R30 Lz hΦ => ?_) hok
        obtain ⟨r28, rfl, rfl, rfl, hw⟩ := hΦ
        show GX E X T16 I29 R30 L19 160 1400 43 [some (aR (some o)), some (aI x1), some (aI x2), some (aR r15), none] [aR r28]
        intro hok
        obtain ⟨b32, hb33, hw⟩ := hw
        rw [hb33]
        obtain ⟨ht34, hw⟩ := hw
        refine gx_castS hE ht34 (by decide) (by decide) rfl q1291 dX0_move_43 ?_ hok
        intro hok
        refine g_ast4 hE1 dX0_move_46 (by decide) rfl ?_
        refine g_aldn0 hE1 dX0_move_48 ?_
        refine gx_getr hE in_X0 (t := 1) rfl (by decide) 0 0 rfl (by decide) rfl (by decide) rfl q353 (Or.inl rfl) ht21 dX0_move_49 ?_ hok
        intro hok
        obtain ⟨b35, hb36, hw⟩ := hw
        rw [hb36]
        obtain ⟨ht37, hw⟩ := hw
        refine gx_getrN hE in_X1 (t := 2) rfl (by decide) 1 1 rfl (by decide) rfl (by decide) rfl q225 (Or.inl rfl) ht37 dX0_move_52 ?_ hok
        intro hok
        refine g_ildn2 hE1 dX0_move_55 ?_
        refine g_ald4 hE1 dX0_move_56 ?_
        obtain ⟨b38, hb39, hw⟩ := hw
        rw [hb39]
        obtain ⟨ht40, hw⟩ := hw
        refine gx_callV hE hRm (As := [aI x2, aR (some b32)]) ht40 (by decide) (by decide) rfl hx_J4_add (tx_J4_add X hw) (lw_V q1292 q1293 q1294 q100 q1295) ⟨by decide, by decide⟩ ⟨(by decide), (by decide)⟩ rfl (Nat.le_of_ble_eq_true rfl) dX0_move_58 rfl (fun r9 T41 I42 R43 Lz hΦ => ?_) hok
        obtain ⟨rfl, rfl, hl44, hw⟩ := hΦ
        have hw := hw hl44
        show GX E X T41 I42 R43 L19 162 1406 61 [some (aR (some o)), some (aI x1), some (aI x2), some (aR r15), some (aR (some b32))] []
        intro hok
        refine g_aldn0 hE1 dX0_move_61 ?_
        refine g_aldn3 hE1 dX0_move_62 ?_
        refine g_aldn0 hE1 dX0_move_63 ?_
        have ht45 := (hl20.tr hl44).tag ht1 (by decide)
        refine gx_callV hE hRm (As := []) ht45 (by decide) (by decide) rfl hx_X0_listed (tx_X0_listed X hw) (lw_V q1300 q1302 qs22 q94 q1303) ⟨by decide, by decide⟩ ⟨(by decide), (by decide)⟩ rfl (Nat.le_of_ble_eq_true rfl) dX0_move_64 rfl (fun r9 T47 I48 R49 Lz hΦ => ?_) hok
        obtain ⟨r46, rfl, rfl, hl50, hw⟩ := hΦ
        have hw := hw hl50
        show GX E X T47 I48 R49 L19 163 1411 67 [some (aR (some o)), some (aI x1), some (aI x2), some (aR r15), some (aR (some b32))] [aR r46, aR r15, aR (some o)]
        intro hok
        obtain ⟨b51, hb52, hw⟩ := hw
        rw [hb52]
        obtain ⟨ht53, hw⟩ := hw
        refine gx_callV hE hRm (As := []) ht53 (by decide) (by decide) rfl hx_X3_crossings (tx_X3_crossings X hw) (lw_V q1304 q1305 q1306 q103 q1307) ⟨by decide, by decide⟩ ⟨(by decide), (by decide)⟩ rfl (Nat.le_of_ble_eq_true rfl) dX0_move_67 rfl (fun r9 Tz Iz Rz Lz hΦ => ?_) hok
        obtain ⟨r54, rfl, rfl, rfl, rfl, rfl, hw⟩ := hΦ
        show GX E X T47 I48 R49 L19 163 1411 70 [some (aR (some o)), some (aI x1), some (aI x2), some (aR r15), some (aR (some b32))] [aI r54, aR r15, aR (some o)]
        intro hok
        have ht56 := ((hl20.tr hl44).tr hl50).tag ht1 (by decide)
        refine gx_callV hE hRm (As := [aR r15, aI r54]) ht56 (by decide) (by decide) rfl hx_X0_changed (tx_X0_changed X hw) (lw_V q1163 q1165 qs16 q94 q1166) ⟨by decide, by decide⟩ ⟨(by decide), (by decide)⟩ rfl (Nat.le_of_ble_eq_true rfl) dX0_move_70 rfl (fun r9 Tz I58 R59 Lz hΦ => ?_) hok
        obtain ⟨r57, rfl, rfl, rfl, hw⟩ := hΦ
        show GX E X T47 I58 R59 L19 163 1411 73 [some (aR (some o)), some (aI x1), some (aI x2), some (aR r15), some (aR (some b32))] [aI r57]
        intro hok
        exact gx_iret hE hR dX0_move_73 (by decide) (by decide) rfl ⟨_, rfl, ((hl20.tr hl44).tr hl50), hw⟩ hok

/-- WhalingLogs.drop(I)I -/
def wx_X0_drop (X : XT) (o : Nat) (x1 : Int) (T : xT) (I : xI) (R : xR) (L : xL) (Q : Int → xT → xI → xR → xL → Prop) : Prop :=
  xtag T o = 1 ∧
  ∃ b2 : Nat, R o 0 = some b2 ∧ xtag T b2 = 2 ∧ wx_X1_isPage X b2 x1 T I R L (fun (r5 : Int) => 
  cEq r5 0
    (
    Q (-1) T I R L)
    (
    ∃ b7 : Nat, R o 0 = some b7 ∧ xtag T b7 = 2 ∧ wx_X1_copy X b7 T I R L (fun (r10 : Option Nat) (T11 : xT) (I12 : xI) (R13 : xR) (L14 : xL) => tle T T11 → 
    ∃ b17 : Nat, R13 o 0 = some b17 ∧ xtag T11 b17 = 2 ∧
    ∃ b20 : Nat, R13 b17 1 = some b20 ∧ xtag T11 b20 = 4 ∧ wx_J4_remove X b20 x1 T11 I12 R13 L14 (fun (r23 : Option Nat) (I24 : xI) (R25 : xR) => 
    ∃ b27 : Nat, r23 = some b27 ∧ xtag T11 b27 = 10 ∧
    ∃ b30 : Nat, R25 o 0 = some b30 ∧ xtag T11 b30 = 2 ∧
    ∃ b33 : Nat, R25 b30 1 = some b33 ∧ xtag T11 b33 = 4 ∧ wx_J4_size X b33 T11 I24 R25 L14 (fun (r36 : Int) => 
    wx_X0_changed X o r10 r36 T11 I24 R25 L14 (fun (r38 : Int) (I39 : xI) (R40 : xR) => 
    Q r38 T11 I39 R40 L14))))))
theorem hx_X0_drop : yX0_drop.cls = RX0 ∧ yX0_drop.cls ≠ "java/lang/invoke/MethodHandle" ∧ yX0_drop.cls ≠ "java/lang/invoke/VarHandle" ∧ (parseMethodDescriptor yX0_drop.desc).map (fun d => d.parameters.length) = some 1 := by decide +kernel
set_option maxHeartbeats 4000000 in
theorem tx_X0_drop (X : XT) {o : Nat} {x1 : Int} {T : xT} {I : xI} {R : xR} {L : xL} {Q : Int → xT → xI → xR → xL → Prop} (hw : wx_X0_drop X o x1 T I R L Q) : CtX X yX0_drop cX0_drop 4 (some .int) (rmX 7 160 1400 147) [aR (some o), aI x1] T I R L (PXiTIRL T I R L Q) := by
  refine CtX.intro (by decide) (Nat.le_of_ble_eq_true rfl) (fun E hE hR hN => ?_)
  have hRm := hR.rm
  have hE : OkX E X RX0 cX0_drop 4 (some .int) := hE
  have hE1 := hE.1
  show GX E X T I R L 0 0 0 [some (aR (some o)), some (aI x1), none, none] []
  unfold wx_X0_drop at hw
  intro hok
  refine g_aldn0 hE1 dX0_drop_0 ?_
  obtain ⟨ht1, hw⟩ := hw
  refine gx_getr hE in_X0 (t := 1) rfl (by decide) 0 0 rfl (by decide) rfl (by decide) rfl q353 (Or.inl rfl) ht1 dX0_drop_1 ?_ hok
  intro hok
  refine g_ildn1 hE1 dX0_drop_4 ?_
  obtain ⟨b2, hb3, hw⟩ := hw
  rw [hb3]
  obtain ⟨ht4, hw⟩ := hw
  refine gx_callV hE hRm (As := [aI x1]) ht4 (by decide) (by decide) rfl hx_X1_isPage (tx_X1_isPage X hw) (lw_V q1282 q1265 q1266 q95 q1267) ⟨by decide, by decide⟩ ⟨(by decide), (by decide)⟩ rfl (Nat.le_of_ble_eq_true rfl) dX0_drop_5 rfl (fun r9 Tz Iz Rz Lz hΦ => ?_) hok
  obtain ⟨r5, rfl, rfl, rfl, rfl, rfl, hw⟩ := hΦ
  show GX E X T I R L 0 0 8 [some (aR (some o)), some (aI x1), none, none] [aI r5]
  intro hok
  obtain ⟨h42, h43, hT44, hN45⟩ := hw
  refine g_if_ne hE1 (tgt := 13) dX0_drop_8 (by decide) h42 (fun q => ?_) (fun q => ?_)
  · have hw := hT44 q
    refine g_iconst hE1 dX0_drop_11 ?_
    exact gx_iret hE hR dX0_drop_12 (by decide) (by decide) rfl ⟨_, rfl, tle.rf, hw⟩ hok
  · have hw := hN45 q
    refine g_aldn0 hE1 dX0_drop_13 ?_
    refine gx_getr hE in_X0 (t := 1) rfl (by decide) 0 0 rfl (by decide) rfl (by decide) rfl q353 (Or.inl rfl) ht1 dX0_drop_14 ?_ hok
    intro hok
    obtain ⟨b7, hb8, hw⟩ := hw
    rw [hb8]
    obtain ⟨ht9, hw⟩ := hw
    refine gx_callV hE hRm (As := []) ht9 (by decide) (by decide) rfl hx_X1_copy (tx_X1_copy X hw) (lw_V q395 q396 q397 q95 q398) ⟨by decide, by decide⟩ ⟨(by decide), (by decide)⟩ rfl (Nat.le_of_ble_eq_true rfl) dX0_drop_17 rfl (fun r9 T11 I12 R13 L14 hΦ => ?_) hok
    obtain ⟨r10, rfl, hl15, hw⟩ := hΦ
    have hw := hw hl15
    show GX E X T11 I12 R13 L14 160 1400 20 [some (aR (some o)), some (aI x1), none, none] [aR r10]
    intro hok
    refine g_astn2 hE1 dX0_drop_20 (by decide) rfl ?_
    refine g_aldn0 hE1 dX0_drop_21 ?_
    have ht16 := hl15.tag ht1 (by decide)
    refine gx_getr hE in_X0 (t := 1) rfl (by decide) 0 0 rfl (by decide) rfl (by decide) rfl q353 (Or.inl rfl) ht16 dX0_drop_22 ?_ hok
    intro hok
    obtain ⟨b17, hb18, hw⟩ := hw
    rw [hb18]
    obtain ⟨ht19, hw⟩ := hw
    refine gx_getrN hE in_X1 (t := 2) rfl (by decide) 1 1 rfl (by decide) rfl (by decide) rfl q225 (Or.inl rfl) ht19 dX0_drop_25 ?_ hok
    intro hok
    refine g_ildn1 hE1 dX0_drop_28 ?_
    obtain ⟨b20, hb21, hw⟩ := hw
    rw [hb21]
    obtain ⟨ht22, hw⟩ := hw
    refine gx_callV hE hRm (As := [aI x1]) ht22 (by decide) (by decide) rfl hx_J4_remove (tx_J4_remove X hw) (lw_V q1283 q1284 q1285 q100 q1286) ⟨by decide, by decide⟩ ⟨(by decide), (by decide)⟩ rfl (Nat.le_of_ble_eq_true rfl) dX0_drop_29 rfl (fun r9 Tz I24 R25 Lz hΦ => ?_) hok
    obtain ⟨r23, rfl, rfl, rfl, hw⟩ := hΦ
    show GX E X T11 I24 R25 L14 160 1400 32 [some (aR (some o)), some (aI x1), some (aR r10), none] [aR r23]
    intro hok
    obtain ⟨b27, hb28, hw⟩ := hw
    rw [hb28]
    obtain ⟨ht29, hw⟩ := hw
    refine gx_castS hE ht29 (by decide) (by decide) rfl q1291 dX0_drop_32 ?_ hok
    intro hok
    refine g_astn3 hE1 dX0_drop_35 (by decide) rfl ?_
    refine g_aldn0 hE1 dX0_drop_36 ?_
    refine g_aldn2 hE1 dX0_drop_37 ?_
    refine g_aldn0 hE1 dX0_drop_38 ?_
    refine gx_getr hE in_X0 (t := 1) rfl (by decide) 0 0 rfl (by decide) rfl (by decide) rfl q353 (Or.inl rfl) ht16 dX0_drop_39 ?_ hok
    intro hok
    obtain ⟨b30, hb31, hw⟩ := hw
    rw [hb31]
    obtain ⟨ht32, hw⟩ := hw
    refine gx_getrN hE in_X1 (t := 2) rfl (by decide) 1 1 rfl (by decide) rfl (by decide) rfl q225 (Or.inl rfl) ht32 dX0_drop_42 ?_ hok
    intro hok
    obtain ⟨b33, hb34, hw⟩ := hw
    rw [hb34]
    obtain ⟨ht35, hw⟩ := hw
    refine gx_callV hE hRm (As := []) ht35 (by decide) (by decide) rfl hx_J4_size (tx_J4_size X hw) (lw_V q1312 q541 q2594 q100 q542) ⟨by decide, by decide⟩ ⟨(by decide), (by decide)⟩ rfl (Nat.le_of_ble_eq_true rfl) dX0_drop_45 rfl (fun r9 Tz Iz Rz Lz hΦ => ?_) hok
    obtain ⟨r36, rfl, rfl, rfl, rfl, rfl, hw⟩ := hΦ
    show GX E X T11 I24 R25 L14 160 1400 48 [some (aR (some o)), some (aI x1), some (aR r10), some (aR (some b27))] [aI r36, aR r10, aR (some o)]
    intro hok
    refine gx_callV hE hRm (As := [aR r10, aI r36]) ht16 (by decide) (by decide) rfl hx_X0_changed (tx_X0_changed X hw) (lw_V q1163 q1165 qs16 q94 q1166) ⟨by decide, by decide⟩ ⟨(by decide), (by decide)⟩ rfl (Nat.le_of_ble_eq_true rfl) dX0_drop_48 rfl (fun r9 Tz I39 R40 Lz hΦ => ?_) hok
    obtain ⟨r38, rfl, rfl, rfl, hw⟩ := hΦ
    show GX E X T11 I39 R40 L14 160 1400 51 [some (aR (some o)), some (aI x1), some (aR r10), some (aR (some b27))] [aI r38]
    intro hok
    exact gx_iret hE hR dX0_drop_51 (by decide) (by decide) rfl ⟨_, rfl, hl15, hw⟩ hok

/-- WhalingLogs$Page.isLegible(II)Z -/
def wx_X5_isLegible (X : XT) (o : Nat) (x1 : Int) (x2 : Int) (T : xT) (I : xI) (R : xR) (L : xL) (Q : Int → Prop) : Prop :=
  xtag T o = 10 ∧
  ((-2147483648 : Int) < ((I o 0) - x1) ∧ (((I o 0) - x1) : Int) < 2147483648) ∧
  jn1 (fun (y0_26 : Int) => 
      bl y0_26 ∧ Q y0_26)
    (fun (J_26 : Int → Prop) =>
    cLt (x2 - (10 * (if 0 ≤ ((I o 0) - x1) then ((I o 0) - x1) else -((I o 0) - x1)))) (I o 2)
      (
      J_26 0)
      (
      J_26 1))
theorem hx_X5_isLegible : yX5_isLegible.cls = RX5 ∧ yX5_isLegible.cls ≠ "java/lang/invoke/MethodHandle" ∧ yX5_isLegible.cls ≠ "java/lang/invoke/VarHandle" ∧ (parseMethodDescriptor yX5_isLegible.desc).map (fun d => d.parameters.length) = some 2 := by decide +kernel
set_option maxHeartbeats 4000000 in
theorem tx_X5_isLegible (X : XT) {o : Nat} {x1 : Int} {x2 : Int} {T : xT} {I : xI} {R : xR} {L : xL} {Q : Int → Prop} (hw : wx_X5_isLegible X o x1 x2 T I R L Q) : CtX X yX5_isLegible cX5_isLegible 3 (some .boolean) (rmX 1 0 0 64) [aR (some o), aI x1, aI x2] T I R L (PXi T I R L Q) := by
  refine CtX.intro (by decide) (Nat.le_of_ble_eq_true rfl) (fun E hE hR hN => ?_)
  have hRm := hR.rm
  have hE : OkX E X RX5 cX5_isLegible 3 (some .boolean) := hE
  have hE1 := hE.1
  show GX E X T I R L 0 0 0 [some (aR (some o)), some (aI x1), some (aI x2)] []
  unfold wx_X5_isLegible at hw
  intro hok
  refine g_aldn0 hE1 dX5_isLegible_0 ?_
  obtain ⟨ht1, hw⟩ := hw
  refine gx_geti hE in_X5 (t := 10) rfl (by decide) 2 2 rfl (by decide) rfl (by decide) rfl q968 (Or.inl rfl) ht1 dX5_isLegible_1 ?_ hok
  intro hok
  refine g_ildn2 hE1 dX5_isLegible_4 ?_
  refine g_bipush hE1 dX5_isLegible_5 (by decide) ?_
  refine g_aldn0 hE1 dX5_isLegible_7 ?_
  refine gx_geti hE in_X5 (t := 10) rfl (by decide) 0 0 rfl (by decide) rfl (by decide) rfl q962 (Or.inl rfl) ht1 dX5_isLegible_8 ?_ hok
  intro hok
  refine g_ildn1 hE1 dX5_isLegible_11 ?_
  refine g_isub hE1 dX5_isLegible_12 ?_
  obtain ⟨h2, hw⟩ := hw
  refine gx_abs hE hRm h2 q1325 q1326 q109 q1327 (by decide) (by decide) (by decide) (by decide) (Nat.le_of_ble_eq_true rfl) dX5_isLegible_13 ?_ hok
  intro hok
  refine g_imul hE1 dX5_isLegible_16 ?_
  refine g_isub hE1 dX5_isLegible_17 ?_
  refine jn1_walk (fun (y0_26 : Int) => GX E X T I R L 0 0 26 [some (aR (some o)), some (aI x1), some (aI x2)] [aI y0_26]) hw (fun y0_26 hw => ?_) (fun J_26 hj_26 hw => ?_)
  · intro hok
    obtain ⟨h3, hw⟩ := hw
    exact gx_iret hE hR dX5_isLegible_26 (by decide) (by decide) (narrow_bl h3) ⟨_, rfl, rfl, rfl, rfl, rfl, hw⟩ hok
  · skip
    obtain ⟨h4, h5, hT6, hN7⟩ := hw
    refine g_icmp_gt hE1 (tgt := 25) dX5_isLegible_18 (by decide) h5 h4 (fun q => ?_) (fun q => ?_)
    · have hw := hT6 q
      refine g_iconst hE1 dX5_isLegible_25 ?_
      exact hj_26 _ hw hok
    · have hw := hN7 q
      refine g_iconst hE1 dX5_isLegible_21 ?_
      refine g_goto hE1 (tgt := 26) dX5_isLegible_22 (by decide) ?_
      exact hj_26 _ hw hok

/-- WhalingLogs$Page.many(I)I -/
def wx_X5_many (X : XT) (o : Nat) (x1 : Int) (T : xT) (I : xI) (R : xR) (L : xL) (Q : Int → Prop) : Prop :=
  lq2 (fun (x2_4 : Int) (x3_4 : Int) (K_4 : Int → Int → Prop) =>
    xtag T o = 10 ∧
    ∃ b2 : Nat, R o 1 = some b2 ∧ xtag T b2 = 11 ∧ wx_J24_size X b2 T I R L (fun (r5 : Int) => 
    cLt x3_4 r5
      (
      ∃ b7 : Nat, R o 1 = some b7 ∧ xtag T b7 = 11 ∧ wx_J24_get X b7 x3_4 T I R L (fun (r10 : Option Nat) => 
      ∃ b12 : Nat, r10 = some b12 ∧ xtag T b12 = 12 ∧
      jn1 (fun (y1_39 : Int) => 
          K_4 (x2_4 + y1_39) (x3_4 + 1))
        (fun (J_39 : Int → Prop) =>
        cEq (I b12 3) x1
          (
          J_39 1)
          (
          J_39 0))))
      (
      Q x2_4))) 0 0
theorem hx_X5_many : yX5_many.cls = RX5 ∧ yX5_many.cls ≠ "java/lang/invoke/MethodHandle" ∧ yX5_many.cls ≠ "java/lang/invoke/VarHandle" ∧ (parseMethodDescriptor yX5_many.desc).map (fun d => d.parameters.length) = some 1 := by decide +kernel
set_option maxHeartbeats 4000000 in
theorem tx_X5_many (X : XT) {o : Nat} {x1 : Int} {T : xT} {I : xI} {R : xR} {L : xL} {Q : Int → Prop} (hw : wx_X5_many X o x1 T I R L Q) : CtX X yX5_many cX5_many 4 (some .int) (rmX 3 0 0 64) [aR (some o), aI x1] T I R L (PXi T I R L Q) := by
  refine CtX.intro (by decide) (Nat.le_of_ble_eq_true rfl) (fun E hE hR hN => ?_)
  have hRm := hR.rm
  have hE : OkX E X RX5 cX5_many 4 (some .int) := hE
  have hE1 := hE.1
  show GX E X T I R L 0 0 0 [some (aR (some o)), some (aI x1), none, none] []
  unfold wx_X5_many at hw
  intro hok
  refine g_iconst hE1 dX5_many_0 ?_
  refine g_istn2 hE1 dX5_many_1 (by decide) rfl ?_
  refine g_iconst hE1 dX5_many_2 ?_
  refine g_istn3 hE1 dX5_many_3 (by decide) rfl ?_
  refine lq2_walk (fun (x2_4 : Int) (x3_4 : Int) => GX E X T I R L 0 0 4 [some (aR (some o)), some (aI x1), some (aI x2_4), some (aI x3_4)] []) (fun K_4 hk_4 x2_4 x3_4 hw => ?_) _ _ hw hok
  intro hok
  refine g_ildn3 hE1 dX5_many_4 ?_
  refine g_aldn0 hE1 dX5_many_5 ?_
  obtain ⟨ht1, hw⟩ := hw
  refine gx_getr hE in_X5 (t := 10) rfl (by decide) 1 1 rfl (by decide) rfl (by decide) rfl q964 (Or.inl rfl) ht1 dX5_many_6 ?_ hok
  intro hok
  obtain ⟨b2, hb3, hw⟩ := hw
  rw [hb3]
  obtain ⟨ht4, hw⟩ := hw
  refine gx_callV hE hRm (As := []) ht4 (by decide) (by decide) rfl hx_J24_size (tx_J24_size X hw) (lw_V q978 q538 q2592 q126 q539) ⟨by decide, by decide⟩ ⟨(by decide), (by decide)⟩ rfl (Nat.le_of_ble_eq_true rfl) dX5_many_9 rfl (fun r9 Tz Iz Rz Lz hΦ => ?_) hok
  obtain ⟨r5, rfl, rfl, rfl, rfl, rfl, hw⟩ := hΦ
  show GX E X T I R L 0 0 12 [some (aR (some o)), some (aI x1), some (aI x2_4), some (aI x3_4)] [aI r5, aI x3_4]
  intro hok
  obtain ⟨h19, h20, hT21, hN22⟩ := hw
  refine g_icmp_ge hE1 (tgt := 47) dX5_many_12 (by decide) h19 h20 (fun q => ?_) (fun q => ?_)
  · have hw := hT21 q
    refine g_ildn2 hE1 dX5_many_15 ?_
    refine g_aldn0 hE1 dX5_many_16 ?_
    refine gx_getr hE in_X5 (t := 10) rfl (by decide) 1 1 rfl (by decide) rfl (by decide) rfl q964 (Or.inl rfl) ht1 dX5_many_17 ?_ hok
    intro hok
    refine g_ildn3 hE1 dX5_many_20 ?_
    obtain ⟨b7, hb8, hw⟩ := hw
    rw [hb8]
    obtain ⟨ht9, hw⟩ := hw
    refine gx_callV hE hRm (As := [aI x3_4]) ht9 (by decide) (by decide) rfl hx_J24_get (tx_J24_get X hw) (lw_V q979 q583 q2593 q126 q584) ⟨by decide, by decide⟩ ⟨(by decide), (by decide)⟩ rfl (Nat.le_of_ble_eq_true rfl) dX5_many_21 rfl (fun r9 Tz Iz Rz Lz hΦ => ?_) hok
    obtain ⟨r10, rfl, rfl, rfl, rfl, rfl, hw⟩ := hΦ
    show GX E X T I R L 0 0 24 [some (aR (some o)), some (aI x1), some (aI x2_4), some (aI x3_4)] [aR r10, aI x2_4]
    intro hok
    obtain ⟨b12, hb13, hw⟩ := hw
    rw [hb13]
    obtain ⟨ht14, hw⟩ := hw
    refine gx_castS hE ht14 (by decide) (by decide) rfl q980 dX5_many_24 ?_ hok
    intro hok
    refine gx_getiN hE in_X6 (t := 12) rfl (by decide) 3 3 rfl (by decide) rfl (by decide) rfl q1001 (Or.inl rfl) ht14 dX5_many_27 ?_ hok
    intro hok
    refine g_ildn1 hE1 dX5_many_30 ?_
    refine jn1_walk (fun (y1_39 : Int) => GX E X T I R L 0 0 39 [some (aR (some o)), some (aI x1), some (aI x2_4), some (aI x3_4)] [aI y1_39, aI x2_4]) hw (fun y1_39 hw => ?_) (fun J_39 hj_39 hw => ?_)
    · intro hok
      refine g_iadd hE1 dX5_many_39 ?_
      refine g_istn2 hE1 dX5_many_40 (by decide) rfl ?_
      refine g_iinc3 hE1 dX5_many_41 (by decide) rfl ?_
      refine g_goto hE1 (tgt := 4) dX5_many_44 (by decide) ?_
      exact hk_4 _ _ hw hok
    · skip
      obtain ⟨h15, h16, hT17, hN18⟩ := hw
      refine g_icmp_ne hE1 (tgt := 38) dX5_many_31 (by decide) h15 h16 (fun q => ?_) (fun q => ?_)
      · have hw := hT17 q
        refine g_iconst hE1 dX5_many_34 ?_
        refine g_goto hE1 (tgt := 39) dX5_many_35 (by decide) ?_
        exact hj_39 _ hw hok
      · have hw := hN18 q
        refine g_iconst hE1 dX5_many_38 ?_
        exact hj_39 _ hw hok
  · have hw := hN22 q
    refine g_ildn2 hE1 dX5_many_47 ?_
    exact gx_iret hE hR dX5_many_48 (by decide) (by decide) rfl ⟨_, rfl, rfl, rfl, rfl, rfl, hw⟩ hok

/-- WhalingLogs$Page.fades(I)V -/
def wx_X5_fades (X : XT) (o : Nat) (x1 : Int) (T : xT) (I : xI) (R : xR) (L : xL) (Q : xI → Prop) : Prop :=
  xtag T o = 10 ∧
  inR 99 ∧ inR ((I o 2) + x1) ∧
  ∀ I4 : xI, I4 = uI I o 2 (if ((I o 2) + x1) < 99 then ((I o 2) + x1) else 99) →
  Q I4
theorem hx_X5_fades : yX5_fades.cls = RX5 ∧ yX5_fades.cls ≠ "java/lang/invoke/MethodHandle" ∧ yX5_fades.cls ≠ "java/lang/invoke/VarHandle" ∧ (parseMethodDescriptor yX5_fades.desc).map (fun d => d.parameters.length) = some 1 := by decide +kernel
set_option maxHeartbeats 4000000 in
theorem tx_X5_fades (X : XT) {o : Nat} {x1 : Int} {T : xT} {I : xI} {R : xR} {L : xL} {Q : xI → Prop} (hw : wx_X5_fades X o x1 T I R L Q) : CtX X yX5_fades cX5_fades 2 none (rmX 1 0 0 64) [aR (some o), aI x1] T I R L (PXvI T I R L Q) := by
  refine CtX.intro (by decide) (Nat.le_of_ble_eq_true rfl) (fun E hE hR hN => ?_)
  have hRm := hR.rm
  have hE : OkX E X RX5 cX5_fades 2 none := hE
  have hE1 := hE.1
  show GX E X T I R L 0 0 0 [some (aR (some o)), some (aI x1)] []
  unfold wx_X5_fades at hw
  intro hok
  refine g_aldn0 hE1 dX5_fades_0 ?_
  refine g_bipush hE1 dX5_fades_1 (by decide) ?_
  refine g_aldn0 hE1 dX5_fades_3 ?_
  obtain ⟨ht1, hw⟩ := hw
  refine gx_geti hE in_X5 (t := 10) rfl (by decide) 2 2 rfl (by decide) rfl (by decide) rfl q968 (Or.inl rfl) ht1 dX5_fades_4 ?_ hok
  intro hok
  refine g_ildn1 hE1 dX5_fades_7 ?_
  refine g_iadd hE1 dX5_fades_8 ?_
  obtain ⟨h2, h3, hw⟩ := hw
  refine gx_min hE hRm h2 h3 q1336 q406 q109 q407 (by decide) (by decide) (by decide) (by decide) (Nat.le_of_ble_eq_true rfl) dX5_fades_9 ?_ hok
  intro hok
  refine gx_puti hE in_X5 (t := 10) rfl (by decide) 2 2 rfl (by decide) rfl (by decide) (ty := tyX5 2) tyX5 tyX5_ok nmX5 rfl q968 (Or.inl rfl) rfl (tyX5_ok 2 (by decide)) rfl rfl ht1 dX5_fades_12 ?_ hok
  intro hok
  have hw := hw _ rfl
  generalize uI I o 2 (if ((I o 2) + x1) < 99 then ((I o 2) + x1) else 99) = I4 at hw hok ⊢
  exact gx_vret hE hR dX5_fades_15 (by decide) (by decide) ⟨rfl, rfl, rfl, rfl, hw⟩ hok

/-- WhalingLogs$Page.shows()I -/
def wx_X5_shows (X : XT) (o : Nat)  (T : xT) (I : xI) (R : xR) (L : xL) (Q : Int → xI → Prop) : Prop :=
  xtag T o = 10 ∧ wx_X5_many X o 0 T I R L (fun (r2 : Int) => 
  lq2 (fun (x2_8 : Int) (I_8 : xI) (K_8 : Int → xI → Prop) =>
    ∃ b4 : Nat, R o 1 = some b4 ∧ xtag T b4 = 11 ∧ wx_J24_size X b4 T I_8 R L (fun (r7 : Int) => 
    cLt x2_8 r7
      (
      ∃ b9 : Nat, R o 1 = some b9 ∧ xtag T b9 = 11 ∧ wx_J24_get X b9 x2_8 T I_8 R L (fun (r12 : Option Nat) => 
      ∃ b14 : Nat, r12 = some b14 ∧ xtag T b14 = 12 ∧
      jn1 (fun (y1_47 : Int) => 
          ∀ I17 : xI, I17 = uI I_8 b14 3 y1_47 →
          K_8 (x2_8 + 1) I17)
        (fun (J_47 : Int → Prop) =>
        cEq (I_8 b14 3) 0
          (
          J_47 1)
          (
          J_47 (I_8 b14 3)))))
      (
      Q r2 I_8))) 0 I)
theorem hx_X5_shows : yX5_shows.cls = RX5 ∧ yX5_shows.cls ≠ "java/lang/invoke/MethodHandle" ∧ yX5_shows.cls ≠ "java/lang/invoke/VarHandle" ∧ (parseMethodDescriptor yX5_shows.desc).map (fun d => d.parameters.length) = some 0 := by decide +kernel
set_option maxHeartbeats 4000000 in
theorem tx_X5_shows (X : XT) {o : Nat}  {T : xT} {I : xI} {R : xR} {L : xL} {Q : Int → xI → Prop} (hw : wx_X5_shows X o T I R L Q) : CtX X yX5_shows cX5_shows 4 (some .int) (rmX 4 0 0 87) [aR (some o)] T I R L (PXiI T I R L Q) := by
  refine CtX.intro (by decide) (Nat.le_of_ble_eq_true rfl) (fun E hE hR hN => ?_)
  have hRm := hR.rm
  have hE : OkX E X RX5 cX5_shows 4 (some .int) := hE
  have hE1 := hE.1
  show GX E X T I R L 0 0 0 [some (aR (some o)), none, none, none] []
  unfold wx_X5_shows at hw
  intro hok
  refine g_aldn0 hE1 dX5_shows_0 ?_
  refine g_iconst hE1 dX5_shows_1 ?_
  obtain ⟨ht1, hw⟩ := hw
  refine gx_callV hE hRm (As := [aI 0]) ht1 (by decide) (by decide) rfl hx_X5_many (tx_X5_many X hw) (lw_V q1341 q1329 q1330 q125 q1331) ⟨by decide, by decide⟩ ⟨(by decide), (by decide)⟩ rfl (Nat.le_of_ble_eq_true rfl) dX5_shows_2 rfl (fun r9 Tz Iz Rz Lz hΦ => ?_) hok
  obtain ⟨r2, rfl, rfl, rfl, rfl, rfl, hw⟩ := hΦ
  show GX E X T I R L 0 0 5 [some (aR (some o)), none, none, none] [aI r2]
  intro hok
  refine g_istn1 hE1 dX5_shows_5 (by decide) rfl ?_
  refine g_iconst hE1 dX5_shows_6 ?_
  refine g_istn2 hE1 dX5_shows_7 (by decide) rfl ?_
  refine lq2_walk (fun (x2_8 : Int) (I_8 : xI) => GX E X T I_8 R L 0 0 8 [some (aR (some o)), some (aI r2), some (aI x2_8), none] []) (fun K_8 hk_8 x2_8 I_8 hw => ?_) _ _ hw hok
  intro hok
  refine g_ildn2 hE1 dX5_shows_8 ?_
  refine g_aldn0 hE1 dX5_shows_9 ?_
  refine gx_getr hE in_X5 (t := 10) rfl (by decide) 1 1 rfl (by decide) rfl (by decide) rfl q964 (Or.inl rfl) ht1 dX5_shows_10 ?_ hok
  intro hok
  obtain ⟨b4, hb5, hw⟩ := hw
  rw [hb5]
  obtain ⟨ht6, hw⟩ := hw
  refine gx_callV hE hRm (As := []) ht6 (by decide) (by decide) rfl hx_J24_size (tx_J24_size X hw) (lw_V q978 q538 q2592 q126 q539) ⟨by decide, by decide⟩ ⟨(by decide), (by decide)⟩ rfl (Nat.le_of_ble_eq_true rfl) dX5_shows_13 rfl (fun r9 Tz Iz Rz Lz hΦ => ?_) hok
  obtain ⟨r7, rfl, rfl, rfl, rfl, rfl, hw⟩ := hΦ
  show GX E X T I_8 R L 0 0 16 [some (aR (some o)), some (aI r2), some (aI x2_8), none] [aI r7, aI x2_8]
  intro hok
  obtain ⟨h22, h23, hT24, hN25⟩ := hw
  refine g_icmp_ge hE1 (tgt := 56) dX5_shows_16 (by decide) h22 h23 (fun q => ?_) (fun q => ?_)
  · have hw := hT24 q
    refine g_aldn0 hE1 dX5_shows_19 ?_
    refine gx_getr hE in_X5 (t := 10) rfl (by decide) 1 1 rfl (by decide) rfl (by decide) rfl q964 (Or.inl rfl) ht1 dX5_shows_20 ?_ hok
    intro hok
    refine g_ildn2 hE1 dX5_shows_23 ?_
    obtain ⟨b9, hb10, hw⟩ := hw
    rw [hb10]
    obtain ⟨ht11, hw⟩ := hw
    refine gx_callV hE hRm (As := [aI x2_8]) ht11 (by decide) (by decide) rfl hx_J24_get (tx_J24_get X hw) (lw_V q979 q583 q2593 q126 q584) ⟨by decide, by decide⟩ ⟨(by decide), (by decide)⟩ rfl (Nat.le_of_ble_eq_true rfl) dX5_shows_24 rfl (fun r9 Tz Iz Rz Lz hΦ => ?_) hok
    obtain ⟨r12, rfl, rfl, rfl, rfl, rfl, hw⟩ := hΦ
    show GX E X T I_8 R L 0 0 27 [some (aR (some o)), some (aI r2), some (aI x2_8), none] [aR r12]
    intro hok
    obtain ⟨b14, hb15, hw⟩ := hw
    rw [hb15]
    obtain ⟨ht16, hw⟩ := hw
    refine gx_castS hE ht16 (by decide) (by decide) rfl q980 dX5_shows_27 ?_ hok
    intro hok
    refine g_astn3 hE1 dX5_shows_30 (by decide) rfl ?_
    refine g_aldn3 hE1 dX5_shows_31 ?_
    refine g_aldn3 hE1 dX5_shows_32 ?_
    refine gx_getiN hE in_X6 (t := 12) rfl (by decide) 3 3 rfl (by decide) rfl (by decide) rfl q1001 (Or.inl rfl) ht16 dX5_shows_33 ?_ hok
    intro hok
    refine jn1_walk (fun (y1_47 : Int) => GX E X T I_8 R L 0 0 47 [some (aR (some o)), some (aI r2), some (aI x2_8), some (aR (some b14))] [aI y1_47, aR (some b14)]) hw (fun y1_47 hw => ?_) (fun J_47 hj_47 hw => ?_)
    · intro hok
      refine gx_putiN hE in_X6 (t := 12) rfl (by decide) 3 3 rfl (by decide) rfl (by decide) (ty := tyX6 3) tyX6 tyX6_ok nmX6 rfl q1001 (Or.inl rfl) rfl (tyX6_ok 3 (by decide)) rfl rfl ht16 dX5_shows_47 ?_ hok
      intro hok
      have hw := hw _ rfl
      generalize uI I_8 b14 3 y1_47 = I17 at hw hok ⊢
      refine g_iinc2 hE1 dX5_shows_50 (by decide) rfl ?_
      refine g_goto hE1 (tgt := 8) dX5_shows_53 (by decide) ?_
      refine g_kl3 ?_
      exact hk_8 _ _ hw hok
    · skip
      obtain ⟨h18, h19, hT20, hN21⟩ := hw
      refine g_if_ne hE1 (tgt := 43) dX5_shows_36 (by decide) h18 (fun q => ?_) (fun q => ?_)
      · have hw := hT20 q
        refine g_iconst hE1 dX5_shows_39 ?_
        refine g_goto hE1 (tgt := 47) dX5_shows_40 (by decide) ?_
        exact hj_47 _ hw hok
      · have hw := hN21 q
        refine g_aldn3 hE1 dX5_shows_43 ?_
        refine gx_getiN hE in_X6 (t := 12) rfl (by decide) 3 3 rfl (by decide) rfl (by decide) rfl q1001 (Or.inl rfl) ht16 dX5_shows_44 ?_ hok
        intro hok
        exact hj_47 _ hw hok
  · have hw := hN25 q
    refine g_ildn1 hE1 dX5_shows_56 ?_
    exact gx_iret hE hR dX5_shows_57 (by decide) (by decide) rfl ⟨_, rfl, rfl, rfl, rfl, hw⟩ hok

/-- WhalingLogs$Archive.readsPage(II)I -/
def wx_X1_readsPage (X : XT) (o : Nat) (x1 : Int) (x2 : Int) (T : xT) (I : xI) (R : xR) (L : xL) (Q : Int → xT → xI → xR → Prop) (Y : Nat → xT → xI → xR → Prop) : Prop :=
  xtag T o = 2 ∧ wx_X1_checkPage X o x1 T I R L (fun (T2 : xT) (I3 : xI) (R4 : xR) => tle T T2 → 
    wx_X0_isIn X x2 0 2 T2 I3 R4 L (fun (r6 : Int) => 
    jn1 (fun (y0_19 : Int) => 
        wx_X0_refuse X y0_19 1 x2 T2 I3 R4 L (fun (T8 : xT) (I9 : xI) (R10 : xR) => tle T2 T8 → 
          ∃ b13 : Nat, R10 o 1 = some b13 ∧ xtag T8 b13 = 4 ∧ wx_J4_get X b13 x1 T8 I9 R10 L (fun (r16 : Option Nat) => 
          ∃ b18 : Nat, r16 = some b18 ∧ xtag T8 b18 = 10 ∧
          ∃ b21 : Nat, R10 o 2 = some b21 ∧ xtag T8 b21 = 100 ∧ ib x2 (xlen T8 b21) ∧ xlen T8 b21 < 2147483648 ∧
          wx_X5_isLegible X b18 x2 (I9 b21 x2) T8 I9 R10 L (fun (r26 : Int) => 
          jn1 (fun (y0_55 : Int) => 
              wx_X0_refuse X y0_55 3 (I9 b18 2) T8 I9 R10 L (fun (T28 : xT) (I29 : xI) (R30 : xR) => tle T8 T28 → 
                wx_X5_many X b18 0 T28 I29 R30 L (fun (r33 : Int) => 
                jn1 (fun (y0_76 : Int) => 
                    ∃ b35 : Nat, R30 b18 1 = some b35 ∧ xtag T28 b35 = 11 ∧ wx_J24_size X b35 T28 I29 R30 L (fun (r38 : Int) => 
                    wx_X0_refuse X y0_76 4 r38 T28 I29 R30 L (fun (T40 : xT) (I41 : xI) (R42 : xR) => tle T28 T40 → 
                      wx_X5_fades X b18 x2 T40 I41 R42 L (fun (I45 : xI) => 
                      ∀ I48 : xI, I48 = uI I45 o 5 ((I45 o 5) + 1) →
                      wx_X5_shows X b18 T40 I48 R42 L (fun (r49 : Int) (I50 : xI) => 
                      Q r49 T40 I50 R42)))
                      (fun (e52 : Nat) (T53 : xT) (I54 : xI) (R55 : xR) => tle T28 T53 → xtag T53 e52 = 14 → 
                      Y e52 T53 I54 R55)))
                  (fun (J_76 : Int → Prop) =>
                  cEq r33 0
                    (
                    J_76 1)
                    (
                    J_76 0))))
                (fun (e62 : Nat) (T63 : xT) (I64 : xI) (R65 : xR) => tle T8 T63 → xtag T63 e62 = 14 → 
                Y e62 T63 I64 R65))
            (fun (J_55 : Int → Prop) =>
            cEq r26 0
              (
              J_55 1)
              (
              J_55 0)))))
          (fun (e72 : Nat) (T73 : xT) (I74 : xI) (R75 : xR) => tle T2 T73 → xtag T73 e72 = 14 → 
          Y e72 T73 I74 R75))
      (fun (J_19 : Int → Prop) =>
      cEq r6 0
        (
        J_19 1)
        (
        J_19 0))))
    (fun (e82 : Nat) (T83 : xT) (I84 : xI) (R85 : xR) => tle T T83 → xtag T83 e82 = 14 → 
    Y e82 T83 I84 R85)
theorem hx_X1_readsPage : yX1_readsPage.cls = RX1 ∧ yX1_readsPage.cls ≠ "java/lang/invoke/MethodHandle" ∧ yX1_readsPage.cls ≠ "java/lang/invoke/VarHandle" ∧ (parseMethodDescriptor yX1_readsPage.desc).map (fun d => d.parameters.length) = some 2 := by decide +kernel
set_option maxHeartbeats 4000000 in
theorem tx_X1_readsPage (X : XT) {o : Nat} {x1 : Int} {x2 : Int} {T : xT} {I : xI} {R : xR} {L : xL} {Q : Int → xT → xI → xR → Prop} {Y : Nat → xT → xI → xR → Prop} (hw : wx_X1_readsPage X o x1 x2 T I R L Q Y) : CtY X yX1_readsPage cX1_readsPage 4 (some .int) (rmX 6 4 32 133) [aR (some o), aI x1, aI x2] T I R L (PXiTIR T I R L Q) (PYTIR T I R L "WhalingLogs$Refused" 14 Y) := by
  refine CtY.intro (by decide) (Nat.le_of_ble_eq_true rfl) (fun E hE hR hY hN => ?_)
  have hRm := hR.rm
  have hE : OkX E X RX1 cX1_readsPage 4 (some .int) := hE
  have hE1 := hE.1
  show GX E X T I R L 0 0 0 [some (aR (some o)), some (aI x1), some (aI x2), none] []
  unfold wx_X1_readsPage at hw
  intro hok
  refine g_aldn0 hE1 dX1_readsPage_0 ?_
  refine g_ildn1 hE1 dX1_readsPage_1 ?_
  obtain ⟨ht1, hw⟩ := hw
  refine gy_callV hE hRm (As := [aI x1]) ht1 (by decide) (by decide) rfl hx_X1_checkPage (tx_X1_checkPage X hw) (lw_V q1260 q1262 qs21 q95 q1263) ⟨by decide, by decide⟩ ⟨(by decide), (by decide)⟩ rfl (Nat.le_of_ble_eq_true rfl) dX1_readsPage_2 rfl (fun r9 T2 I3 R4 Lz hΦ => ?_) (fun Ec q9 T83 I84 R85 Lz hΦ => ?_) hok
  · obtain ⟨rfl, rfl, hl5, hw⟩ := hΦ
    have hw := hw hl5
    show GX E X T2 I3 R4 L 1 8 5 [some (aR (some o)), some (aI x1), some (aI x2), none] []
    intro hok
    refine g_ildn2 hE1 dX1_readsPage_5 ?_
    refine g_iconst hE1 dX1_readsPage_6 ?_
    refine g_iconst hE1 dX1_readsPage_7 ?_
    refine gx_callSN hE hRm (As := [aI x2, aI 0, aI 2]) hx_X0_isIn (tx_X0_isIn X hw) (lw_meth q394) q1268 q94 q393 ⟨by decide, by decide⟩ ⟨(by decide), (by decide)⟩ rfl (Nat.le_of_ble_eq_true rfl) dX1_readsPage_8 rfl (fun r9 Tz Iz Rz Lz hΦ => ?_) hok
    obtain ⟨r6, rfl, rfl, rfl, rfl, rfl, hw⟩ := hΦ
    show GX E X T2 I3 R4 L 1 8 11 [some (aR (some o)), some (aI x1), some (aI x2), none] [aI r6]
    intro hok
    refine jn1_walk (fun (y0_19 : Int) => GX E X T2 I3 R4 L 1 8 19 [some (aR (some o)), some (aI x1), some (aI x2), none] [aI y0_19]) hw (fun y0_19 hw => ?_) (fun J_19 hj_19 hw => ?_)
    · intro hok
      refine g_iconst hE1 dX1_readsPage_19 ?_
      refine g_ildn2 hE1 dX1_readsPage_20 ?_
      refine gy_callSN hE hRm (As := [aI y0_19, aI 1, aI x2]) hx_X0_refuse (tx_X0_refuse X hw) (lw_meth q1104) q1102 q94 q1103 ⟨by decide, by decide⟩ ⟨(by decide), (by decide)⟩ rfl (Nat.le_of_ble_eq_true rfl) dX1_readsPage_21 rfl (fun r9 T8 I9 R10 Lz hΦ => ?_) (fun Ec q9 T73 I74 R75 Lz hΦ => ?_) hok
      · obtain ⟨rfl, rfl, hl11, hw⟩ := hΦ
        have hw := hw hl11
        show GX E X T8 I9 R10 L 2 16 24 [some (aR (some o)), some (aI x1), some (aI x2), none] []
        intro hok
        refine g_aldn0 hE1 dX1_readsPage_24 ?_
        have ht12 := (hl5.tr hl11).tag ht1 (by decide)
        refine gx_getr hE in_X1 (t := 2) rfl (by decide) 1 1 rfl (by decide) rfl (by decide) rfl q223 (Or.inl rfl) ht12 dX1_readsPage_25 ?_ hok
        intro hok
        refine g_ildn1 hE1 dX1_readsPage_28 ?_
        obtain ⟨b13, hb14, hw⟩ := hw
        rw [hb14]
        obtain ⟨ht15, hw⟩ := hw
        refine gx_callV hE hRm (As := [aI x1]) ht15 (by decide) (by decide) rfl hx_J4_get (tx_J4_get X hw) (lw_V q1273 q596 q2595 q100 q597) ⟨by decide, by decide⟩ ⟨(by decide), (by decide)⟩ rfl (Nat.le_of_ble_eq_true rfl) dX1_readsPage_29 rfl (fun r9 Tz Iz Rz Lz hΦ => ?_) hok
        obtain ⟨r16, rfl, rfl, rfl, rfl, rfl, hw⟩ := hΦ
        show GX E X T8 I9 R10 L 2 16 32 [some (aR (some o)), some (aI x1), some (aI x2), none] [aR r16]
        intro hok
        obtain ⟨b18, hb19, hw⟩ := hw
        rw [hb19]
        obtain ⟨ht20, hw⟩ := hw
        refine gx_castS hE ht20 (by decide) (by decide) rfl q933 dX1_readsPage_32 ?_ hok
        intro hok
        refine g_astn3 hE1 dX1_readsPage_35 (by decide) rfl ?_
        refine g_aldn3 hE1 dX1_readsPage_36 ?_
        refine g_ildn2 hE1 dX1_readsPage_37 ?_
        refine g_aldn0 hE1 dX1_readsPage_38 ?_
        refine gx_getr hE in_X1 (t := 2) rfl (by decide) 2 2 rfl (by decide) rfl (by decide) rfl q226 (Or.inl rfl) ht12 dX1_readsPage_39 ?_ hok
        intro hok
        refine g_ildn2 hE1 dX1_readsPage_42 ?_
        obtain ⟨b21, hb22, hw⟩ := hw
        rw [hb22]
        obtain ⟨ht23, hw⟩ := hw
        obtain ⟨h24, h25, hw⟩ := hw
        refine gx_iald hE ht23 h24 h25 dX1_readsPage_43 ?_ hok
        intro hok
        refine gx_callV hE hRm (As := [aI x2, aI (I9 b21 x2)]) ht20 (by decide) (by decide) rfl hx_X5_isLegible (tx_X5_isLegible X hw) (lw_V q1321 q1322 q1323 q125 q1324) ⟨by decide, by decide⟩ ⟨(by decide), (by decide)⟩ rfl (Nat.le_of_ble_eq_true rfl) dX1_readsPage_44 rfl (fun r9 Tz Iz Rz Lz hΦ => ?_) hok
        obtain ⟨r26, rfl, rfl, rfl, rfl, rfl, hw⟩ := hΦ
        show GX E X T8 I9 R10 L 2 16 47 [some (aR (some o)), some (aI x1), some (aI x2), some (aR (some b18))] [aI r26]
        intro hok
        refine jn1_walk (fun (y0_55 : Int) => GX E X T8 I9 R10 L 2 16 55 [some (aR (some o)), some (aI x1), some (aI x2), some (aR (some b18))] [aI y0_55]) hw (fun y0_55 hw => ?_) (fun J_55 hj_55 hw => ?_)
        · intro hok
          refine g_iconst hE1 dX1_readsPage_55 ?_
          refine g_aldn3 hE1 dX1_readsPage_56 ?_
          refine gx_getiN hE in_X5 (t := 10) rfl (by decide) 2 2 rfl (by decide) rfl (by decide) rfl q969 (Or.inl rfl) ht20 dX1_readsPage_57 ?_ hok
          intro hok
          refine gy_callSN hE hRm (As := [aI y0_55, aI 3, aI (I9 b18 2)]) hx_X0_refuse (tx_X0_refuse X hw) (lw_meth q1104) q1102 q94 q1103 ⟨by decide, by decide⟩ ⟨(by decide), (by decide)⟩ rfl (Nat.le_of_ble_eq_true rfl) dX1_readsPage_60 rfl (fun r9 T28 I29 R30 Lz hΦ => ?_) (fun Ec q9 T63 I64 R65 Lz hΦ => ?_) hok
          · obtain ⟨rfl, rfl, hl31, hw⟩ := hΦ
            have hw := hw hl31
            show GX E X T28 I29 R30 L 3 24 63 [some (aR (some o)), some (aI x1), some (aI x2), some (aR (some b18))] []
            intro hok
            refine g_aldn3 hE1 dX1_readsPage_63 ?_
            refine g_iconst hE1 dX1_readsPage_64 ?_
            have ht32 := hl31.tag ht20 (by decide)
            refine gx_callV hE hRm (As := [aI 0]) ht32 (by decide) (by decide) rfl hx_X5_many (tx_X5_many X hw) (lw_V q1328 q1329 q1330 q125 q1331) ⟨by decide, by decide⟩ ⟨(by decide), (by decide)⟩ rfl (Nat.le_of_ble_eq_true rfl) dX1_readsPage_65 rfl (fun r9 Tz Iz Rz Lz hΦ => ?_) hok
            obtain ⟨r33, rfl, rfl, rfl, rfl, rfl, hw⟩ := hΦ
            show GX E X T28 I29 R30 L 3 24 68 [some (aR (some o)), some (aI x1), some (aI x2), some (aR (some b18))] [aI r33]
            intro hok
            refine jn1_walk (fun (y0_76 : Int) => GX E X T28 I29 R30 L 3 24 76 [some (aR (some o)), some (aI x1), some (aI x2), some (aR (some b18))] [aI y0_76]) hw (fun y0_76 hw => ?_) (fun J_76 hj_76 hw => ?_)
            · intro hok
              refine g_iconst hE1 dX1_readsPage_76 ?_
              refine g_aldn3 hE1 dX1_readsPage_77 ?_
              refine gx_getrN hE in_X5 (t := 10) rfl (by decide) 1 1 rfl (by decide) rfl (by decide) rfl q966 (Or.inl rfl) ht32 dX1_readsPage_78 ?_ hok
              intro hok
              obtain ⟨b35, hb36, hw⟩ := hw
              rw [hb36]
              obtain ⟨ht37, hw⟩ := hw
              refine gx_callV hE hRm (As := []) ht37 (by decide) (by decide) rfl hx_J24_size (tx_J24_size X hw) (lw_V q1274 q538 q2592 q126 q539) ⟨by decide, by decide⟩ ⟨(by decide), (by decide)⟩ rfl (Nat.le_of_ble_eq_true rfl) dX1_readsPage_81 rfl (fun r9 Tz Iz Rz Lz hΦ => ?_) hok
              obtain ⟨r38, rfl, rfl, rfl, rfl, rfl, hw⟩ := hΦ
              show GX E X T28 I29 R30 L 3 24 84 [some (aR (some o)), some (aI x1), some (aI x2), some (aR (some b18))] [aI r38, aI 4, aI y0_76]
              intro hok
              refine gy_callSN hE hRm (As := [aI y0_76, aI 4, aI r38]) hx_X0_refuse (tx_X0_refuse X hw) (lw_meth q1104) q1102 q94 q1103 ⟨by decide, by decide⟩ ⟨(by decide), (by decide)⟩ rfl (Nat.le_of_ble_eq_true rfl) dX1_readsPage_84 rfl (fun r9 T40 I41 R42 Lz hΦ => ?_) (fun Ec q9 T53 I54 R55 Lz hΦ => ?_) hok
              · obtain ⟨rfl, rfl, hl43, hw⟩ := hΦ
                have hw := hw hl43
                show GX E X T40 I41 R42 L 4 32 87 [some (aR (some o)), some (aI x1), some (aI x2), some (aR (some b18))] []
                intro hok
                refine g_aldn3 hE1 dX1_readsPage_87 ?_
                refine g_ildn2 hE1 dX1_readsPage_88 ?_
                have ht44 := (hl31.tr hl43).tag ht20 (by decide)
                refine gx_callV hE hRm (As := [aI x2]) ht44 (by decide) (by decide) rfl hx_X5_fades (tx_X5_fades X hw) (lw_V q1332 q1333 q1334 q125 q1335) ⟨by decide, by decide⟩ ⟨(by decide), (by decide)⟩ rfl (Nat.le_of_ble_eq_true rfl) dX1_readsPage_89 rfl (fun r9 Tz I45 Rz Lz hΦ => ?_) hok
                obtain ⟨rfl, rfl, rfl, rfl, hw⟩ := hΦ
                show GX E X T40 I45 R42 L 4 32 92 [some (aR (some o)), some (aI x1), some (aI x2), some (aR (some b18))] []
                intro hok
                refine g_aldn0 hE1 dX1_readsPage_92 ?_
                refine g_dup hE1 dX1_readsPage_93 rfl ?_
                have ht47 := (((hl5.tr hl11).tr hl31).tr hl43).tag ht1 (by decide)
                refine gx_geti hE in_X1 (t := 2) rfl (by decide) 5 5 rfl (by decide) rfl (by decide) rfl q234 (Or.inl rfl) ht47 dX1_readsPage_94 ?_ hok
                intro hok
                refine g_iconst hE1 dX1_readsPage_97 ?_
                refine g_iadd hE1 dX1_readsPage_98 ?_
                refine gx_puti hE in_X1 (t := 2) rfl (by decide) 5 5 rfl (by decide) rfl (by decide) (ty := tyX1 5) tyX1 tyX1_ok nmX1 rfl q234 (Or.inl rfl) rfl (tyX1_ok 5 (by decide)) rfl rfl ht47 dX1_readsPage_99 ?_ hok
                intro hok
                have hw := hw _ rfl
                generalize uI I45 o 5 ((I45 o 5) + 1) = I48 at hw hok ⊢
                refine g_aldn3 hE1 dX1_readsPage_102 ?_
                refine gx_callV hE hRm (As := []) ht44 (by decide) (by decide) rfl hx_X5_shows (tx_X5_shows X hw) (lw_V q1337 q1338 q1339 q125 q1340) ⟨by decide, by decide⟩ ⟨(by decide), (by decide)⟩ rfl (Nat.le_of_ble_eq_true rfl) dX1_readsPage_103 rfl (fun r9 Tz I50 Rz Lz hΦ => ?_) hok
                obtain ⟨r49, rfl, rfl, rfl, rfl, hw⟩ := hΦ
                show GX E X T40 I50 R42 L 4 32 106 [some (aR (some o)), some (aI x1), some (aI x2), some (aR (some b18))] [aI r49]
                intro hok
                exact gx_iret hE hR dX1_readsPage_106 (by decide) (by decide) rfl ⟨_, rfl, rfl, (((hl5.tr hl11).tr hl31).tr hl43), hw⟩ hok
              · have hq9 : ∃ q8, q8 = q9 := ⟨_, rfl⟩
                obtain ⟨e52, rfl⟩ := hq9
                obtain ⟨rfl, rfl, hl56, ht57, hw⟩ := hΦ
                have hw := hw hl56 ht57
                exact gx_out hE hY (by decide) (by decide) ⟨rfl, rfl, (((hl5.tr hl11).tr hl31).tr hl56), ht57, hw⟩
            · skip
              obtain ⟨h58, h59, hT60, hN61⟩ := hw
              refine g_if_ne hE1 (tgt := 75) dX1_readsPage_68 (by decide) h58 (fun q => ?_) (fun q => ?_)
              · have hw := hT60 q
                refine g_iconst hE1 dX1_readsPage_71 ?_
                refine g_goto hE1 (tgt := 76) dX1_readsPage_72 (by decide) ?_
                exact hj_76 _ hw hok
              · have hw := hN61 q
                refine g_iconst hE1 dX1_readsPage_75 ?_
                exact hj_76 _ hw hok
          · have hq9 : ∃ q8, q8 = q9 := ⟨_, rfl⟩
            obtain ⟨e62, rfl⟩ := hq9
            obtain ⟨rfl, rfl, hl66, ht67, hw⟩ := hΦ
            have hw := hw hl66 ht67
            exact gx_out hE hY (by decide) (by decide) ⟨rfl, rfl, ((hl5.tr hl11).tr hl66), ht67, hw⟩
        · skip
          obtain ⟨h68, h69, hT70, hN71⟩ := hw
          refine g_if_ne hE1 (tgt := 54) dX1_readsPage_47 (by decide) h68 (fun q => ?_) (fun q => ?_)
          · have hw := hT70 q
            refine g_iconst hE1 dX1_readsPage_50 ?_
            refine g_goto hE1 (tgt := 55) dX1_readsPage_51 (by decide) ?_
            exact hj_55 _ hw hok
          · have hw := hN71 q
            refine g_iconst hE1 dX1_readsPage_54 ?_
            exact hj_55 _ hw hok
      · have hq9 : ∃ q8, q8 = q9 := ⟨_, rfl⟩
        obtain ⟨e72, rfl⟩ := hq9
        obtain ⟨rfl, rfl, hl76, ht77, hw⟩ := hΦ
        have hw := hw hl76 ht77
        exact gx_out hE hY (by decide) (by decide) ⟨rfl, rfl, (hl5.tr hl76), ht77, hw⟩
    · skip
      obtain ⟨h78, h79, hT80, hN81⟩ := hw
      refine g_if_ne hE1 (tgt := 18) dX1_readsPage_11 (by decide) h78 (fun q => ?_) (fun q => ?_)
      · have hw := hT80 q
        refine g_iconst hE1 dX1_readsPage_14 ?_
        refine g_goto hE1 (tgt := 19) dX1_readsPage_15 (by decide) ?_
        exact hj_19 _ hw hok
      · have hw := hN81 q
        refine g_iconst hE1 dX1_readsPage_18 ?_
        exact hj_19 _ hw hok
  · have hq9 : ∃ q8, q8 = q9 := ⟨_, rfl⟩
    obtain ⟨e82, rfl⟩ := hq9
    obtain ⟨rfl, rfl, hl86, ht87, hw⟩ := hΦ
    have hw := hw hl86 ht87
    exact gx_out hE hY (by decide) (by decide) ⟨rfl, rfl, hl86, ht87, hw⟩

