/-! CONTRACTS, RETURNS, CALLS; LOOPS AND JOINS; the reference's world -/
set_option maxRecDepth 100000
/-- the walk's end is the contract's end; its room -/
def RtE (E : GE) (rm : Room) (Φ : Option AV → va_W → Nat → Prop) : Prop := match E with
  | (p, l, e, R, s, m, args, below, meth, c, A, Q, D, cl, tys) => R = rm ∧ Q = MQ below (QcG Φ D cl tys A) args s rm.cells rm.slots A
def TbE (E : GE) (l0 : Launch) (D0 : va_G) (cl0 : List vw_C) (tys0 : List (ClassId × FieldType)) : Prop := match E with
  | (p, l, e, R, s, m, args, below, meth, c, A, Q, D, cl, tys) => l = l0 ∧ D = D0 ∧ cl = cl0 ∧ tys = tys0
theorem toV_cat2 (x : Int64) : (Value.long x).category = 2 := rfl
theorem lg_sl_toV : ∀ (av : List AV), (lg_sl (av.map toV)).length = (ents av).length
  | [] => rfl
  | (.inl x) :: r => by
    have h := lg_sl_toV r
    simp only [List.map_cons, lg_sl, List.flatMap_cons, ents, List.length_append, List.length_cons] at h ⊢
    rw [h]
    simp [toV, Value.category]; omega
  | (.inr (.inl x)) :: r => by
    have h := lg_sl_toV r
    have hc : (toV (.inr (.inl x))).category = 1 := toV_cat1 rfl
    simp only [List.map_cons, lg_sl, List.flatMap_cons, ents, List.length_append, List.length_cons] at h ⊢
    rw [h, hc]
    simp; omega
  | (.inr (.inr x)) :: r => by
    have h := lg_sl_toV r
    simp only [List.map_cons, lg_sl, List.flatMap_cons, ents, List.length_append, List.length_cons] at h ⊢
    rw [h]
    simp [toV, Value.category]; omega
theorem ents_args : ∀ (av : List AV) (b : Nat), prs b (ents av) = lv_args b (av.map toV)
  | [], b => rfl
  | (.inl x) :: r, b => by
    have h := ents_args r (b + 1)
    simp only [ents, prs, List.map_cons, lv_args, h]
    rfl
  | (.inr (.inl x)) :: r, b => by
    have h := ents_args r (b + 1)
    have hc : (toV (.inr (.inl x))).category = 1 := toV_cat1 rfl
    simp only [ents, prs, List.map_cons, lv_args, h, hc]
    rfl
  | (.inr (.inr x)) :: r, b => by
    have h := ents_args r (b + 2)
    simp only [ents, prs, List.map_cons, lv_args, h]
    rfl
theorem prs_none : ∀ (l : List LV) (b k : Nat), prs b (l ++ List.replicate k none) = prs b l
  | [], b, 0 => rfl
  | [], b, k + 1 => by
    have := prs_none [] (b + 1) k
    simpa [List.replicate_succ, prs] using this
  | none :: r, b, k => by simp only [List.cons_append, prs]; exact prs_none r (b + 1) k
  | some v :: r, b, k => by simp only [List.cons_append, prs]; rw [prs_none r (b + 1) k]
/-- a contract by a walk -/
theorem Ct.intro {l : Launch} {D : va_G} {cl : List vw_C} {tys : List (ClassId × FieldType)} {y : MethodName} {cc : ByteArray} {nL : Nat} {ret : Option FieldType} {rm : Room} {av : List AV} {ws : va_W} {z : Nat} {Φ : Option AV → va_W → Nat → Prop}
    (hy : plainName y.cls = true) (hn : (ents av).length ≤ nL)
    (body : ∀ E : GE, OkE E y.cls cc nL ret → RtE E rm Φ → TbE E l D cl tys → G E ws (some z) 0 0 0 (ents av ++ List.replicate (nL - (ents av).length) none) []) : Ct l D cl tys y cc nL ret rm av ws z Φ := by
  refine Met.ofW (cc := cc) (maxL := nL) (ret := ret) hy rfl ?_
  intro p e s m args below meth c s₁ B hml hv
  obtain ⟨rfl, hsz, hP, hK, hD0⟩ := hv
  have hts := atoms_spec (ws := ws_ y cc nL ret) B.pre
  have hts : ∀ w ∈ lw_all, w.before _ s = true := fun w h => hts w (List.mem_cons_of_mem _ h)
  have hown : s.vm.findClass y.cls = some m.cls := findClass_of_methodNamed B.named
  have hA : ∀ q : Nat, s.heap.size ≤ q → va_A ws z q := fun q h => Or.inr (by rw [← hsz]; exact h)
  have hl := lv_entry (av.map toV) (n := nL) (by rw [lg_sl_toV]; exact hn)
  rw [lg_entry_eq]
  have hl2 : LH ((lg_sl (av.map toV) ++ List.replicate (nL - (lg_sl (av.map toV)).length) Slot.unset).toArray) c.maxLocals (ents av ++ List.replicate (nL - (ents av).length) none) := by
    show lv_has _ _ _
    rw [prs_none, ents_args, hml]
    exact hl
  exact body (p, l, e, rm, s, m, (av.map toV).toArray, below, meth, c, va_A ws z, MQ below (QcG Φ D cl tys (va_A ws z)) (av.map toV).toArray s rm.cells rm.slots (va_A ws z), D, cl, tys)
    ⟨B.exec, B.bytes, hml, hown, hts, B.returns, B.notSynchronized, hK, hA⟩ ⟨rfl, rfl⟩ ⟨rfl, rfl, rfl, rfl⟩ s.heap [] _ (fun q h => hsz.trans (Option.some.inj h)) hP hD0.self va_S.rf hl2
theorem narrow_bl {x : Int} (h : bl x) : narrow .boolean (.int (iI x)) = .int (iI x) := by
  rcases h with rfl | rfl <;> decide

theorem g_vret {E : GE} {own : String} {cc : ByteArray} {nL : Nat} {ws : va_W} {z k n pc : Nat} {lv : List LV} {rm : Room} {Φ : Option AV → va_W → Nat → Prop}  (hE : OkE E own cc nL none) (hR : RtE E rm Φ) (d : decode cc pc = .ok (.return_, 1)) (hk : k ≤ rm.cells) (hn : n ≤ rm.slots)  (h : Φ none ws z) : G E ws (some z) k n pc lv [] := by
  obtain ⟨p, l, e, R, s, m, args, below, meth, c, A, Q, D, cl, tys⟩ := E
  obtain ⟨hx, hb, hml, hown, hts, hr, hlk, hK, hA⟩ := hE
  obtain ⟨rfl, rfl⟩ := hR
  intro H locs ls hz hP hD hS hl
  refine W.widen (k := R.cells) (n := R.slots) hk hn ?_
  exact W.vret hx hb hr (fun t ht hW => ⟨⟨none, ws, z, rfl, h, by rw [ht]; exact hz z rfl, by rw [ht]; exact hP, va_K.moved hW.alike hK, hD⟩, hS.F ht⟩) hS.2.2 d (hlocks := hlk)
theorem g_iret {E : GE} {own : String} {cc : ByteArray} {nL : Nat} {ws : va_W} {z k n pc : Nat} {lv : List LV} {rm : Room} {Φ : Option AV → va_W → Nat → Prop} {ty : FieldType} {x : Int} (hE : OkE E own cc nL (some ty)) (hR : RtE E rm Φ) (d : decode cc pc = .ok (.ireturn, 1)) (hk : k ≤ rm.cells) (hn : n ≤ rm.slots) (hnr : narrow ty (.int (iI x)) = .int (iI x)) (h : Φ (some (aI x)) ws z) : G E ws (some z) k n pc lv [aI x] := by
  obtain ⟨p, l, e, R, s, m, args, below, meth, c, A, Q, D, cl, tys⟩ := E
  obtain ⟨hx, hb, hml, hown, hts, hr, hlk, hK, hA⟩ := hE
  obtain ⟨rfl, rfl⟩ := hR
  intro H locs ls hz hP hD hS hl
  refine W.widen (k := R.cells) (n := R.slots) hk hn ?_
  exact W.zret (v := iI x) hx hb hr hnr (fun t ht hW => ⟨⟨some (aI x), ws, z, rfl, h, by rw [ht]; exact hz z rfl, by rw [ht]; exact hP, va_K.moved hW.alike hK, hD⟩, hS.F ht⟩) hS.2.2 d (hlocks := hlk)
theorem g_aret {E : GE} {own : String} {cc : ByteArray} {nL : Nat} {ws : va_W} {z k n pc : Nat} {lv : List LV} {rm : Room} {Φ : Option AV → va_W → Nat → Prop} {ty : FieldType} {x : Option Nat} (hE : OkE E own cc nL (some ty)) (hR : RtE E rm Φ) (d : decode cc pc = .ok (.areturn, 1)) (hk : k ≤ rm.cells) (hn : n ≤ rm.slots) (hrt : (∃ n, ty = .object n) ∨ ∃ t, ty = .array t) (h : Φ (some (aR x)) ws z) : G E ws (some z) k n pc lv [aR x] := by
  obtain ⟨p, l, e, R, s, m, args, below, meth, c, A, Q, D, cl, tys⟩ := E
  obtain ⟨hx, hb, hml, hown, hts, hr, hlk, hK, hA⟩ := hE
  obtain ⟨rfl, rfl⟩ := hR
  intro H locs ls hz hP hD hS hl
  refine W.widen (k := R.cells) (n := R.slots) hk hn ?_
  exact W.aret (v := va_rf x) hx hb hr hrt (by cases x with | none => exact Or.inl rfl | some a => exact Or.inr ⟨a, rfl⟩) (fun t ht hW => ⟨⟨some (aR x), ws, z, rfl, h, by rw [ht]; exact hz z rfl, by rw [ht]; exact hP, va_K.moved hW.alike hK, hD⟩, hS.F ht⟩) hS.2.2 d (hlocks := hlk)
theorem PcG.blind {av : List AV} {ws : va_W} {z : Nat} {D : va_G} {cl : List vw_C} {tys : List (ClassId × FieldType)} : FrameBlind (PcG av ws z D cl tys) := fun a U g mk q => by
  obtain ⟨q0, q1, qP, qK, qD⟩ := q
  exact ⟨q0, q1, qP, va_K.moved (u := U) (U := U.calling g mk a) (Vm.Alike.refl U.vm) qK, qD⟩
def stk8 (st : List AV) : Prop := ((st.map toV).map fun v => v.category).sum ≤ 8
def acw : AV → Nat
  | .inl _ => 1
  | .inr (.inl _) => 1
  | .inr (.inr _) => 2
def acs : List AV → Nat
  | [] => 0
  | v :: r => acw v + acs r
theorem catle : ∀ (v : AV), (toV v).category ≤ acw v
  | .inl x => Nat.le_refl 1
  | .inr (.inl none) => Nat.le_refl 1
  | .inr (.inl (some _)) => Nat.le_refl 1
  | .inr (.inr x) => Nat.le_refl 2
theorem acs_le : ∀ (st : List AV), ((st.map toV).map fun v => v.category).sum ≤ acs st
  | [] => Nat.zero_le _
  | v :: r => by
    have h1 := catle v
    have h2 := acs_le r
    simp only [List.map_cons, List.sum_cons, acs]
    omega
theorem stk8_of (st : List AV) (b : Nat) (h : acs st ≤ b) : ((st.map toV).map fun v => v.category).sum ≤ b := Nat.le_trans (acs_le st) h
/-- behind a call over the same world -/
theorem g_after {E : GE} {ws : va_W} {z k n pc : Nat} {lv : List LV} {st st0 : List AV} {mc ms : Nat} {Φ : Option AV → va_W → Nat → Prop} {a : Array Value} {own : String} {cc : ByteArray} {nL : Nat} {ret : Option FieldType} (hE : OkE E own cc nL ret)
    (hr : match E with | (p, l, e, R, s, m, args, below, meth, c, A, Q, D, cl, tys) => ∀ (H : Heap) (locs : List Loc) (ls : Array Slot), H.size = z → va_P D cl ws H → va_D A ws → ls.size = c.maxLocals → va_Run p l e R s m args below meth c H locs k n mc ms (F0 m pc ls (st0.map toV)) (st.map toV) (QcG Φ D cl tys (va_A ws z) a) (va_A ws z))
    (kk : ∀ (r : Option AV) (ws' : va_W) (z' : Nat), Φ r ws' z' → z ≤ z' → G E ws' (some z') (k + mc) (n + ms) (pc + 3) lv (r.toList ++ st)) : G E ws (some z) k n pc lv st0 := by

  obtain ⟨p, l, e, R, s, m, args, below, meth, c, A, Q, D, cl, tys⟩ := E
  obtain ⟨hx, hb, hml, hown, hts, hrt, hlk, hK, hA⟩ := hE
  intro H locs ls hz hP hD hS hl T hT X
  have hz := hz z rfl
  obtain ⟨v, st₀, t, T', L, h0, X', hL, e1, e2, ⟨⟨r, ws', z', hv, hp, hz', hP', hK', hD'⟩, hF1, hF2⟩, stp⟩ := hr H locs ls hz hP hD hl.1 T hT X
  cases hv
  rw [h0] at hF1 hF2
  have hAA : ∀ q, va_A ws z q → A q := by
    intro q hq
    rcases hq with ⟨i, e0, hi⟩ | hq
    · exact hD.2 i (q, e0) hi
    · exact hA q (Nat.le_trans hS.1 (by rw [hz]; exact hq))
  have hzz : z ≤ z' := by rw [← hz, ← hz']; exact hF1
  have hS' : va_S A s.heap T'.heap (locs ++ L) := by
    refine ⟨Nat.le_trans hS.1 (by rw [e1]; exact hF1), fun q h1 h2 => ?_, fun q hq => ?_⟩
    · rw [e1, hF2 q (Nat.lt_of_lt_of_le h1 hS.1) (fun w => h2 (hAA q w))]
      exact hS.2.1 q h1 h2
    · rcases List.mem_append.mp hq with h | h
      · exact hS.2.2 q h
      · exact hAA _ (hL q h)
  have h9 := kk r ws' z' hp hzz T'.heap (locs ++ L) ls (fun q h => by rw [e1]; exact hz'.trans (Option.some.inj h)) (by rw [e1]; exact hP') (hD'.weaken fun _ q _ h => hAA q.1 h) hS' hl
  have e9 : (r.toList ++ st).map toV = (RV r).toList ++ st.map toV := by cases r <;> rfl
  rw [e9] at h9
  obtain ⟨t2, a1, b1⟩ := h9 T' rfl X'
  exact ⟨t2, stp t2 a1, b1⟩

theorem g_callV {E : GE} {own : String} {cc : ByteArray} {nL : Nat} {ret : Option FieldType} {rm : Room} {Φ0 : Option AV → va_W → Nat → Prop} {l0 : Launch} {D0 : va_G} {cl0 : List vw_C} {tys0 : List (ClassId × FieldType)} (hE : OkE E own cc nL ret) (hR : RtE E rm Φ0) (hT : TbE E l0 D0 cl0 tys0) {y : MethodName} {cc1 : ByteArray} {nL1 : Nat} {ret1 : Option FieldType} {rm1 : Room} {As st st0 : List AV} {ws : va_W} {z k n pc idx na : Nat} {lv : List LV} {Φ : Option AV → va_W → Nat → Prop} {C : String} {b q0 ci : Nat} {fs : List Value} {TN : u_T × Nat} (hM : Ct l0 D0 cl0 tys0 y cc1 nL1 ret1 rm1 (aR (some b) :: As) ws z Φ) (hg : GoodIn lw_all (wsV own idx C y (ws_ y cc1 nL1 ret1))) (hd : y.cls = C ∧ y.cls ≠ "java/lang/invoke/MethodHandle" ∧ y.cls ≠ "java/lang/invoke/VarHandle" ∧ (parseMethodDescriptor y.desc).map (fun d => d.parameters.length) = some na) (hrm : rm1.frames + 1 ≤ rm.frames ∧ 8 + (nL1 + 11) + rm1.locals ≤ rm.locals) (hcs : k + rm1.cells ≤ rm.cells ∧ n + rm1.slots ≤ rm.slots) (hlen : As.length = na) (h8 : acs st ≤ 8) (hq : ws[q0]? = some (b, .inr (ci, fs))) (hc : cl0[ci]? = some (C, TN)) (d : decode cc pc = .ok (.invokevirtual idx, 3)) (hst : st0 = As.reverse ++ aR (some b) :: st) (kk : ∀ (r : Option AV) (ws2 : va_W) (z2 : Nat), Φ r ws2 z2 → z ≤ z2 → G E ws2 (some z2) (k + rm1.cells) (n + rm1.slots) (pc + 3) lv (r.toList ++ st)) : G E ws (some z) k n pc lv st0 := by
  subst hst
  refine g_after (mc := rm1.cells) (ms := rm1.slots) (a := ((aR (some b) :: As).map toV).toArray) hE ?_ kk
  obtain ⟨p, l, e, R, s, m, args, below, meth, c, A, Q, D, cl, tys⟩ := E
  obtain ⟨hx, hb, hml, hown, hts, hrt, hlk, hK, hA⟩ := hE
  obtain ⟨rfl, rfl⟩ := hR
  obtain ⟨rfl, rfl, rfl, rfl⟩ := hT
  intro H locs ls hz hP hD hsz
  refine va_runV (C := C) (b := b) (As := As.map toV) ⟨hx, hb, hml, hown, hts⟩ hM (cwV na hts hg rfl rfl rfl hd hrm) ⟨PcG.blind, va_recv hK hP hc hq, fun U hU hW => ⟨rfl, by rw [hU]; exact hz, by rw [hU]; exact hP, va_K.moved hW.alike hK, hD.all⟩⟩ rfl (by rw [List.length_map]; exact hlen) (hsz.trans hml) ?_ (lv_room (stk8_of st 8 h8)) d hcs
  show ((As.reverse ++ aR (some b) :: st).map toV) = _
  simp [toV, va_rf]
theorem g_callS {E : GE} {own : String} {cc : ByteArray} {nL : Nat} {ret : Option FieldType} {rm : Room} {Φ0 : Option AV → va_W → Nat → Prop} {l0 : Launch} {D0 : va_G} {cl0 : List vw_C} {tys0 : List (ClassId × FieldType)} (hE : OkE E own cc nL ret) (hR : RtE E rm Φ0) (hT : TbE E l0 D0 cl0 tys0) {y : MethodName} {cc1 : ByteArray} {nL1 : Nat} {ret1 : Option FieldType} {rm1 : Room} {As st st0 : List AV} {ws : va_W} {z k n pc idx na : Nat} {lv : List LV} {Φ : Option AV → va_W → Nat → Prop} (hM : Ct l0 D0 cl0 tys0 y cc1 nL1 ret1 rm1 As ws z Φ) (hg : GoodIn lw_all (va_wsS own idx y (ws_ y cc1 nL1 ret1))) (hd : y.cls ≠ "java/lang/invoke/MethodHandle" ∧ y.cls ≠ "java/lang/invoke/VarHandle" ∧ (parseMethodDescriptor y.desc).map (fun d => d.parameters.length) = some na) (hrm : rm1.frames + 1 ≤ rm.frames ∧ 8 + (nL1 + 11) + rm1.locals ≤ rm.locals) (hcs : k + rm1.cells ≤ rm.cells ∧ n + rm1.slots ≤ rm.slots) (hlen : As.length = na) (h8 : acs st ≤ 8) (d : decode cc pc = .ok (.invokestatic idx, 3)) (hst : st0 = As.reverse ++ st) (kk : ∀ (r : Option AV) (ws2 : va_W) (z2 : Nat), Φ r ws2 z2 → z ≤ z2 → G E ws2 (some z2) (k + rm1.cells) (n + rm1.slots) (pc + 3) lv (r.toList ++ st)) : G E ws (some z) k n pc lv st0 := by
  subst hst
  refine g_after (mc := rm1.cells) (ms := rm1.slots) (a := (As.map toV).toArray) hE ?_ kk
  obtain ⟨p, l, e, R, s, m, args, below, meth, c, A, Q, D, cl, tys⟩ := E
  obtain ⟨hx, hb, hml, hown, hts, hrt, hlk, hK, hA⟩ := hE
  obtain ⟨rfl, rfl⟩ := hR
  obtain ⟨rfl, rfl, rfl, rfl⟩ := hT
  intro H locs ls hz hP hD hsz
  refine va_runS (As := As.map toV) ⟨hx, hb, hml, hown, hts⟩ hM (va_cwS na hts hg rfl rfl rfl hd hrm) ⟨PcG.blind, fun U hU hW => ⟨rfl, by rw [hU]; exact hz, by rw [hU]; exact hP, va_K.moved hW.alike hK, hD.all⟩⟩ rfl (by rw [List.length_map]; exact hlen) (hsz.trans hml) ?_ (lv_room (stk8_of st 8 h8)) d hcs
  show ((As.reverse ++ st).map toV) = _
  simp

section VZ
variable {p : Program} {l : Launch} {e : Env} {R : Room} {s : State} {m : MethodId} {args : Array Value} {below : List Frame} {meth : Method} {c : Code} {H : Heap} {locs : List Loc} {cells slots : Nat} {Q : State → Prop}
variable {cc : ByteArray} {pc : Nat} {ls : Array Slot} {rest : List Value} {D : va_G} {cl : List vw_C} {A : Nat → Prop} {a : Nat} {tys : List (ClassId × FieldType)} {ws : va_W} {H0 : Heap}
/-- a cell of a world takes a new content, at one heap of the same size -/
theorem vz_upd {q0 a k9 : Nat} {e0 e1 : va_E} {H1 : Heap} (hP : va_P D cl ws H) (hD : va_D A ws) (hS : va_S A H0 H locs) (hq : ws[q0]? = some (a, e0)) (ha : va_at D cl (a, e1) H1) (hz : H1.size = H.size) (ho : ∀ q : Nat, q ≠ a → H1[q]? = H[q]?) : va_P D cl (ws.set q0 (a, e1)) H1 ∧ va_D A (ws.set q0 (a, e1)) ∧ va_S A H0 H1 (locs ++ [⟨a, k9⟩]) :=
  ⟨hP.set hD hq ha ho, hD.set hq, hS.put hz ho (hD.2 q0 _ hq)⟩
/-- va_put, and the heap's size stays -/
theorem vz_put (hexec : p.tables.exec = Jvm.exec) (hb : c.code = cc) {own ref C : String} {T : u_T} {N ci index : Nat} {Ts : List Cond} (hts : ∀ w ∈ Ts, w.before args s = true) (hin : ∀ w ∈ u_ws C T N, w ∈ Ts) (ty0 : Nat → FieldType) (hty : ∀ k, k < N → parseFieldDescriptor (T k).2.2.1 = some (ty0 k)) (hnm : ∀ a, a < N → ∀ b, b < N → a ≠ b → (T a).2.1 ≠ (T b).2.1) (hown : s.vm.findClass own = some m.cls) (hK : va_K D cl tys s) (hP : va_P D cl ws H) (hD : va_D A ws) (hS0 : va_S A H0 H locs) {q0 : Nat} {fs : List Value} (he : ws[q0]? = some (a, .inr (ci, fs))) (hc : cl[ci]? = some (C, T, N)) (k : Nat) (hk : k < N) (hlink : (Cond.fieldLink own index ref (T k).2.1 (T k).2.2.1).before args s = true) (hsame : ∀ x, s.fieldFound? (T k).1 (T k).2.1 (T k).2.2.1 = some x → s.fieldFound? ref (T k).2.1 (T k).2.2.1 = some x) (hfin : (T k).2.2.2 = false) {ty : FieldType} {v : Value} (hd : parseFieldDescriptor (T k).2.2.1 = some ty) (hn : narrow ty v = v) (hfit : fits ty v = true) (hl : k < fs.length)
    (hdg : decode cc pc = .ok (.putfield index, 3)) (kk : ∀ (H1 : Heap) (locs1 : List Loc), H1.size = H.size → va_P D cl (ws.set q0 (a, .inr (ci, fs.set k v))) H1 → va_D A (ws.set q0 (a, .inr (ci, fs.set k v))) → va_S A H0 H1 locs1 → W p l e R s m args below meth c H1 locs1 cells slots Q (F0 m (pc + 3) ls rest)) : W p l e R s m args below meth c H locs cells slots Q (F0 m pc ls (v :: .ref a :: rest)) := by
  obtain ⟨r, hr, cell, g1, g2, g3, g4⟩ := hP q0 _ he
  cases hr.symm.trans hc
  obtain ⟨hS, hfc, kC, hkC, hkind⟩ := hK.1 ci _ hc
  obtain ⟨cf, kf, fi, f, hi, hsl⟩ := hS k hk
  have hlay := hts _ (hin _ (u_in_lay hk))
  unfold u_lay at hlay
  rw [if_neg (by rw [hfin]; decide)] at hlay
  refine W.putK hexec hb (f := f) ⟨hown, hlink, ⟨_, _, _, hsame _ hi⟩, (u_facts hfc hkC (u_lays hts hin hk) hi).1⟩ (by rw [g2]; exact u_store hfc hkC hkind hlay hi hd hn hfit) g1 g3 (by rw [hsl]; exact k2_hasslot (g4 k hk)) rfl rfl hdg fun H1 e1 e2 e3 => ?_
  rw [hsl] at e1
  obtain ⟨u1, u2, u3⟩ := vz_upd (k9 := f.slot) hP hD hS0 he (e1 := .inr (ci, fs.set k v)) ⟨_, hc, t_OB.to (V := updV (vp_V fs) k v) ⟨_, e1, g2, g3, t_set g4 (va_apart (own := own) hts hin ty0 hty hnm hK hc) hk v⟩ (fun j _ => vp_updV_set hl v j)⟩ e2 e3
  exact kk H1 _ e2 u1 u2 u3
/-- va_iast, and the heap's size stays -/
theorem vz_iast (hexec : p.tables.exec = Jvm.exec) (hb : c.code = cc) (hK : va_K D cl tys s) (hP : va_P D cl ws H) (hD : va_D A ws) (hS : va_S A H0 H locs) {q0 t0 : Nat} {cA : ClassId} {n : Nat} {f : Nat → Int32} (ha : ws[q0]? = some (a, .inl (cA, n, .inl f))) (ht : tys[t0]? = some (cA, .int)) {i : Int32} {x : Int32} (hin : vp_in i n) (hdg : decode cc pc = .ok (.iastore, 1))
    (kk : ∀ (H1 : Heap) (locs1 : List Loc), H1.size = H.size → va_P D cl (ws.set q0 (a, .inl (cA, n, .inl (upd f i.toNatClampNeg x)))) H1 → va_D A (ws.set q0 (a, .inl (cA, n, .inl (upd f i.toNatClampNeg x)))) → va_S A H0 H1 locs1 → W p l e R s m args below meth c H1 locs1 cells slots Q (F0 m (pc + 1) ls rest)) : W p l e R s m args below meth c H locs cells slots Q (F0 m pc ls (.int x :: .int i :: .ref a :: rest)) := by
  refine W.iast hexec hb (hP q0 _ ha) ((hK.2 t0 _ ht).1 n (fun j => .int (f j))) (fun q => by cases q) (by show ¬ (i < 0 ∨ (arrV _ _ _).slots.size ≤ _); rw [arrV_size]; exact hin) rfl rfl hdg fun H1 e1 e2 e3 => ?_
  have e4 : H1[a]? = some (vp_cell cA (n, .inl (upd f i.toNatClampNeg x))) := by
    have e5 : updV (fun j => Value.int (f j)) i.toNatClampNeg (.int x) = fun j => Value.int (upd f i.toNatClampNeg x j) := by
      funext q
      unfold updV upd
      split <;> rfl
    rw [e1, vp_cell_i, vp_cell_i, arrV_store, e5]
  obtain ⟨u1, u2, u3⟩ := vz_upd (k9 := i.toNatClampNeg) hP hD hS ha (e1 := .inl (cA, n, .inl (upd f i.toNatClampNeg x))) e4 e2 e3
  exact kk H1 _ e2 u1 u2 u3
end VZ
def lw1 {A1 : Type} (B : A1 → (A1 → Prop) → Prop) : Nat → A1 → Prop
  | 0, _ => False
  | n + 1, a1 => B a1 (lw1 B n)
def lq1 {A1 : Type} (B : A1 → (A1 → Prop) → Prop) (a1 : A1) : Prop := ∃ n, lw1 B n a1
theorem lq1_walk {A1 : Type} {B : A1 → (A1 → Prop) → Prop} (G : A1 → Prop) (h : ∀ k : A1 → Prop, (∀ (a1 : A1), k a1 → G a1) → ∀ (a1 : A1), B a1 k → G a1) : ∀ (a1 : A1), lq1 B a1 → G a1 := by
  intro a1 ⟨n, hn⟩
  induction n generalizing a1 with
  | zero => exact hn.elim
  | succ n ih => exact h (lw1 B n) (fun a1 q => ih a1 q) a1 hn
theorem lq1_rule {A1 : Type} {B : A1 → (A1 → Prop) → Prop} (I : A1 → Prop) (μ : A1 → Nat) (h : ∀ (a1 : A1), I a1 → ∀ k : A1 → Prop, (∀ (b1 : A1), I b1 → μ b1 < μ a1 → k b1) → B a1 k) : ∀ (a1 : A1), I a1 → lq1 B a1 := by
  have key : ∀ (n : Nat) (a1 : A1), I a1 → μ a1 < n → lw1 B n a1 := by
    intro n
    induction n with
    | zero => intro a1 _ q; exact absurd q (Nat.not_lt_zero _)
    | succ n ih => intro a1 hi hm; exact h a1 hi (lw1 B n) (fun b1 q1 q2 => ih b1 q1 (by omega))
  intro a1 hi
  exact ⟨μ a1 + 1, key _ a1 hi (Nat.lt_succ_self _)⟩
def jn1 {A1 : Type} (K : A1 → Prop) (B : (A1 → Prop) → Prop) : Prop := B K
theorem jn1_walk {A1 : Type} {K : A1 → Prop} {B : (A1 → Prop) → Prop} {P : Prop} (G : A1 → Prop) (hw : jn1 K B) (h1 : ∀ (a1 : A1), K a1 → G a1) (h2 : ∀ k : A1 → Prop, (∀ (a1 : A1), k a1 → G a1) → B k → P) : P := h2 K h1 hw
theorem jn1_rule {A1 : Type} {K : A1 → Prop} {B : (A1 → Prop) → Prop} (J : A1 → Prop) (h1 : ∀ (a1 : A1), J a1 → K a1) (h2 : ∀ k : A1 → Prop, (∀ (a1 : A1), J a1 → k a1) → B k) : jn1 K B := h2 K h1
def lw2 {A1 A2 : Type} (B : A1 → A2 → (A1 → A2 → Prop) → Prop) : Nat → A1 → A2 → Prop
  | 0, _, _ => False
  | n + 1, a1, a2 => B a1 a2 (lw2 B n)
def lq2 {A1 A2 : Type} (B : A1 → A2 → (A1 → A2 → Prop) → Prop) (a1 : A1) (a2 : A2) : Prop := ∃ n, lw2 B n a1 a2
theorem lq2_walk {A1 A2 : Type} {B : A1 → A2 → (A1 → A2 → Prop) → Prop} (G : A1 → A2 → Prop) (h : ∀ k : A1 → A2 → Prop, (∀ (a1 : A1) (a2 : A2), k a1 a2 → G a1 a2) → ∀ (a1 : A1) (a2 : A2), B a1 a2 k → G a1 a2) : ∀ (a1 : A1) (a2 : A2), lq2 B a1 a2 → G a1 a2 := by
  intro a1 a2 ⟨n, hn⟩
  induction n generalizing a1 a2 with
  | zero => exact hn.elim
  | succ n ih => exact h (lw2 B n) (fun a1 a2 q => ih a1 a2 q) a1 a2 hn
theorem lq2_rule {A1 A2 : Type} {B : A1 → A2 → (A1 → A2 → Prop) → Prop} (I : A1 → A2 → Prop) (μ : A1 → A2 → Nat) (h : ∀ (a1 : A1) (a2 : A2), I a1 a2 → ∀ k : A1 → A2 → Prop, (∀ (b1 : A1) (b2 : A2), I b1 b2 → μ b1 b2 < μ a1 a2 → k b1 b2) → B a1 a2 k) : ∀ (a1 : A1) (a2 : A2), I a1 a2 → lq2 B a1 a2 := by
  have key : ∀ (n : Nat) (a1 : A1) (a2 : A2), I a1 a2 → μ a1 a2 < n → lw2 B n a1 a2 := by
    intro n
    induction n with
    | zero => intro a1 a2 _ q; exact absurd q (Nat.not_lt_zero _)
    | succ n ih => intro a1 a2 hi hm; exact h a1 a2 hi (lw2 B n) (fun b1 b2 q1 q2 => ih b1 b2 q1 (by omega))
  intro a1 a2 hi
  exact ⟨μ a1 a2 + 1, key _ a1 a2 hi (Nat.lt_succ_self _)⟩
def jn2 {A1 A2 : Type} (K : A1 → A2 → Prop) (B : (A1 → A2 → Prop) → Prop) : Prop := B K
theorem jn2_walk {A1 A2 : Type} {K : A1 → A2 → Prop} {B : (A1 → A2 → Prop) → Prop} {P : Prop} (G : A1 → A2 → Prop) (hw : jn2 K B) (h1 : ∀ (a1 : A1) (a2 : A2), K a1 a2 → G a1 a2) (h2 : ∀ k : A1 → A2 → Prop, (∀ (a1 : A1) (a2 : A2), k a1 a2 → G a1 a2) → B k → P) : P := h2 K h1 hw
theorem jn2_rule {A1 A2 : Type} {K : A1 → A2 → Prop} {B : (A1 → A2 → Prop) → Prop} (J : A1 → A2 → Prop) (h1 : ∀ (a1 : A1) (a2 : A2), J a1 a2 → K a1 a2) (h2 : ∀ k : A1 → A2 → Prop, (∀ (a1 : A1) (a2 : A2), J a1 a2 → k a1 a2) → B k) : jn2 K B := h2 K h1
def lw3 {A1 A2 A3 : Type} (B : A1 → A2 → A3 → (A1 → A2 → A3 → Prop) → Prop) : Nat → A1 → A2 → A3 → Prop
  | 0, _, _, _ => False
  | n + 1, a1, a2, a3 => B a1 a2 a3 (lw3 B n)
def lq3 {A1 A2 A3 : Type} (B : A1 → A2 → A3 → (A1 → A2 → A3 → Prop) → Prop) (a1 : A1) (a2 : A2) (a3 : A3) : Prop := ∃ n, lw3 B n a1 a2 a3
theorem lq3_walk {A1 A2 A3 : Type} {B : A1 → A2 → A3 → (A1 → A2 → A3 → Prop) → Prop} (G : A1 → A2 → A3 → Prop) (h : ∀ k : A1 → A2 → A3 → Prop, (∀ (a1 : A1) (a2 : A2) (a3 : A3), k a1 a2 a3 → G a1 a2 a3) → ∀ (a1 : A1) (a2 : A2) (a3 : A3), B a1 a2 a3 k → G a1 a2 a3) : ∀ (a1 : A1) (a2 : A2) (a3 : A3), lq3 B a1 a2 a3 → G a1 a2 a3 := by
  intro a1 a2 a3 ⟨n, hn⟩
  induction n generalizing a1 a2 a3 with
  | zero => exact hn.elim
  | succ n ih => exact h (lw3 B n) (fun a1 a2 a3 q => ih a1 a2 a3 q) a1 a2 a3 hn
theorem lq3_rule {A1 A2 A3 : Type} {B : A1 → A2 → A3 → (A1 → A2 → A3 → Prop) → Prop} (I : A1 → A2 → A3 → Prop) (μ : A1 → A2 → A3 → Nat) (h : ∀ (a1 : A1) (a2 : A2) (a3 : A3), I a1 a2 a3 → ∀ k : A1 → A2 → A3 → Prop, (∀ (b1 : A1) (b2 : A2) (b3 : A3), I b1 b2 b3 → μ b1 b2 b3 < μ a1 a2 a3 → k b1 b2 b3) → B a1 a2 a3 k) : ∀ (a1 : A1) (a2 : A2) (a3 : A3), I a1 a2 a3 → lq3 B a1 a2 a3 := by
  have key : ∀ (n : Nat) (a1 : A1) (a2 : A2) (a3 : A3), I a1 a2 a3 → μ a1 a2 a3 < n → lw3 B n a1 a2 a3 := by
    intro n
    induction n with
    | zero => intro a1 a2 a3 _ q; exact absurd q (Nat.not_lt_zero _)
    | succ n ih => intro a1 a2 a3 hi hm; exact h a1 a2 a3 hi (lw3 B n) (fun b1 b2 b3 q1 q2 => ih b1 b2 b3 q1 (by omega))
  intro a1 a2 a3 hi
  exact ⟨μ a1 a2 a3 + 1, key _ a1 a2 a3 hi (Nat.lt_succ_self _)⟩
def jn3 {A1 A2 A3 : Type} (K : A1 → A2 → A3 → Prop) (B : (A1 → A2 → A3 → Prop) → Prop) : Prop := B K
theorem jn3_walk {A1 A2 A3 : Type} {K : A1 → A2 → A3 → Prop} {B : (A1 → A2 → A3 → Prop) → Prop} {P : Prop} (G : A1 → A2 → A3 → Prop) (hw : jn3 K B) (h1 : ∀ (a1 : A1) (a2 : A2) (a3 : A3), K a1 a2 a3 → G a1 a2 a3) (h2 : ∀ k : A1 → A2 → A3 → Prop, (∀ (a1 : A1) (a2 : A2) (a3 : A3), k a1 a2 a3 → G a1 a2 a3) → B k → P) : P := h2 K h1 hw
theorem jn3_rule {A1 A2 A3 : Type} {K : A1 → A2 → A3 → Prop} {B : (A1 → A2 → A3 → Prop) → Prop} (J : A1 → A2 → A3 → Prop) (h1 : ∀ (a1 : A1) (a2 : A2) (a3 : A3), J a1 a2 a3 → K a1 a2 a3) (h2 : ∀ k : A1 → A2 → A3 → Prop, (∀ (a1 : A1) (a2 : A2) (a3 : A3), J a1 a2 a3 → k a1 a2 a3) → B k) : jn3 K B := h2 K h1
def lw4 {A1 A2 A3 A4 : Type} (B : A1 → A2 → A3 → A4 → (A1 → A2 → A3 → A4 → Prop) → Prop) : Nat → A1 → A2 → A3 → A4 → Prop
  | 0, _, _, _, _ => False
  | n + 1, a1, a2, a3, a4 => B a1 a2 a3 a4 (lw4 B n)
def lq4 {A1 A2 A3 A4 : Type} (B : A1 → A2 → A3 → A4 → (A1 → A2 → A3 → A4 → Prop) → Prop) (a1 : A1) (a2 : A2) (a3 : A3) (a4 : A4) : Prop := ∃ n, lw4 B n a1 a2 a3 a4
theorem lq4_walk {A1 A2 A3 A4 : Type} {B : A1 → A2 → A3 → A4 → (A1 → A2 → A3 → A4 → Prop) → Prop} (G : A1 → A2 → A3 → A4 → Prop) (h : ∀ k : A1 → A2 → A3 → A4 → Prop, (∀ (a1 : A1) (a2 : A2) (a3 : A3) (a4 : A4), k a1 a2 a3 a4 → G a1 a2 a3 a4) → ∀ (a1 : A1) (a2 : A2) (a3 : A3) (a4 : A4), B a1 a2 a3 a4 k → G a1 a2 a3 a4) : ∀ (a1 : A1) (a2 : A2) (a3 : A3) (a4 : A4), lq4 B a1 a2 a3 a4 → G a1 a2 a3 a4 := by
  intro a1 a2 a3 a4 ⟨n, hn⟩
  induction n generalizing a1 a2 a3 a4 with
  | zero => exact hn.elim
  | succ n ih => exact h (lw4 B n) (fun a1 a2 a3 a4 q => ih a1 a2 a3 a4 q) a1 a2 a3 a4 hn
theorem lq4_rule {A1 A2 A3 A4 : Type} {B : A1 → A2 → A3 → A4 → (A1 → A2 → A3 → A4 → Prop) → Prop} (I : A1 → A2 → A3 → A4 → Prop) (μ : A1 → A2 → A3 → A4 → Nat) (h : ∀ (a1 : A1) (a2 : A2) (a3 : A3) (a4 : A4), I a1 a2 a3 a4 → ∀ k : A1 → A2 → A3 → A4 → Prop, (∀ (b1 : A1) (b2 : A2) (b3 : A3) (b4 : A4), I b1 b2 b3 b4 → μ b1 b2 b3 b4 < μ a1 a2 a3 a4 → k b1 b2 b3 b4) → B a1 a2 a3 a4 k) : ∀ (a1 : A1) (a2 : A2) (a3 : A3) (a4 : A4), I a1 a2 a3 a4 → lq4 B a1 a2 a3 a4 := by
  have key : ∀ (n : Nat) (a1 : A1) (a2 : A2) (a3 : A3) (a4 : A4), I a1 a2 a3 a4 → μ a1 a2 a3 a4 < n → lw4 B n a1 a2 a3 a4 := by
    intro n
    induction n with
    | zero => intro a1 a2 a3 a4 _ q; exact absurd q (Nat.not_lt_zero _)
    | succ n ih => intro a1 a2 a3 a4 hi hm; exact h a1 a2 a3 a4 hi (lw4 B n) (fun b1 b2 b3 b4 q1 q2 => ih b1 b2 b3 b4 q1 (by omega))
  intro a1 a2 a3 a4 hi
  exact ⟨μ a1 a2 a3 a4 + 1, key _ a1 a2 a3 a4 hi (Nat.lt_succ_self _)⟩
def jn4 {A1 A2 A3 A4 : Type} (K : A1 → A2 → A3 → A4 → Prop) (B : (A1 → A2 → A3 → A4 → Prop) → Prop) : Prop := B K
theorem jn4_walk {A1 A2 A3 A4 : Type} {K : A1 → A2 → A3 → A4 → Prop} {B : (A1 → A2 → A3 → A4 → Prop) → Prop} {P : Prop} (G : A1 → A2 → A3 → A4 → Prop) (hw : jn4 K B) (h1 : ∀ (a1 : A1) (a2 : A2) (a3 : A3) (a4 : A4), K a1 a2 a3 a4 → G a1 a2 a3 a4) (h2 : ∀ k : A1 → A2 → A3 → A4 → Prop, (∀ (a1 : A1) (a2 : A2) (a3 : A3) (a4 : A4), k a1 a2 a3 a4 → G a1 a2 a3 a4) → B k → P) : P := h2 K h1 hw
theorem jn4_rule {A1 A2 A3 A4 : Type} {K : A1 → A2 → A3 → A4 → Prop} {B : (A1 → A2 → A3 → A4 → Prop) → Prop} (J : A1 → A2 → A3 → A4 → Prop) (h1 : ∀ (a1 : A1) (a2 : A2) (a3 : A3) (a4 : A4), J a1 a2 a3 a4 → K a1 a2 a3 a4) (h2 : ∀ k : A1 → A2 → A3 → A4 → Prop, (∀ (a1 : A1) (a2 : A2) (a3 : A3) (a4 : A4), J a1 a2 a3 a4 → k a1 a2 a3 a4) → B k) : jn4 K B := h2 K h1
def lw5 {A1 A2 A3 A4 A5 : Type} (B : A1 → A2 → A3 → A4 → A5 → (A1 → A2 → A3 → A4 → A5 → Prop) → Prop) : Nat → A1 → A2 → A3 → A4 → A5 → Prop
  | 0, _, _, _, _, _ => False
  | n + 1, a1, a2, a3, a4, a5 => B a1 a2 a3 a4 a5 (lw5 B n)
def lq5 {A1 A2 A3 A4 A5 : Type} (B : A1 → A2 → A3 → A4 → A5 → (A1 → A2 → A3 → A4 → A5 → Prop) → Prop) (a1 : A1) (a2 : A2) (a3 : A3) (a4 : A4) (a5 : A5) : Prop := ∃ n, lw5 B n a1 a2 a3 a4 a5
theorem lq5_walk {A1 A2 A3 A4 A5 : Type} {B : A1 → A2 → A3 → A4 → A5 → (A1 → A2 → A3 → A4 → A5 → Prop) → Prop} (G : A1 → A2 → A3 → A4 → A5 → Prop) (h : ∀ k : A1 → A2 → A3 → A4 → A5 → Prop, (∀ (a1 : A1) (a2 : A2) (a3 : A3) (a4 : A4) (a5 : A5), k a1 a2 a3 a4 a5 → G a1 a2 a3 a4 a5) → ∀ (a1 : A1) (a2 : A2) (a3 : A3) (a4 : A4) (a5 : A5), B a1 a2 a3 a4 a5 k → G a1 a2 a3 a4 a5) : ∀ (a1 : A1) (a2 : A2) (a3 : A3) (a4 : A4) (a5 : A5), lq5 B a1 a2 a3 a4 a5 → G a1 a2 a3 a4 a5 := by
  intro a1 a2 a3 a4 a5 ⟨n, hn⟩
  induction n generalizing a1 a2 a3 a4 a5 with
  | zero => exact hn.elim
  | succ n ih => exact h (lw5 B n) (fun a1 a2 a3 a4 a5 q => ih a1 a2 a3 a4 a5 q) a1 a2 a3 a4 a5 hn
theorem lq5_rule {A1 A2 A3 A4 A5 : Type} {B : A1 → A2 → A3 → A4 → A5 → (A1 → A2 → A3 → A4 → A5 → Prop) → Prop} (I : A1 → A2 → A3 → A4 → A5 → Prop) (μ : A1 → A2 → A3 → A4 → A5 → Nat) (h : ∀ (a1 : A1) (a2 : A2) (a3 : A3) (a4 : A4) (a5 : A5), I a1 a2 a3 a4 a5 → ∀ k : A1 → A2 → A3 → A4 → A5 → Prop, (∀ (b1 : A1) (b2 : A2) (b3 : A3) (b4 : A4) (b5 : A5), I b1 b2 b3 b4 b5 → μ b1 b2 b3 b4 b5 < μ a1 a2 a3 a4 a5 → k b1 b2 b3 b4 b5) → B a1 a2 a3 a4 a5 k) : ∀ (a1 : A1) (a2 : A2) (a3 : A3) (a4 : A4) (a5 : A5), I a1 a2 a3 a4 a5 → lq5 B a1 a2 a3 a4 a5 := by
  have key : ∀ (n : Nat) (a1 : A1) (a2 : A2) (a3 : A3) (a4 : A4) (a5 : A5), I a1 a2 a3 a4 a5 → μ a1 a2 a3 a4 a5 < n → lw5 B n a1 a2 a3 a4 a5 := by
    intro n
    induction n with
    | zero => intro a1 a2 a3 a4 a5 _ q; exact absurd q (Nat.not_lt_zero _)
    | succ n ih => intro a1 a2 a3 a4 a5 hi hm; exact h a1 a2 a3 a4 a5 hi (lw5 B n) (fun b1 b2 b3 b4 b5 q1 q2 => ih b1 b2 b3 b4 b5 q1 (by omega))
  intro a1 a2 a3 a4 a5 hi
  exact ⟨μ a1 a2 a3 a4 a5 + 1, key _ a1 a2 a3 a4 a5 hi (Nat.lt_succ_self _)⟩
def jn5 {A1 A2 A3 A4 A5 : Type} (K : A1 → A2 → A3 → A4 → A5 → Prop) (B : (A1 → A2 → A3 → A4 → A5 → Prop) → Prop) : Prop := B K
theorem jn5_walk {A1 A2 A3 A4 A5 : Type} {K : A1 → A2 → A3 → A4 → A5 → Prop} {B : (A1 → A2 → A3 → A4 → A5 → Prop) → Prop} {P : Prop} (G : A1 → A2 → A3 → A4 → A5 → Prop) (hw : jn5 K B) (h1 : ∀ (a1 : A1) (a2 : A2) (a3 : A3) (a4 : A4) (a5 : A5), K a1 a2 a3 a4 a5 → G a1 a2 a3 a4 a5) (h2 : ∀ k : A1 → A2 → A3 → A4 → A5 → Prop, (∀ (a1 : A1) (a2 : A2) (a3 : A3) (a4 : A4) (a5 : A5), k a1 a2 a3 a4 a5 → G a1 a2 a3 a4 a5) → B k → P) : P := h2 K h1 hw
theorem jn5_rule {A1 A2 A3 A4 A5 : Type} {K : A1 → A2 → A3 → A4 → A5 → Prop} {B : (A1 → A2 → A3 → A4 → A5 → Prop) → Prop} (J : A1 → A2 → A3 → A4 → A5 → Prop) (h1 : ∀ (a1 : A1) (a2 : A2) (a3 : A3) (a4 : A4) (a5 : A5), J a1 a2 a3 a4 a5 → K a1 a2 a3 a4 a5) (h2 : ∀ k : A1 → A2 → A3 → A4 → A5 → Prop, (∀ (a1 : A1) (a2 : A2) (a3 : A3) (a4 : A4) (a5 : A5), J a1 a2 a3 a4 a5 → k a1 a2 a3 a4 a5) → B k) : jn5 K B := h2 K h1
def lw6 {A1 A2 A3 A4 A5 A6 : Type} (B : A1 → A2 → A3 → A4 → A5 → A6 → (A1 → A2 → A3 → A4 → A5 → A6 → Prop) → Prop) : Nat → A1 → A2 → A3 → A4 → A5 → A6 → Prop
  | 0, _, _, _, _, _, _ => False
  | n + 1, a1, a2, a3, a4, a5, a6 => B a1 a2 a3 a4 a5 a6 (lw6 B n)
def lq6 {A1 A2 A3 A4 A5 A6 : Type} (B : A1 → A2 → A3 → A4 → A5 → A6 → (A1 → A2 → A3 → A4 → A5 → A6 → Prop) → Prop) (a1 : A1) (a2 : A2) (a3 : A3) (a4 : A4) (a5 : A5) (a6 : A6) : Prop := ∃ n, lw6 B n a1 a2 a3 a4 a5 a6
theorem lq6_walk {A1 A2 A3 A4 A5 A6 : Type} {B : A1 → A2 → A3 → A4 → A5 → A6 → (A1 → A2 → A3 → A4 → A5 → A6 → Prop) → Prop} (G : A1 → A2 → A3 → A4 → A5 → A6 → Prop) (h : ∀ k : A1 → A2 → A3 → A4 → A5 → A6 → Prop, (∀ (a1 : A1) (a2 : A2) (a3 : A3) (a4 : A4) (a5 : A5) (a6 : A6), k a1 a2 a3 a4 a5 a6 → G a1 a2 a3 a4 a5 a6) → ∀ (a1 : A1) (a2 : A2) (a3 : A3) (a4 : A4) (a5 : A5) (a6 : A6), B a1 a2 a3 a4 a5 a6 k → G a1 a2 a3 a4 a5 a6) : ∀ (a1 : A1) (a2 : A2) (a3 : A3) (a4 : A4) (a5 : A5) (a6 : A6), lq6 B a1 a2 a3 a4 a5 a6 → G a1 a2 a3 a4 a5 a6 := by
  intro a1 a2 a3 a4 a5 a6 ⟨n, hn⟩
  induction n generalizing a1 a2 a3 a4 a5 a6 with
  | zero => exact hn.elim
  | succ n ih => exact h (lw6 B n) (fun a1 a2 a3 a4 a5 a6 q => ih a1 a2 a3 a4 a5 a6 q) a1 a2 a3 a4 a5 a6 hn
theorem lq6_rule {A1 A2 A3 A4 A5 A6 : Type} {B : A1 → A2 → A3 → A4 → A5 → A6 → (A1 → A2 → A3 → A4 → A5 → A6 → Prop) → Prop} (I : A1 → A2 → A3 → A4 → A5 → A6 → Prop) (μ : A1 → A2 → A3 → A4 → A5 → A6 → Nat) (h : ∀ (a1 : A1) (a2 : A2) (a3 : A3) (a4 : A4) (a5 : A5) (a6 : A6), I a1 a2 a3 a4 a5 a6 → ∀ k : A1 → A2 → A3 → A4 → A5 → A6 → Prop, (∀ (b1 : A1) (b2 : A2) (b3 : A3) (b4 : A4) (b5 : A5) (b6 : A6), I b1 b2 b3 b4 b5 b6 → μ b1 b2 b3 b4 b5 b6 < μ a1 a2 a3 a4 a5 a6 → k b1 b2 b3 b4 b5 b6) → B a1 a2 a3 a4 a5 a6 k) : ∀ (a1 : A1) (a2 : A2) (a3 : A3) (a4 : A4) (a5 : A5) (a6 : A6), I a1 a2 a3 a4 a5 a6 → lq6 B a1 a2 a3 a4 a5 a6 := by
  have key : ∀ (n : Nat) (a1 : A1) (a2 : A2) (a3 : A3) (a4 : A4) (a5 : A5) (a6 : A6), I a1 a2 a3 a4 a5 a6 → μ a1 a2 a3 a4 a5 a6 < n → lw6 B n a1 a2 a3 a4 a5 a6 := by
    intro n
    induction n with
    | zero => intro a1 a2 a3 a4 a5 a6 _ q; exact absurd q (Nat.not_lt_zero _)
    | succ n ih => intro a1 a2 a3 a4 a5 a6 hi hm; exact h a1 a2 a3 a4 a5 a6 hi (lw6 B n) (fun b1 b2 b3 b4 b5 b6 q1 q2 => ih b1 b2 b3 b4 b5 b6 q1 (by omega))
  intro a1 a2 a3 a4 a5 a6 hi
  exact ⟨μ a1 a2 a3 a4 a5 a6 + 1, key _ a1 a2 a3 a4 a5 a6 hi (Nat.lt_succ_self _)⟩
def jn6 {A1 A2 A3 A4 A5 A6 : Type} (K : A1 → A2 → A3 → A4 → A5 → A6 → Prop) (B : (A1 → A2 → A3 → A4 → A5 → A6 → Prop) → Prop) : Prop := B K
theorem jn6_walk {A1 A2 A3 A4 A5 A6 : Type} {K : A1 → A2 → A3 → A4 → A5 → A6 → Prop} {B : (A1 → A2 → A3 → A4 → A5 → A6 → Prop) → Prop} {P : Prop} (G : A1 → A2 → A3 → A4 → A5 → A6 → Prop) (hw : jn6 K B) (h1 : ∀ (a1 : A1) (a2 : A2) (a3 : A3) (a4 : A4) (a5 : A5) (a6 : A6), K a1 a2 a3 a4 a5 a6 → G a1 a2 a3 a4 a5 a6) (h2 : ∀ k : A1 → A2 → A3 → A4 → A5 → A6 → Prop, (∀ (a1 : A1) (a2 : A2) (a3 : A3) (a4 : A4) (a5 : A5) (a6 : A6), k a1 a2 a3 a4 a5 a6 → G a1 a2 a3 a4 a5 a6) → B k → P) : P := h2 K h1 hw
theorem jn6_rule {A1 A2 A3 A4 A5 A6 : Type} {K : A1 → A2 → A3 → A4 → A5 → A6 → Prop} {B : (A1 → A2 → A3 → A4 → A5 → A6 → Prop) → Prop} (J : A1 → A2 → A3 → A4 → A5 → A6 → Prop) (h1 : ∀ (a1 : A1) (a2 : A2) (a3 : A3) (a4 : A4) (a5 : A5) (a6 : A6), J a1 a2 a3 a4 a5 a6 → K a1 a2 a3 a4 a5 a6) (h2 : ∀ k : A1 → A2 → A3 → A4 → A5 → A6 → Prop, (∀ (a1 : A1) (a2 : A2) (a3 : A3) (a4 : A4) (a5 : A5) (a6 : A6), J a1 a2 a3 a4 a5 a6 → k a1 a2 a3 a4 a5 a6) → B k) : jn6 K B := h2 K h1
def lw7 {A1 A2 A3 A4 A5 A6 A7 : Type} (B : A1 → A2 → A3 → A4 → A5 → A6 → A7 → (A1 → A2 → A3 → A4 → A5 → A6 → A7 → Prop) → Prop) : Nat → A1 → A2 → A3 → A4 → A5 → A6 → A7 → Prop
  | 0, _, _, _, _, _, _, _ => False
  | n + 1, a1, a2, a3, a4, a5, a6, a7 => B a1 a2 a3 a4 a5 a6 a7 (lw7 B n)
def lq7 {A1 A2 A3 A4 A5 A6 A7 : Type} (B : A1 → A2 → A3 → A4 → A5 → A6 → A7 → (A1 → A2 → A3 → A4 → A5 → A6 → A7 → Prop) → Prop) (a1 : A1) (a2 : A2) (a3 : A3) (a4 : A4) (a5 : A5) (a6 : A6) (a7 : A7) : Prop := ∃ n, lw7 B n a1 a2 a3 a4 a5 a6 a7
theorem lq7_walk {A1 A2 A3 A4 A5 A6 A7 : Type} {B : A1 → A2 → A3 → A4 → A5 → A6 → A7 → (A1 → A2 → A3 → A4 → A5 → A6 → A7 → Prop) → Prop} (G : A1 → A2 → A3 → A4 → A5 → A6 → A7 → Prop) (h : ∀ k : A1 → A2 → A3 → A4 → A5 → A6 → A7 → Prop, (∀ (a1 : A1) (a2 : A2) (a3 : A3) (a4 : A4) (a5 : A5) (a6 : A6) (a7 : A7), k a1 a2 a3 a4 a5 a6 a7 → G a1 a2 a3 a4 a5 a6 a7) → ∀ (a1 : A1) (a2 : A2) (a3 : A3) (a4 : A4) (a5 : A5) (a6 : A6) (a7 : A7), B a1 a2 a3 a4 a5 a6 a7 k → G a1 a2 a3 a4 a5 a6 a7) : ∀ (a1 : A1) (a2 : A2) (a3 : A3) (a4 : A4) (a5 : A5) (a6 : A6) (a7 : A7), lq7 B a1 a2 a3 a4 a5 a6 a7 → G a1 a2 a3 a4 a5 a6 a7 := by
  intro a1 a2 a3 a4 a5 a6 a7 ⟨n, hn⟩
  induction n generalizing a1 a2 a3 a4 a5 a6 a7 with
  | zero => exact hn.elim
  | succ n ih => exact h (lw7 B n) (fun a1 a2 a3 a4 a5 a6 a7 q => ih a1 a2 a3 a4 a5 a6 a7 q) a1 a2 a3 a4 a5 a6 a7 hn
theorem lq7_rule {A1 A2 A3 A4 A5 A6 A7 : Type} {B : A1 → A2 → A3 → A4 → A5 → A6 → A7 → (A1 → A2 → A3 → A4 → A5 → A6 → A7 → Prop) → Prop} (I : A1 → A2 → A3 → A4 → A5 → A6 → A7 → Prop) (μ : A1 → A2 → A3 → A4 → A5 → A6 → A7 → Nat) (h : ∀ (a1 : A1) (a2 : A2) (a3 : A3) (a4 : A4) (a5 : A5) (a6 : A6) (a7 : A7), I a1 a2 a3 a4 a5 a6 a7 → ∀ k : A1 → A2 → A3 → A4 → A5 → A6 → A7 → Prop, (∀ (b1 : A1) (b2 : A2) (b3 : A3) (b4 : A4) (b5 : A5) (b6 : A6) (b7 : A7), I b1 b2 b3 b4 b5 b6 b7 → μ b1 b2 b3 b4 b5 b6 b7 < μ a1 a2 a3 a4 a5 a6 a7 → k b1 b2 b3 b4 b5 b6 b7) → B a1 a2 a3 a4 a5 a6 a7 k) : ∀ (a1 : A1) (a2 : A2) (a3 : A3) (a4 : A4) (a5 : A5) (a6 : A6) (a7 : A7), I a1 a2 a3 a4 a5 a6 a7 → lq7 B a1 a2 a3 a4 a5 a6 a7 := by
  have key : ∀ (n : Nat) (a1 : A1) (a2 : A2) (a3 : A3) (a4 : A4) (a5 : A5) (a6 : A6) (a7 : A7), I a1 a2 a3 a4 a5 a6 a7 → μ a1 a2 a3 a4 a5 a6 a7 < n → lw7 B n a1 a2 a3 a4 a5 a6 a7 := by
    intro n
    induction n with
    | zero => intro a1 a2 a3 a4 a5 a6 a7 _ q; exact absurd q (Nat.not_lt_zero _)
    | succ n ih => intro a1 a2 a3 a4 a5 a6 a7 hi hm; exact h a1 a2 a3 a4 a5 a6 a7 hi (lw7 B n) (fun b1 b2 b3 b4 b5 b6 b7 q1 q2 => ih b1 b2 b3 b4 b5 b6 b7 q1 (by omega))
  intro a1 a2 a3 a4 a5 a6 a7 hi
  exact ⟨μ a1 a2 a3 a4 a5 a6 a7 + 1, key _ a1 a2 a3 a4 a5 a6 a7 hi (Nat.lt_succ_self _)⟩
def jn7 {A1 A2 A3 A4 A5 A6 A7 : Type} (K : A1 → A2 → A3 → A4 → A5 → A6 → A7 → Prop) (B : (A1 → A2 → A3 → A4 → A5 → A6 → A7 → Prop) → Prop) : Prop := B K
theorem jn7_walk {A1 A2 A3 A4 A5 A6 A7 : Type} {K : A1 → A2 → A3 → A4 → A5 → A6 → A7 → Prop} {B : (A1 → A2 → A3 → A4 → A5 → A6 → A7 → Prop) → Prop} {P : Prop} (G : A1 → A2 → A3 → A4 → A5 → A6 → A7 → Prop) (hw : jn7 K B) (h1 : ∀ (a1 : A1) (a2 : A2) (a3 : A3) (a4 : A4) (a5 : A5) (a6 : A6) (a7 : A7), K a1 a2 a3 a4 a5 a6 a7 → G a1 a2 a3 a4 a5 a6 a7) (h2 : ∀ k : A1 → A2 → A3 → A4 → A5 → A6 → A7 → Prop, (∀ (a1 : A1) (a2 : A2) (a3 : A3) (a4 : A4) (a5 : A5) (a6 : A6) (a7 : A7), k a1 a2 a3 a4 a5 a6 a7 → G a1 a2 a3 a4 a5 a6 a7) → B k → P) : P := h2 K h1 hw
theorem jn7_rule {A1 A2 A3 A4 A5 A6 A7 : Type} {K : A1 → A2 → A3 → A4 → A5 → A6 → A7 → Prop} {B : (A1 → A2 → A3 → A4 → A5 → A6 → A7 → Prop) → Prop} (J : A1 → A2 → A3 → A4 → A5 → A6 → A7 → Prop) (h1 : ∀ (a1 : A1) (a2 : A2) (a3 : A3) (a4 : A4) (a5 : A5) (a6 : A6) (a7 : A7), J a1 a2 a3 a4 a5 a6 a7 → K a1 a2 a3 a4 a5 a6 a7) (h2 : ∀ k : A1 → A2 → A3 → A4 → A5 → A6 → A7 → Prop, (∀ (a1 : A1) (a2 : A2) (a3 : A3) (a4 : A4) (a5 : A5) (a6 : A6) (a7 : A7), J a1 a2 a3 a4 a5 a6 a7 → k a1 a2 a3 a4 a5 a6 a7) → B k) : jn7 K B := h2 K h1
def lw8 {A1 A2 A3 A4 A5 A6 A7 A8 : Type} (B : A1 → A2 → A3 → A4 → A5 → A6 → A7 → A8 → (A1 → A2 → A3 → A4 → A5 → A6 → A7 → A8 → Prop) → Prop) : Nat → A1 → A2 → A3 → A4 → A5 → A6 → A7 → A8 → Prop
  | 0, _, _, _, _, _, _, _, _ => False
  | n + 1, a1, a2, a3, a4, a5, a6, a7, a8 => B a1 a2 a3 a4 a5 a6 a7 a8 (lw8 B n)
def lq8 {A1 A2 A3 A4 A5 A6 A7 A8 : Type} (B : A1 → A2 → A3 → A4 → A5 → A6 → A7 → A8 → (A1 → A2 → A3 → A4 → A5 → A6 → A7 → A8 → Prop) → Prop) (a1 : A1) (a2 : A2) (a3 : A3) (a4 : A4) (a5 : A5) (a6 : A6) (a7 : A7) (a8 : A8) : Prop := ∃ n, lw8 B n a1 a2 a3 a4 a5 a6 a7 a8
theorem lq8_walk {A1 A2 A3 A4 A5 A6 A7 A8 : Type} {B : A1 → A2 → A3 → A4 → A5 → A6 → A7 → A8 → (A1 → A2 → A3 → A4 → A5 → A6 → A7 → A8 → Prop) → Prop} (G : A1 → A2 → A3 → A4 → A5 → A6 → A7 → A8 → Prop) (h : ∀ k : A1 → A2 → A3 → A4 → A5 → A6 → A7 → A8 → Prop, (∀ (a1 : A1) (a2 : A2) (a3 : A3) (a4 : A4) (a5 : A5) (a6 : A6) (a7 : A7) (a8 : A8), k a1 a2 a3 a4 a5 a6 a7 a8 → G a1 a2 a3 a4 a5 a6 a7 a8) → ∀ (a1 : A1) (a2 : A2) (a3 : A3) (a4 : A4) (a5 : A5) (a6 : A6) (a7 : A7) (a8 : A8), B a1 a2 a3 a4 a5 a6 a7 a8 k → G a1 a2 a3 a4 a5 a6 a7 a8) : ∀ (a1 : A1) (a2 : A2) (a3 : A3) (a4 : A4) (a5 : A5) (a6 : A6) (a7 : A7) (a8 : A8), lq8 B a1 a2 a3 a4 a5 a6 a7 a8 → G a1 a2 a3 a4 a5 a6 a7 a8 := by
  intro a1 a2 a3 a4 a5 a6 a7 a8 ⟨n, hn⟩
  induction n generalizing a1 a2 a3 a4 a5 a6 a7 a8 with
  | zero => exact hn.elim
  | succ n ih => exact h (lw8 B n) (fun a1 a2 a3 a4 a5 a6 a7 a8 q => ih a1 a2 a3 a4 a5 a6 a7 a8 q) a1 a2 a3 a4 a5 a6 a7 a8 hn
theorem lq8_rule {A1 A2 A3 A4 A5 A6 A7 A8 : Type} {B : A1 → A2 → A3 → A4 → A5 → A6 → A7 → A8 → (A1 → A2 → A3 → A4 → A5 → A6 → A7 → A8 → Prop) → Prop} (I : A1 → A2 → A3 → A4 → A5 → A6 → A7 → A8 → Prop) (μ : A1 → A2 → A3 → A4 → A5 → A6 → A7 → A8 → Nat) (h : ∀ (a1 : A1) (a2 : A2) (a3 : A3) (a4 : A4) (a5 : A5) (a6 : A6) (a7 : A7) (a8 : A8), I a1 a2 a3 a4 a5 a6 a7 a8 → ∀ k : A1 → A2 → A3 → A4 → A5 → A6 → A7 → A8 → Prop, (∀ (b1 : A1) (b2 : A2) (b3 : A3) (b4 : A4) (b5 : A5) (b6 : A6) (b7 : A7) (b8 : A8), I b1 b2 b3 b4 b5 b6 b7 b8 → μ b1 b2 b3 b4 b5 b6 b7 b8 < μ a1 a2 a3 a4 a5 a6 a7 a8 → k b1 b2 b3 b4 b5 b6 b7 b8) → B a1 a2 a3 a4 a5 a6 a7 a8 k) : ∀ (a1 : A1) (a2 : A2) (a3 : A3) (a4 : A4) (a5 : A5) (a6 : A6) (a7 : A7) (a8 : A8), I a1 a2 a3 a4 a5 a6 a7 a8 → lq8 B a1 a2 a3 a4 a5 a6 a7 a8 := by
  have key : ∀ (n : Nat) (a1 : A1) (a2 : A2) (a3 : A3) (a4 : A4) (a5 : A5) (a6 : A6) (a7 : A7) (a8 : A8), I a1 a2 a3 a4 a5 a6 a7 a8 → μ a1 a2 a3 a4 a5 a6 a7 a8 < n → lw8 B n a1 a2 a3 a4 a5 a6 a7 a8 := by
    intro n
    induction n with
    | zero => intro a1 a2 a3 a4 a5 a6 a7 a8 _ q; exact absurd q (Nat.not_lt_zero _)
    | succ n ih => intro a1 a2 a3 a4 a5 a6 a7 a8 hi hm; exact h a1 a2 a3 a4 a5 a6 a7 a8 hi (lw8 B n) (fun b1 b2 b3 b4 b5 b6 b7 b8 q1 q2 => ih b1 b2 b3 b4 b5 b6 b7 b8 q1 (by omega))
  intro a1 a2 a3 a4 a5 a6 a7 a8 hi
  exact ⟨μ a1 a2 a3 a4 a5 a6 a7 a8 + 1, key _ a1 a2 a3 a4 a5 a6 a7 a8 hi (Nat.lt_succ_self _)⟩
def jn8 {A1 A2 A3 A4 A5 A6 A7 A8 : Type} (K : A1 → A2 → A3 → A4 → A5 → A6 → A7 → A8 → Prop) (B : (A1 → A2 → A3 → A4 → A5 → A6 → A7 → A8 → Prop) → Prop) : Prop := B K
theorem jn8_walk {A1 A2 A3 A4 A5 A6 A7 A8 : Type} {K : A1 → A2 → A3 → A4 → A5 → A6 → A7 → A8 → Prop} {B : (A1 → A2 → A3 → A4 → A5 → A6 → A7 → A8 → Prop) → Prop} {P : Prop} (G : A1 → A2 → A3 → A4 → A5 → A6 → A7 → A8 → Prop) (hw : jn8 K B) (h1 : ∀ (a1 : A1) (a2 : A2) (a3 : A3) (a4 : A4) (a5 : A5) (a6 : A6) (a7 : A7) (a8 : A8), K a1 a2 a3 a4 a5 a6 a7 a8 → G a1 a2 a3 a4 a5 a6 a7 a8) (h2 : ∀ k : A1 → A2 → A3 → A4 → A5 → A6 → A7 → A8 → Prop, (∀ (a1 : A1) (a2 : A2) (a3 : A3) (a4 : A4) (a5 : A5) (a6 : A6) (a7 : A7) (a8 : A8), k a1 a2 a3 a4 a5 a6 a7 a8 → G a1 a2 a3 a4 a5 a6 a7 a8) → B k → P) : P := h2 K h1 hw
theorem jn8_rule {A1 A2 A3 A4 A5 A6 A7 A8 : Type} {K : A1 → A2 → A3 → A4 → A5 → A6 → A7 → A8 → Prop} {B : (A1 → A2 → A3 → A4 → A5 → A6 → A7 → A8 → Prop) → Prop} (J : A1 → A2 → A3 → A4 → A5 → A6 → A7 → A8 → Prop) (h1 : ∀ (a1 : A1) (a2 : A2) (a3 : A3) (a4 : A4) (a5 : A5) (a6 : A6) (a7 : A7) (a8 : A8), J a1 a2 a3 a4 a5 a6 a7 a8 → K a1 a2 a3 a4 a5 a6 a7 a8) (h2 : ∀ k : A1 → A2 → A3 → A4 → A5 → A6 → A7 → A8 → Prop, (∀ (a1 : A1) (a2 : A2) (a3 : A3) (a4 : A4) (a5 : A5) (a6 : A6) (a7 : A7) (a8 : A8), J a1 a2 a3 a4 a5 a6 a7 a8 → k a1 a2 a3 a4 a5 a6 a7 a8) → B k) : jn8 K B := h2 K h1
def lw9 {A1 A2 A3 A4 A5 A6 A7 A8 A9 : Type} (B : A1 → A2 → A3 → A4 → A5 → A6 → A7 → A8 → A9 → (A1 → A2 → A3 → A4 → A5 → A6 → A7 → A8 → A9 → Prop) → Prop) : Nat → A1 → A2 → A3 → A4 → A5 → A6 → A7 → A8 → A9 → Prop
  | 0, _, _, _, _, _, _, _, _, _ => False
  | n + 1, a1, a2, a3, a4, a5, a6, a7, a8, a9 => B a1 a2 a3 a4 a5 a6 a7 a8 a9 (lw9 B n)
def lq9 {A1 A2 A3 A4 A5 A6 A7 A8 A9 : Type} (B : A1 → A2 → A3 → A4 → A5 → A6 → A7 → A8 → A9 → (A1 → A2 → A3 → A4 → A5 → A6 → A7 → A8 → A9 → Prop) → Prop) (a1 : A1) (a2 : A2) (a3 : A3) (a4 : A4) (a5 : A5) (a6 : A6) (a7 : A7) (a8 : A8) (a9 : A9) : Prop := ∃ n, lw9 B n a1 a2 a3 a4 a5 a6 a7 a8 a9
theorem lq9_walk {A1 A2 A3 A4 A5 A6 A7 A8 A9 : Type} {B : A1 → A2 → A3 → A4 → A5 → A6 → A7 → A8 → A9 → (A1 → A2 → A3 → A4 → A5 → A6 → A7 → A8 → A9 → Prop) → Prop} (G : A1 → A2 → A3 → A4 → A5 → A6 → A7 → A8 → A9 → Prop) (h : ∀ k : A1 → A2 → A3 → A4 → A5 → A6 → A7 → A8 → A9 → Prop, (∀ (a1 : A1) (a2 : A2) (a3 : A3) (a4 : A4) (a5 : A5) (a6 : A6) (a7 : A7) (a8 : A8) (a9 : A9), k a1 a2 a3 a4 a5 a6 a7 a8 a9 → G a1 a2 a3 a4 a5 a6 a7 a8 a9) → ∀ (a1 : A1) (a2 : A2) (a3 : A3) (a4 : A4) (a5 : A5) (a6 : A6) (a7 : A7) (a8 : A8) (a9 : A9), B a1 a2 a3 a4 a5 a6 a7 a8 a9 k → G a1 a2 a3 a4 a5 a6 a7 a8 a9) : ∀ (a1 : A1) (a2 : A2) (a3 : A3) (a4 : A4) (a5 : A5) (a6 : A6) (a7 : A7) (a8 : A8) (a9 : A9), lq9 B a1 a2 a3 a4 a5 a6 a7 a8 a9 → G a1 a2 a3 a4 a5 a6 a7 a8 a9 := by
  intro a1 a2 a3 a4 a5 a6 a7 a8 a9 ⟨n, hn⟩
  induction n generalizing a1 a2 a3 a4 a5 a6 a7 a8 a9 with
  | zero => exact hn.elim
  | succ n ih => exact h (lw9 B n) (fun a1 a2 a3 a4 a5 a6 a7 a8 a9 q => ih a1 a2 a3 a4 a5 a6 a7 a8 a9 q) a1 a2 a3 a4 a5 a6 a7 a8 a9 hn
theorem lq9_rule {A1 A2 A3 A4 A5 A6 A7 A8 A9 : Type} {B : A1 → A2 → A3 → A4 → A5 → A6 → A7 → A8 → A9 → (A1 → A2 → A3 → A4 → A5 → A6 → A7 → A8 → A9 → Prop) → Prop} (I : A1 → A2 → A3 → A4 → A5 → A6 → A7 → A8 → A9 → Prop) (μ : A1 → A2 → A3 → A4 → A5 → A6 → A7 → A8 → A9 → Nat) (h : ∀ (a1 : A1) (a2 : A2) (a3 : A3) (a4 : A4) (a5 : A5) (a6 : A6) (a7 : A7) (a8 : A8) (a9 : A9), I a1 a2 a3 a4 a5 a6 a7 a8 a9 → ∀ k : A1 → A2 → A3 → A4 → A5 → A6 → A7 → A8 → A9 → Prop, (∀ (b1 : A1) (b2 : A2) (b3 : A3) (b4 : A4) (b5 : A5) (b6 : A6) (b7 : A7) (b8 : A8) (b9 : A9), I b1 b2 b3 b4 b5 b6 b7 b8 b9 → μ b1 b2 b3 b4 b5 b6 b7 b8 b9 < μ a1 a2 a3 a4 a5 a6 a7 a8 a9 → k b1 b2 b3 b4 b5 b6 b7 b8 b9) → B a1 a2 a3 a4 a5 a6 a7 a8 a9 k) : ∀ (a1 : A1) (a2 : A2) (a3 : A3) (a4 : A4) (a5 : A5) (a6 : A6) (a7 : A7) (a8 : A8) (a9 : A9), I a1 a2 a3 a4 a5 a6 a7 a8 a9 → lq9 B a1 a2 a3 a4 a5 a6 a7 a8 a9 := by
  have key : ∀ (n : Nat) (a1 : A1) (a2 : A2) (a3 : A3) (a4 : A4) (a5 : A5) (a6 : A6) (a7 : A7) (a8 : A8) (a9 : A9), I a1 a2 a3 a4 a5 a6 a7 a8 a9 → μ a1 a2 a3 a4 a5 a6 a7 a8 a9 < n → lw9 B n a1 a2 a3 a4 a5 a6 a7 a8 a9 := by
    intro n
    induction n with
    | zero => intro a1 a2 a3 a4 a5 a6 a7 a8 a9 _ q; exact absurd q (Nat.not_lt_zero _)
    | succ n ih => intro a1 a2 a3 a4 a5 a6 a7 a8 a9 hi hm; exact h a1 a2 a3 a4 a5 a6 a7 a8 a9 hi (lw9 B n) (fun b1 b2 b3 b4 b5 b6 b7 b8 b9 q1 q2 => ih b1 b2 b3 b4 b5 b6 b7 b8 b9 q1 (by omega))
  intro a1 a2 a3 a4 a5 a6 a7 a8 a9 hi
  exact ⟨μ a1 a2 a3 a4 a5 a6 a7 a8 a9 + 1, key _ a1 a2 a3 a4 a5 a6 a7 a8 a9 hi (Nat.lt_succ_self _)⟩
def jn9 {A1 A2 A3 A4 A5 A6 A7 A8 A9 : Type} (K : A1 → A2 → A3 → A4 → A5 → A6 → A7 → A8 → A9 → Prop) (B : (A1 → A2 → A3 → A4 → A5 → A6 → A7 → A8 → A9 → Prop) → Prop) : Prop := B K
theorem jn9_walk {A1 A2 A3 A4 A5 A6 A7 A8 A9 : Type} {K : A1 → A2 → A3 → A4 → A5 → A6 → A7 → A8 → A9 → Prop} {B : (A1 → A2 → A3 → A4 → A5 → A6 → A7 → A8 → A9 → Prop) → Prop} {P : Prop} (G : A1 → A2 → A3 → A4 → A5 → A6 → A7 → A8 → A9 → Prop) (hw : jn9 K B) (h1 : ∀ (a1 : A1) (a2 : A2) (a3 : A3) (a4 : A4) (a5 : A5) (a6 : A6) (a7 : A7) (a8 : A8) (a9 : A9), K a1 a2 a3 a4 a5 a6 a7 a8 a9 → G a1 a2 a3 a4 a5 a6 a7 a8 a9) (h2 : ∀ k : A1 → A2 → A3 → A4 → A5 → A6 → A7 → A8 → A9 → Prop, (∀ (a1 : A1) (a2 : A2) (a3 : A3) (a4 : A4) (a5 : A5) (a6 : A6) (a7 : A7) (a8 : A8) (a9 : A9), k a1 a2 a3 a4 a5 a6 a7 a8 a9 → G a1 a2 a3 a4 a5 a6 a7 a8 a9) → B k → P) : P := h2 K h1 hw
theorem jn9_rule {A1 A2 A3 A4 A5 A6 A7 A8 A9 : Type} {K : A1 → A2 → A3 → A4 → A5 → A6 → A7 → A8 → A9 → Prop} {B : (A1 → A2 → A3 → A4 → A5 → A6 → A7 → A8 → A9 → Prop) → Prop} (J : A1 → A2 → A3 → A4 → A5 → A6 → A7 → A8 → A9 → Prop) (h1 : ∀ (a1 : A1) (a2 : A2) (a3 : A3) (a4 : A4) (a5 : A5) (a6 : A6) (a7 : A7) (a8 : A8) (a9 : A9), J a1 a2 a3 a4 a5 a6 a7 a8 a9 → K a1 a2 a3 a4 a5 a6 a7 a8 a9) (h2 : ∀ k : A1 → A2 → A3 → A4 → A5 → A6 → A7 → A8 → A9 → Prop, (∀ (a1 : A1) (a2 : A2) (a3 : A3) (a4 : A4) (a5 : A5) (a6 : A6) (a7 : A7) (a8 : A8) (a9 : A9), J a1 a2 a3 a4 a5 a6 a7 a8 a9 → k a1 a2 a3 a4 a5 a6 a7 a8 a9) → B k) : jn9 K B := h2 K h1
def lw10 {A1 A2 A3 A4 A5 A6 A7 A8 A9 A10 : Type} (B : A1 → A2 → A3 → A4 → A5 → A6 → A7 → A8 → A9 → A10 → (A1 → A2 → A3 → A4 → A5 → A6 → A7 → A8 → A9 → A10 → Prop) → Prop) : Nat → A1 → A2 → A3 → A4 → A5 → A6 → A7 → A8 → A9 → A10 → Prop
  | 0, _, _, _, _, _, _, _, _, _, _ => False
  | n + 1, a1, a2, a3, a4, a5, a6, a7, a8, a9, a10 => B a1 a2 a3 a4 a5 a6 a7 a8 a9 a10 (lw10 B n)
def lq10 {A1 A2 A3 A4 A5 A6 A7 A8 A9 A10 : Type} (B : A1 → A2 → A3 → A4 → A5 → A6 → A7 → A8 → A9 → A10 → (A1 → A2 → A3 → A4 → A5 → A6 → A7 → A8 → A9 → A10 → Prop) → Prop) (a1 : A1) (a2 : A2) (a3 : A3) (a4 : A4) (a5 : A5) (a6 : A6) (a7 : A7) (a8 : A8) (a9 : A9) (a10 : A10) : Prop := ∃ n, lw10 B n a1 a2 a3 a4 a5 a6 a7 a8 a9 a10
theorem lq10_walk {A1 A2 A3 A4 A5 A6 A7 A8 A9 A10 : Type} {B : A1 → A2 → A3 → A4 → A5 → A6 → A7 → A8 → A9 → A10 → (A1 → A2 → A3 → A4 → A5 → A6 → A7 → A8 → A9 → A10 → Prop) → Prop} (G : A1 → A2 → A3 → A4 → A5 → A6 → A7 → A8 → A9 → A10 → Prop) (h : ∀ k : A1 → A2 → A3 → A4 → A5 → A6 → A7 → A8 → A9 → A10 → Prop, (∀ (a1 : A1) (a2 : A2) (a3 : A3) (a4 : A4) (a5 : A5) (a6 : A6) (a7 : A7) (a8 : A8) (a9 : A9) (a10 : A10), k a1 a2 a3 a4 a5 a6 a7 a8 a9 a10 → G a1 a2 a3 a4 a5 a6 a7 a8 a9 a10) → ∀ (a1 : A1) (a2 : A2) (a3 : A3) (a4 : A4) (a5 : A5) (a6 : A6) (a7 : A7) (a8 : A8) (a9 : A9) (a10 : A10), B a1 a2 a3 a4 a5 a6 a7 a8 a9 a10 k → G a1 a2 a3 a4 a5 a6 a7 a8 a9 a10) : ∀ (a1 : A1) (a2 : A2) (a3 : A3) (a4 : A4) (a5 : A5) (a6 : A6) (a7 : A7) (a8 : A8) (a9 : A9) (a10 : A10), lq10 B a1 a2 a3 a4 a5 a6 a7 a8 a9 a10 → G a1 a2 a3 a4 a5 a6 a7 a8 a9 a10 := by
  intro a1 a2 a3 a4 a5 a6 a7 a8 a9 a10 ⟨n, hn⟩
  induction n generalizing a1 a2 a3 a4 a5 a6 a7 a8 a9 a10 with
  | zero => exact hn.elim
  | succ n ih => exact h (lw10 B n) (fun a1 a2 a3 a4 a5 a6 a7 a8 a9 a10 q => ih a1 a2 a3 a4 a5 a6 a7 a8 a9 a10 q) a1 a2 a3 a4 a5 a6 a7 a8 a9 a10 hn
theorem lq10_rule {A1 A2 A3 A4 A5 A6 A7 A8 A9 A10 : Type} {B : A1 → A2 → A3 → A4 → A5 → A6 → A7 → A8 → A9 → A10 → (A1 → A2 → A3 → A4 → A5 → A6 → A7 → A8 → A9 → A10 → Prop) → Prop} (I : A1 → A2 → A3 → A4 → A5 → A6 → A7 → A8 → A9 → A10 → Prop) (μ : A1 → A2 → A3 → A4 → A5 → A6 → A7 → A8 → A9 → A10 → Nat) (h : ∀ (a1 : A1) (a2 : A2) (a3 : A3) (a4 : A4) (a5 : A5) (a6 : A6) (a7 : A7) (a8 : A8) (a9 : A9) (a10 : A10), I a1 a2 a3 a4 a5 a6 a7 a8 a9 a10 → ∀ k : A1 → A2 → A3 → A4 → A5 → A6 → A7 → A8 → A9 → A10 → Prop, (∀ (b1 : A1) (b2 : A2) (b3 : A3) (b4 : A4) (b5 : A5) (b6 : A6) (b7 : A7) (b8 : A8) (b9 : A9) (b10 : A10), I b1 b2 b3 b4 b5 b6 b7 b8 b9 b10 → μ b1 b2 b3 b4 b5 b6 b7 b8 b9 b10 < μ a1 a2 a3 a4 a5 a6 a7 a8 a9 a10 → k b1 b2 b3 b4 b5 b6 b7 b8 b9 b10) → B a1 a2 a3 a4 a5 a6 a7 a8 a9 a10 k) : ∀ (a1 : A1) (a2 : A2) (a3 : A3) (a4 : A4) (a5 : A5) (a6 : A6) (a7 : A7) (a8 : A8) (a9 : A9) (a10 : A10), I a1 a2 a3 a4 a5 a6 a7 a8 a9 a10 → lq10 B a1 a2 a3 a4 a5 a6 a7 a8 a9 a10 := by
  have key : ∀ (n : Nat) (a1 : A1) (a2 : A2) (a3 : A3) (a4 : A4) (a5 : A5) (a6 : A6) (a7 : A7) (a8 : A8) (a9 : A9) (a10 : A10), I a1 a2 a3 a4 a5 a6 a7 a8 a9 a10 → μ a1 a2 a3 a4 a5 a6 a7 a8 a9 a10 < n → lw10 B n a1 a2 a3 a4 a5 a6 a7 a8 a9 a10 := by
    intro n
    induction n with
    | zero => intro a1 a2 a3 a4 a5 a6 a7 a8 a9 a10 _ q; exact absurd q (Nat.not_lt_zero _)
    | succ n ih => intro a1 a2 a3 a4 a5 a6 a7 a8 a9 a10 hi hm; exact h a1 a2 a3 a4 a5 a6 a7 a8 a9 a10 hi (lw10 B n) (fun b1 b2 b3 b4 b5 b6 b7 b8 b9 b10 q1 q2 => ih b1 b2 b3 b4 b5 b6 b7 b8 b9 b10 q1 (by omega))
  intro a1 a2 a3 a4 a5 a6 a7 a8 a9 a10 hi
  exact ⟨μ a1 a2 a3 a4 a5 a6 a7 a8 a9 a10 + 1, key _ a1 a2 a3 a4 a5 a6 a7 a8 a9 a10 hi (Nat.lt_succ_self _)⟩
def jn10 {A1 A2 A3 A4 A5 A6 A7 A8 A9 A10 : Type} (K : A1 → A2 → A3 → A4 → A5 → A6 → A7 → A8 → A9 → A10 → Prop) (B : (A1 → A2 → A3 → A4 → A5 → A6 → A7 → A8 → A9 → A10 → Prop) → Prop) : Prop := B K
theorem jn10_walk {A1 A2 A3 A4 A5 A6 A7 A8 A9 A10 : Type} {K : A1 → A2 → A3 → A4 → A5 → A6 → A7 → A8 → A9 → A10 → Prop} {B : (A1 → A2 → A3 → A4 → A5 → A6 → A7 → A8 → A9 → A10 → Prop) → Prop} {P : Prop} (G : A1 → A2 → A3 → A4 → A5 → A6 → A7 → A8 → A9 → A10 → Prop) (hw : jn10 K B) (h1 : ∀ (a1 : A1) (a2 : A2) (a3 : A3) (a4 : A4) (a5 : A5) (a6 : A6) (a7 : A7) (a8 : A8) (a9 : A9) (a10 : A10), K a1 a2 a3 a4 a5 a6 a7 a8 a9 a10 → G a1 a2 a3 a4 a5 a6 a7 a8 a9 a10) (h2 : ∀ k : A1 → A2 → A3 → A4 → A5 → A6 → A7 → A8 → A9 → A10 → Prop, (∀ (a1 : A1) (a2 : A2) (a3 : A3) (a4 : A4) (a5 : A5) (a6 : A6) (a7 : A7) (a8 : A8) (a9 : A9) (a10 : A10), k a1 a2 a3 a4 a5 a6 a7 a8 a9 a10 → G a1 a2 a3 a4 a5 a6 a7 a8 a9 a10) → B k → P) : P := h2 K h1 hw
theorem jn10_rule {A1 A2 A3 A4 A5 A6 A7 A8 A9 A10 : Type} {K : A1 → A2 → A3 → A4 → A5 → A6 → A7 → A8 → A9 → A10 → Prop} {B : (A1 → A2 → A3 → A4 → A5 → A6 → A7 → A8 → A9 → A10 → Prop) → Prop} (J : A1 → A2 → A3 → A4 → A5 → A6 → A7 → A8 → A9 → A10 → Prop) (h1 : ∀ (a1 : A1) (a2 : A2) (a3 : A3) (a4 : A4) (a5 : A5) (a6 : A6) (a7 : A7) (a8 : A8) (a9 : A9) (a10 : A10), J a1 a2 a3 a4 a5 a6 a7 a8 a9 a10 → K a1 a2 a3 a4 a5 a6 a7 a8 a9 a10) (h2 : ∀ k : A1 → A2 → A3 → A4 → A5 → A6 → A7 → A8 → A9 → A10 → Prop, (∀ (a1 : A1) (a2 : A2) (a3 : A3) (a4 : A4) (a5 : A5) (a6 : A6) (a7 : A7) (a8 : A8) (a9 : A9) (a10 : A10), J a1 a2 a3 a4 a5 a6 a7 a8 a9 a10 → k a1 a2 a3 a4 a5 a6 a7 a8 a9 a10) → B k) : jn10 K B := h2 K h1
def lw11 {A1 A2 A3 A4 A5 A6 A7 A8 A9 A10 A11 : Type} (B : A1 → A2 → A3 → A4 → A5 → A6 → A7 → A8 → A9 → A10 → A11 → (A1 → A2 → A3 → A4 → A5 → A6 → A7 → A8 → A9 → A10 → A11 → Prop) → Prop) : Nat → A1 → A2 → A3 → A4 → A5 → A6 → A7 → A8 → A9 → A10 → A11 → Prop
  | 0, _, _, _, _, _, _, _, _, _, _, _ => False
  | n + 1, a1, a2, a3, a4, a5, a6, a7, a8, a9, a10, a11 => B a1 a2 a3 a4 a5 a6 a7 a8 a9 a10 a11 (lw11 B n)
def lq11 {A1 A2 A3 A4 A5 A6 A7 A8 A9 A10 A11 : Type} (B : A1 → A2 → A3 → A4 → A5 → A6 → A7 → A8 → A9 → A10 → A11 → (A1 → A2 → A3 → A4 → A5 → A6 → A7 → A8 → A9 → A10 → A11 → Prop) → Prop) (a1 : A1) (a2 : A2) (a3 : A3) (a4 : A4) (a5 : A5) (a6 : A6) (a7 : A7) (a8 : A8) (a9 : A9) (a10 : A10) (a11 : A11) : Prop := ∃ n, lw11 B n a1 a2 a3 a4 a5 a6 a7 a8 a9 a10 a11
theorem lq11_walk {A1 A2 A3 A4 A5 A6 A7 A8 A9 A10 A11 : Type} {B : A1 → A2 → A3 → A4 → A5 → A6 → A7 → A8 → A9 → A10 → A11 → (A1 → A2 → A3 → A4 → A5 → A6 → A7 → A8 → A9 → A10 → A11 → Prop) → Prop} (G : A1 → A2 → A3 → A4 → A5 → A6 → A7 → A8 → A9 → A10 → A11 → Prop) (h : ∀ k : A1 → A2 → A3 → A4 → A5 → A6 → A7 → A8 → A9 → A10 → A11 → Prop, (∀ (a1 : A1) (a2 : A2) (a3 : A3) (a4 : A4) (a5 : A5) (a6 : A6) (a7 : A7) (a8 : A8) (a9 : A9) (a10 : A10) (a11 : A11), k a1 a2 a3 a4 a5 a6 a7 a8 a9 a10 a11 → G a1 a2 a3 a4 a5 a6 a7 a8 a9 a10 a11) → ∀ (a1 : A1) (a2 : A2) (a3 : A3) (a4 : A4) (a5 : A5) (a6 : A6) (a7 : A7) (a8 : A8) (a9 : A9) (a10 : A10) (a11 : A11), B a1 a2 a3 a4 a5 a6 a7 a8 a9 a10 a11 k → G a1 a2 a3 a4 a5 a6 a7 a8 a9 a10 a11) : ∀ (a1 : A1) (a2 : A2) (a3 : A3) (a4 : A4) (a5 : A5) (a6 : A6) (a7 : A7) (a8 : A8) (a9 : A9) (a10 : A10) (a11 : A11), lq11 B a1 a2 a3 a4 a5 a6 a7 a8 a9 a10 a11 → G a1 a2 a3 a4 a5 a6 a7 a8 a9 a10 a11 := by
  intro a1 a2 a3 a4 a5 a6 a7 a8 a9 a10 a11 ⟨n, hn⟩
  induction n generalizing a1 a2 a3 a4 a5 a6 a7 a8 a9 a10 a11 with
  | zero => exact hn.elim
  | succ n ih => exact h (lw11 B n) (fun a1 a2 a3 a4 a5 a6 a7 a8 a9 a10 a11 q => ih a1 a2 a3 a4 a5 a6 a7 a8 a9 a10 a11 q) a1 a2 a3 a4 a5 a6 a7 a8 a9 a10 a11 hn
theorem lq11_rule {A1 A2 A3 A4 A5 A6 A7 A8 A9 A10 A11 : Type} {B : A1 → A2 → A3 → A4 → A5 → A6 → A7 → A8 → A9 → A10 → A11 → (A1 → A2 → A3 → A4 → A5 → A6 → A7 → A8 → A9 → A10 → A11 → Prop) → Prop} (I : A1 → A2 → A3 → A4 → A5 → A6 → A7 → A8 → A9 → A10 → A11 → Prop) (μ : A1 → A2 → A3 → A4 → A5 → A6 → A7 → A8 → A9 → A10 → A11 → Nat) (h : ∀ (a1 : A1) (a2 : A2) (a3 : A3) (a4 : A4) (a5 : A5) (a6 : A6) (a7 : A7) (a8 : A8) (a9 : A9) (a10 : A10) (a11 : A11), I a1 a2 a3 a4 a5 a6 a7 a8 a9 a10 a11 → ∀ k : A1 → A2 → A3 → A4 → A5 → A6 → A7 → A8 → A9 → A10 → A11 → Prop, (∀ (b1 : A1) (b2 : A2) (b3 : A3) (b4 : A4) (b5 : A5) (b6 : A6) (b7 : A7) (b8 : A8) (b9 : A9) (b10 : A10) (b11 : A11), I b1 b2 b3 b4 b5 b6 b7 b8 b9 b10 b11 → μ b1 b2 b3 b4 b5 b6 b7 b8 b9 b10 b11 < μ a1 a2 a3 a4 a5 a6 a7 a8 a9 a10 a11 → k b1 b2 b3 b4 b5 b6 b7 b8 b9 b10 b11) → B a1 a2 a3 a4 a5 a6 a7 a8 a9 a10 a11 k) : ∀ (a1 : A1) (a2 : A2) (a3 : A3) (a4 : A4) (a5 : A5) (a6 : A6) (a7 : A7) (a8 : A8) (a9 : A9) (a10 : A10) (a11 : A11), I a1 a2 a3 a4 a5 a6 a7 a8 a9 a10 a11 → lq11 B a1 a2 a3 a4 a5 a6 a7 a8 a9 a10 a11 := by
  have key : ∀ (n : Nat) (a1 : A1) (a2 : A2) (a3 : A3) (a4 : A4) (a5 : A5) (a6 : A6) (a7 : A7) (a8 : A8) (a9 : A9) (a10 : A10) (a11 : A11), I a1 a2 a3 a4 a5 a6 a7 a8 a9 a10 a11 → μ a1 a2 a3 a4 a5 a6 a7 a8 a9 a10 a11 < n → lw11 B n a1 a2 a3 a4 a5 a6 a7 a8 a9 a10 a11 := by
    intro n
    induction n with
    | zero => intro a1 a2 a3 a4 a5 a6 a7 a8 a9 a10 a11 _ q; exact absurd q (Nat.not_lt_zero _)
    | succ n ih => intro a1 a2 a3 a4 a5 a6 a7 a8 a9 a10 a11 hi hm; exact h a1 a2 a3 a4 a5 a6 a7 a8 a9 a10 a11 hi (lw11 B n) (fun b1 b2 b3 b4 b5 b6 b7 b8 b9 b10 b11 q1 q2 => ih b1 b2 b3 b4 b5 b6 b7 b8 b9 b10 b11 q1 (by omega))
  intro a1 a2 a3 a4 a5 a6 a7 a8 a9 a10 a11 hi
  exact ⟨μ a1 a2 a3 a4 a5 a6 a7 a8 a9 a10 a11 + 1, key _ a1 a2 a3 a4 a5 a6 a7 a8 a9 a10 a11 hi (Nat.lt_succ_self _)⟩
def jn11 {A1 A2 A3 A4 A5 A6 A7 A8 A9 A10 A11 : Type} (K : A1 → A2 → A3 → A4 → A5 → A6 → A7 → A8 → A9 → A10 → A11 → Prop) (B : (A1 → A2 → A3 → A4 → A5 → A6 → A7 → A8 → A9 → A10 → A11 → Prop) → Prop) : Prop := B K
theorem jn11_walk {A1 A2 A3 A4 A5 A6 A7 A8 A9 A10 A11 : Type} {K : A1 → A2 → A3 → A4 → A5 → A6 → A7 → A8 → A9 → A10 → A11 → Prop} {B : (A1 → A2 → A3 → A4 → A5 → A6 → A7 → A8 → A9 → A10 → A11 → Prop) → Prop} {P : Prop} (G : A1 → A2 → A3 → A4 → A5 → A6 → A7 → A8 → A9 → A10 → A11 → Prop) (hw : jn11 K B) (h1 : ∀ (a1 : A1) (a2 : A2) (a3 : A3) (a4 : A4) (a5 : A5) (a6 : A6) (a7 : A7) (a8 : A8) (a9 : A9) (a10 : A10) (a11 : A11), K a1 a2 a3 a4 a5 a6 a7 a8 a9 a10 a11 → G a1 a2 a3 a4 a5 a6 a7 a8 a9 a10 a11) (h2 : ∀ k : A1 → A2 → A3 → A4 → A5 → A6 → A7 → A8 → A9 → A10 → A11 → Prop, (∀ (a1 : A1) (a2 : A2) (a3 : A3) (a4 : A4) (a5 : A5) (a6 : A6) (a7 : A7) (a8 : A8) (a9 : A9) (a10 : A10) (a11 : A11), k a1 a2 a3 a4 a5 a6 a7 a8 a9 a10 a11 → G a1 a2 a3 a4 a5 a6 a7 a8 a9 a10 a11) → B k → P) : P := h2 K h1 hw
theorem jn11_rule {A1 A2 A3 A4 A5 A6 A7 A8 A9 A10 A11 : Type} {K : A1 → A2 → A3 → A4 → A5 → A6 → A7 → A8 → A9 → A10 → A11 → Prop} {B : (A1 → A2 → A3 → A4 → A5 → A6 → A7 → A8 → A9 → A10 → A11 → Prop) → Prop} (J : A1 → A2 → A3 → A4 → A5 → A6 → A7 → A8 → A9 → A10 → A11 → Prop) (h1 : ∀ (a1 : A1) (a2 : A2) (a3 : A3) (a4 : A4) (a5 : A5) (a6 : A6) (a7 : A7) (a8 : A8) (a9 : A9) (a10 : A10) (a11 : A11), J a1 a2 a3 a4 a5 a6 a7 a8 a9 a10 a11 → K a1 a2 a3 a4 a5 a6 a7 a8 a9 a10 a11) (h2 : ∀ k : A1 → A2 → A3 → A4 → A5 → A6 → A7 → A8 → A9 → A10 → A11 → Prop, (∀ (a1 : A1) (a2 : A2) (a3 : A3) (a4 : A4) (a5 : A5) (a6 : A6) (a7 : A7) (a8 : A8) (a9 : A9) (a10 : A10) (a11 : A11), J a1 a2 a3 a4 a5 a6 a7 a8 a9 a10 a11 → k a1 a2 a3 a4 a5 a6 a7 a8 a9 a10 a11) → B k) : jn11 K B := h2 K h1
def lw12 {A1 A2 A3 A4 A5 A6 A7 A8 A9 A10 A11 A12 : Type} (B : A1 → A2 → A3 → A4 → A5 → A6 → A7 → A8 → A9 → A10 → A11 → A12 → (A1 → A2 → A3 → A4 → A5 → A6 → A7 → A8 → A9 → A10 → A11 → A12 → Prop) → Prop) : Nat → A1 → A2 → A3 → A4 → A5 → A6 → A7 → A8 → A9 → A10 → A11 → A12 → Prop
  | 0, _, _, _, _, _, _, _, _, _, _, _, _ => False
  | n + 1, a1, a2, a3, a4, a5, a6, a7, a8, a9, a10, a11, a12 => B a1 a2 a3 a4 a5 a6 a7 a8 a9 a10 a11 a12 (lw12 B n)
def lq12 {A1 A2 A3 A4 A5 A6 A7 A8 A9 A10 A11 A12 : Type} (B : A1 → A2 → A3 → A4 → A5 → A6 → A7 → A8 → A9 → A10 → A11 → A12 → (A1 → A2 → A3 → A4 → A5 → A6 → A7 → A8 → A9 → A10 → A11 → A12 → Prop) → Prop) (a1 : A1) (a2 : A2) (a3 : A3) (a4 : A4) (a5 : A5) (a6 : A6) (a7 : A7) (a8 : A8) (a9 : A9) (a10 : A10) (a11 : A11) (a12 : A12) : Prop := ∃ n, lw12 B n a1 a2 a3 a4 a5 a6 a7 a8 a9 a10 a11 a12
theorem lq12_walk {A1 A2 A3 A4 A5 A6 A7 A8 A9 A10 A11 A12 : Type} {B : A1 → A2 → A3 → A4 → A5 → A6 → A7 → A8 → A9 → A10 → A11 → A12 → (A1 → A2 → A3 → A4 → A5 → A6 → A7 → A8 → A9 → A10 → A11 → A12 → Prop) → Prop} (G : A1 → A2 → A3 → A4 → A5 → A6 → A7 → A8 → A9 → A10 → A11 → A12 → Prop) (h : ∀ k : A1 → A2 → A3 → A4 → A5 → A6 → A7 → A8 → A9 → A10 → A11 → A12 → Prop, (∀ (a1 : A1) (a2 : A2) (a3 : A3) (a4 : A4) (a5 : A5) (a6 : A6) (a7 : A7) (a8 : A8) (a9 : A9) (a10 : A10) (a11 : A11) (a12 : A12), k a1 a2 a3 a4 a5 a6 a7 a8 a9 a10 a11 a12 → G a1 a2 a3 a4 a5 a6 a7 a8 a9 a10 a11 a12) → ∀ (a1 : A1) (a2 : A2) (a3 : A3) (a4 : A4) (a5 : A5) (a6 : A6) (a7 : A7) (a8 : A8) (a9 : A9) (a10 : A10) (a11 : A11) (a12 : A12), B a1 a2 a3 a4 a5 a6 a7 a8 a9 a10 a11 a12 k → G a1 a2 a3 a4 a5 a6 a7 a8 a9 a10 a11 a12) : ∀ (a1 : A1) (a2 : A2) (a3 : A3) (a4 : A4) (a5 : A5) (a6 : A6) (a7 : A7) (a8 : A8) (a9 : A9) (a10 : A10) (a11 : A11) (a12 : A12), lq12 B a1 a2 a3 a4 a5 a6 a7 a8 a9 a10 a11 a12 → G a1 a2 a3 a4 a5 a6 a7 a8 a9 a10 a11 a12 := by
  intro a1 a2 a3 a4 a5 a6 a7 a8 a9 a10 a11 a12 ⟨n, hn⟩
  induction n generalizing a1 a2 a3 a4 a5 a6 a7 a8 a9 a10 a11 a12 with
  | zero => exact hn.elim
  | succ n ih => exact h (lw12 B n) (fun a1 a2 a3 a4 a5 a6 a7 a8 a9 a10 a11 a12 q => ih a1 a2 a3 a4 a5 a6 a7 a8 a9 a10 a11 a12 q) a1 a2 a3 a4 a5 a6 a7 a8 a9 a10 a11 a12 hn
theorem lq12_rule {A1 A2 A3 A4 A5 A6 A7 A8 A9 A10 A11 A12 : Type} {B : A1 → A2 → A3 → A4 → A5 → A6 → A7 → A8 → A9 → A10 → A11 → A12 → (A1 → A2 → A3 → A4 → A5 → A6 → A7 → A8 → A9 → A10 → A11 → A12 → Prop) → Prop} (I : A1 → A2 → A3 → A4 → A5 → A6 → A7 → A8 → A9 → A10 → A11 → A12 → Prop) (μ : A1 → A2 → A3 → A4 → A5 → A6 → A7 → A8 → A9 → A10 → A11 → A12 → Nat) (h : ∀ (a1 : A1) (a2 : A2) (a3 : A3) (a4 : A4) (a5 : A5) (a6 : A6) (a7 : A7) (a8 : A8) (a9 : A9) (a10 : A10) (a11 : A11) (a12 : A12), I a1 a2 a3 a4 a5 a6 a7 a8 a9 a10 a11 a12 → ∀ k : A1 → A2 → A3 → A4 → A5 → A6 → A7 → A8 → A9 → A10 → A11 → A12 → Prop, (∀ (b1 : A1) (b2 : A2) (b3 : A3) (b4 : A4) (b5 : A5) (b6 : A6) (b7 : A7) (b8 : A8) (b9 : A9) (b10 : A10) (b11 : A11) (b12 : A12), I b1 b2 b3 b4 b5 b6 b7 b8 b9 b10 b11 b12 → μ b1 b2 b3 b4 b5 b6 b7 b8 b9 b10 b11 b12 < μ a1 a2 a3 a4 a5 a6 a7 a8 a9 a10 a11 a12 → k b1 b2 b3 b4 b5 b6 b7 b8 b9 b10 b11 b12) → B a1 a2 a3 a4 a5 a6 a7 a8 a9 a10 a11 a12 k) : ∀ (a1 : A1) (a2 : A2) (a3 : A3) (a4 : A4) (a5 : A5) (a6 : A6) (a7 : A7) (a8 : A8) (a9 : A9) (a10 : A10) (a11 : A11) (a12 : A12), I a1 a2 a3 a4 a5 a6 a7 a8 a9 a10 a11 a12 → lq12 B a1 a2 a3 a4 a5 a6 a7 a8 a9 a10 a11 a12 := by
  have key : ∀ (n : Nat) (a1 : A1) (a2 : A2) (a3 : A3) (a4 : A4) (a5 : A5) (a6 : A6) (a7 : A7) (a8 : A8) (a9 : A9) (a10 : A10) (a11 : A11) (a12 : A12), I a1 a2 a3 a4 a5 a6 a7 a8 a9 a10 a11 a12 → μ a1 a2 a3 a4 a5 a6 a7 a8 a9 a10 a11 a12 < n → lw12 B n a1 a2 a3 a4 a5 a6 a7 a8 a9 a10 a11 a12 := by
    intro n
    induction n with
    | zero => intro a1 a2 a3 a4 a5 a6 a7 a8 a9 a10 a11 a12 _ q; exact absurd q (Nat.not_lt_zero _)
    | succ n ih => intro a1 a2 a3 a4 a5 a6 a7 a8 a9 a10 a11 a12 hi hm; exact h a1 a2 a3 a4 a5 a6 a7 a8 a9 a10 a11 a12 hi (lw12 B n) (fun b1 b2 b3 b4 b5 b6 b7 b8 b9 b10 b11 b12 q1 q2 => ih b1 b2 b3 b4 b5 b6 b7 b8 b9 b10 b11 b12 q1 (by omega))
  intro a1 a2 a3 a4 a5 a6 a7 a8 a9 a10 a11 a12 hi
  exact ⟨μ a1 a2 a3 a4 a5 a6 a7 a8 a9 a10 a11 a12 + 1, key _ a1 a2 a3 a4 a5 a6 a7 a8 a9 a10 a11 a12 hi (Nat.lt_succ_self _)⟩
def jn12 {A1 A2 A3 A4 A5 A6 A7 A8 A9 A10 A11 A12 : Type} (K : A1 → A2 → A3 → A4 → A5 → A6 → A7 → A8 → A9 → A10 → A11 → A12 → Prop) (B : (A1 → A2 → A3 → A4 → A5 → A6 → A7 → A8 → A9 → A10 → A11 → A12 → Prop) → Prop) : Prop := B K
theorem jn12_walk {A1 A2 A3 A4 A5 A6 A7 A8 A9 A10 A11 A12 : Type} {K : A1 → A2 → A3 → A4 → A5 → A6 → A7 → A8 → A9 → A10 → A11 → A12 → Prop} {B : (A1 → A2 → A3 → A4 → A5 → A6 → A7 → A8 → A9 → A10 → A11 → A12 → Prop) → Prop} {P : Prop} (G : A1 → A2 → A3 → A4 → A5 → A6 → A7 → A8 → A9 → A10 → A11 → A12 → Prop) (hw : jn12 K B) (h1 : ∀ (a1 : A1) (a2 : A2) (a3 : A3) (a4 : A4) (a5 : A5) (a6 : A6) (a7 : A7) (a8 : A8) (a9 : A9) (a10 : A10) (a11 : A11) (a12 : A12), K a1 a2 a3 a4 a5 a6 a7 a8 a9 a10 a11 a12 → G a1 a2 a3 a4 a5 a6 a7 a8 a9 a10 a11 a12) (h2 : ∀ k : A1 → A2 → A3 → A4 → A5 → A6 → A7 → A8 → A9 → A10 → A11 → A12 → Prop, (∀ (a1 : A1) (a2 : A2) (a3 : A3) (a4 : A4) (a5 : A5) (a6 : A6) (a7 : A7) (a8 : A8) (a9 : A9) (a10 : A10) (a11 : A11) (a12 : A12), k a1 a2 a3 a4 a5 a6 a7 a8 a9 a10 a11 a12 → G a1 a2 a3 a4 a5 a6 a7 a8 a9 a10 a11 a12) → B k → P) : P := h2 K h1 hw
theorem jn12_rule {A1 A2 A3 A4 A5 A6 A7 A8 A9 A10 A11 A12 : Type} {K : A1 → A2 → A3 → A4 → A5 → A6 → A7 → A8 → A9 → A10 → A11 → A12 → Prop} {B : (A1 → A2 → A3 → A4 → A5 → A6 → A7 → A8 → A9 → A10 → A11 → A12 → Prop) → Prop} (J : A1 → A2 → A3 → A4 → A5 → A6 → A7 → A8 → A9 → A10 → A11 → A12 → Prop) (h1 : ∀ (a1 : A1) (a2 : A2) (a3 : A3) (a4 : A4) (a5 : A5) (a6 : A6) (a7 : A7) (a8 : A8) (a9 : A9) (a10 : A10) (a11 : A11) (a12 : A12), J a1 a2 a3 a4 a5 a6 a7 a8 a9 a10 a11 a12 → K a1 a2 a3 a4 a5 a6 a7 a8 a9 a10 a11 a12) (h2 : ∀ k : A1 → A2 → A3 → A4 → A5 → A6 → A7 → A8 → A9 → A10 → A11 → A12 → Prop, (∀ (a1 : A1) (a2 : A2) (a3 : A3) (a4 : A4) (a5 : A5) (a6 : A6) (a7 : A7) (a8 : A8) (a9 : A9) (a10 : A10) (a11 : A11) (a12 : A12), J a1 a2 a3 a4 a5 a6 a7 a8 a9 a10 a11 a12 → k a1 a2 a3 a4 a5 a6 a7 a8 a9 a10 a11 a12) → B k) : jn12 K B := h2 K h1
def lw13 {A1 A2 A3 A4 A5 A6 A7 A8 A9 A10 A11 A12 A13 : Type} (B : A1 → A2 → A3 → A4 → A5 → A6 → A7 → A8 → A9 → A10 → A11 → A12 → A13 → (A1 → A2 → A3 → A4 → A5 → A6 → A7 → A8 → A9 → A10 → A11 → A12 → A13 → Prop) → Prop) : Nat → A1 → A2 → A3 → A4 → A5 → A6 → A7 → A8 → A9 → A10 → A11 → A12 → A13 → Prop
  | 0, _, _, _, _, _, _, _, _, _, _, _, _, _ => False
  | n + 1, a1, a2, a3, a4, a5, a6, a7, a8, a9, a10, a11, a12, a13 => B a1 a2 a3 a4 a5 a6 a7 a8 a9 a10 a11 a12 a13 (lw13 B n)
def lq13 {A1 A2 A3 A4 A5 A6 A7 A8 A9 A10 A11 A12 A13 : Type} (B : A1 → A2 → A3 → A4 → A5 → A6 → A7 → A8 → A9 → A10 → A11 → A12 → A13 → (A1 → A2 → A3 → A4 → A5 → A6 → A7 → A8 → A9 → A10 → A11 → A12 → A13 → Prop) → Prop) (a1 : A1) (a2 : A2) (a3 : A3) (a4 : A4) (a5 : A5) (a6 : A6) (a7 : A7) (a8 : A8) (a9 : A9) (a10 : A10) (a11 : A11) (a12 : A12) (a13 : A13) : Prop := ∃ n, lw13 B n a1 a2 a3 a4 a5 a6 a7 a8 a9 a10 a11 a12 a13
theorem lq13_walk {A1 A2 A3 A4 A5 A6 A7 A8 A9 A10 A11 A12 A13 : Type} {B : A1 → A2 → A3 → A4 → A5 → A6 → A7 → A8 → A9 → A10 → A11 → A12 → A13 → (A1 → A2 → A3 → A4 → A5 → A6 → A7 → A8 → A9 → A10 → A11 → A12 → A13 → Prop) → Prop} (G : A1 → A2 → A3 → A4 → A5 → A6 → A7 → A8 → A9 → A10 → A11 → A12 → A13 → Prop) (h : ∀ k : A1 → A2 → A3 → A4 → A5 → A6 → A7 → A8 → A9 → A10 → A11 → A12 → A13 → Prop, (∀ (a1 : A1) (a2 : A2) (a3 : A3) (a4 : A4) (a5 : A5) (a6 : A6) (a7 : A7) (a8 : A8) (a9 : A9) (a10 : A10) (a11 : A11) (a12 : A12) (a13 : A13), k a1 a2 a3 a4 a5 a6 a7 a8 a9 a10 a11 a12 a13 → G a1 a2 a3 a4 a5 a6 a7 a8 a9 a10 a11 a12 a13) → ∀ (a1 : A1) (a2 : A2) (a3 : A3) (a4 : A4) (a5 : A5) (a6 : A6) (a7 : A7) (a8 : A8) (a9 : A9) (a10 : A10) (a11 : A11) (a12 : A12) (a13 : A13), B a1 a2 a3 a4 a5 a6 a7 a8 a9 a10 a11 a12 a13 k → G a1 a2 a3 a4 a5 a6 a7 a8 a9 a10 a11 a12 a13) : ∀ (a1 : A1) (a2 : A2) (a3 : A3) (a4 : A4) (a5 : A5) (a6 : A6) (a7 : A7) (a8 : A8) (a9 : A9) (a10 : A10) (a11 : A11) (a12 : A12) (a13 : A13), lq13 B a1 a2 a3 a4 a5 a6 a7 a8 a9 a10 a11 a12 a13 → G a1 a2 a3 a4 a5 a6 a7 a8 a9 a10 a11 a12 a13 := by
  intro a1 a2 a3 a4 a5 a6 a7 a8 a9 a10 a11 a12 a13 ⟨n, hn⟩
  induction n generalizing a1 a2 a3 a4 a5 a6 a7 a8 a9 a10 a11 a12 a13 with
  | zero => exact hn.elim
  | succ n ih => exact h (lw13 B n) (fun a1 a2 a3 a4 a5 a6 a7 a8 a9 a10 a11 a12 a13 q => ih a1 a2 a3 a4 a5 a6 a7 a8 a9 a10 a11 a12 a13 q) a1 a2 a3 a4 a5 a6 a7 a8 a9 a10 a11 a12 a13 hn
theorem lq13_rule {A1 A2 A3 A4 A5 A6 A7 A8 A9 A10 A11 A12 A13 : Type} {B : A1 → A2 → A3 → A4 → A5 → A6 → A7 → A8 → A9 → A10 → A11 → A12 → A13 → (A1 → A2 → A3 → A4 → A5 → A6 → A7 → A8 → A9 → A10 → A11 → A12 → A13 → Prop) → Prop} (I : A1 → A2 → A3 → A4 → A5 → A6 → A7 → A8 → A9 → A10 → A11 → A12 → A13 → Prop) (μ : A1 → A2 → A3 → A4 → A5 → A6 → A7 → A8 → A9 → A10 → A11 → A12 → A13 → Nat) (h : ∀ (a1 : A1) (a2 : A2) (a3 : A3) (a4 : A4) (a5 : A5) (a6 : A6) (a7 : A7) (a8 : A8) (a9 : A9) (a10 : A10) (a11 : A11) (a12 : A12) (a13 : A13), I a1 a2 a3 a4 a5 a6 a7 a8 a9 a10 a11 a12 a13 → ∀ k : A1 → A2 → A3 → A4 → A5 → A6 → A7 → A8 → A9 → A10 → A11 → A12 → A13 → Prop, (∀ (b1 : A1) (b2 : A2) (b3 : A3) (b4 : A4) (b5 : A5) (b6 : A6) (b7 : A7) (b8 : A8) (b9 : A9) (b10 : A10) (b11 : A11) (b12 : A12) (b13 : A13), I b1 b2 b3 b4 b5 b6 b7 b8 b9 b10 b11 b12 b13 → μ b1 b2 b3 b4 b5 b6 b7 b8 b9 b10 b11 b12 b13 < μ a1 a2 a3 a4 a5 a6 a7 a8 a9 a10 a11 a12 a13 → k b1 b2 b3 b4 b5 b6 b7 b8 b9 b10 b11 b12 b13) → B a1 a2 a3 a4 a5 a6 a7 a8 a9 a10 a11 a12 a13 k) : ∀ (a1 : A1) (a2 : A2) (a3 : A3) (a4 : A4) (a5 : A5) (a6 : A6) (a7 : A7) (a8 : A8) (a9 : A9) (a10 : A10) (a11 : A11) (a12 : A12) (a13 : A13), I a1 a2 a3 a4 a5 a6 a7 a8 a9 a10 a11 a12 a13 → lq13 B a1 a2 a3 a4 a5 a6 a7 a8 a9 a10 a11 a12 a13 := by
  have key : ∀ (n : Nat) (a1 : A1) (a2 : A2) (a3 : A3) (a4 : A4) (a5 : A5) (a6 : A6) (a7 : A7) (a8 : A8) (a9 : A9) (a10 : A10) (a11 : A11) (a12 : A12) (a13 : A13), I a1 a2 a3 a4 a5 a6 a7 a8 a9 a10 a11 a12 a13 → μ a1 a2 a3 a4 a5 a6 a7 a8 a9 a10 a11 a12 a13 < n → lw13 B n a1 a2 a3 a4 a5 a6 a7 a8 a9 a10 a11 a12 a13 := by
    intro n
    induction n with
    | zero => intro a1 a2 a3 a4 a5 a6 a7 a8 a9 a10 a11 a12 a13 _ q; exact absurd q (Nat.not_lt_zero _)
    | succ n ih => intro a1 a2 a3 a4 a5 a6 a7 a8 a9 a10 a11 a12 a13 hi hm; exact h a1 a2 a3 a4 a5 a6 a7 a8 a9 a10 a11 a12 a13 hi (lw13 B n) (fun b1 b2 b3 b4 b5 b6 b7 b8 b9 b10 b11 b12 b13 q1 q2 => ih b1 b2 b3 b4 b5 b6 b7 b8 b9 b10 b11 b12 b13 q1 (by omega))
  intro a1 a2 a3 a4 a5 a6 a7 a8 a9 a10 a11 a12 a13 hi
  exact ⟨μ a1 a2 a3 a4 a5 a6 a7 a8 a9 a10 a11 a12 a13 + 1, key _ a1 a2 a3 a4 a5 a6 a7 a8 a9 a10 a11 a12 a13 hi (Nat.lt_succ_self _)⟩
def jn13 {A1 A2 A3 A4 A5 A6 A7 A8 A9 A10 A11 A12 A13 : Type} (K : A1 → A2 → A3 → A4 → A5 → A6 → A7 → A8 → A9 → A10 → A11 → A12 → A13 → Prop) (B : (A1 → A2 → A3 → A4 → A5 → A6 → A7 → A8 → A9 → A10 → A11 → A12 → A13 → Prop) → Prop) : Prop := B K
theorem jn13_walk {A1 A2 A3 A4 A5 A6 A7 A8 A9 A10 A11 A12 A13 : Type} {K : A1 → A2 → A3 → A4 → A5 → A6 → A7 → A8 → A9 → A10 → A11 → A12 → A13 → Prop} {B : (A1 → A2 → A3 → A4 → A5 → A6 → A7 → A8 → A9 → A10 → A11 → A12 → A13 → Prop) → Prop} {P : Prop} (G : A1 → A2 → A3 → A4 → A5 → A6 → A7 → A8 → A9 → A10 → A11 → A12 → A13 → Prop) (hw : jn13 K B) (h1 : ∀ (a1 : A1) (a2 : A2) (a3 : A3) (a4 : A4) (a5 : A5) (a6 : A6) (a7 : A7) (a8 : A8) (a9 : A9) (a10 : A10) (a11 : A11) (a12 : A12) (a13 : A13), K a1 a2 a3 a4 a5 a6 a7 a8 a9 a10 a11 a12 a13 → G a1 a2 a3 a4 a5 a6 a7 a8 a9 a10 a11 a12 a13) (h2 : ∀ k : A1 → A2 → A3 → A4 → A5 → A6 → A7 → A8 → A9 → A10 → A11 → A12 → A13 → Prop, (∀ (a1 : A1) (a2 : A2) (a3 : A3) (a4 : A4) (a5 : A5) (a6 : A6) (a7 : A7) (a8 : A8) (a9 : A9) (a10 : A10) (a11 : A11) (a12 : A12) (a13 : A13), k a1 a2 a3 a4 a5 a6 a7 a8 a9 a10 a11 a12 a13 → G a1 a2 a3 a4 a5 a6 a7 a8 a9 a10 a11 a12 a13) → B k → P) : P := h2 K h1 hw
theorem jn13_rule {A1 A2 A3 A4 A5 A6 A7 A8 A9 A10 A11 A12 A13 : Type} {K : A1 → A2 → A3 → A4 → A5 → A6 → A7 → A8 → A9 → A10 → A11 → A12 → A13 → Prop} {B : (A1 → A2 → A3 → A4 → A5 → A6 → A7 → A8 → A9 → A10 → A11 → A12 → A13 → Prop) → Prop} (J : A1 → A2 → A3 → A4 → A5 → A6 → A7 → A8 → A9 → A10 → A11 → A12 → A13 → Prop) (h1 : ∀ (a1 : A1) (a2 : A2) (a3 : A3) (a4 : A4) (a5 : A5) (a6 : A6) (a7 : A7) (a8 : A8) (a9 : A9) (a10 : A10) (a11 : A11) (a12 : A12) (a13 : A13), J a1 a2 a3 a4 a5 a6 a7 a8 a9 a10 a11 a12 a13 → K a1 a2 a3 a4 a5 a6 a7 a8 a9 a10 a11 a12 a13) (h2 : ∀ k : A1 → A2 → A3 → A4 → A5 → A6 → A7 → A8 → A9 → A10 → A11 → A12 → A13 → Prop, (∀ (a1 : A1) (a2 : A2) (a3 : A3) (a4 : A4) (a5 : A5) (a6 : A6) (a7 : A7) (a8 : A8) (a9 : A9) (a10 : A10) (a11 : A11) (a12 : A12) (a13 : A13), J a1 a2 a3 a4 a5 a6 a7 a8 a9 a10 a11 a12 a13 → k a1 a2 a3 a4 a5 a6 a7 a8 a9 a10 a11 a12 a13) → B k) : jn13 K B := h2 K h1
def lw14 {A1 A2 A3 A4 A5 A6 A7 A8 A9 A10 A11 A12 A13 A14 : Type} (B : A1 → A2 → A3 → A4 → A5 → A6 → A7 → A8 → A9 → A10 → A11 → A12 → A13 → A14 → (A1 → A2 → A3 → A4 → A5 → A6 → A7 → A8 → A9 → A10 → A11 → A12 → A13 → A14 → Prop) → Prop) : Nat → A1 → A2 → A3 → A4 → A5 → A6 → A7 → A8 → A9 → A10 → A11 → A12 → A13 → A14 → Prop
  | 0, _, _, _, _, _, _, _, _, _, _, _, _, _, _ => False
  | n + 1, a1, a2, a3, a4, a5, a6, a7, a8, a9, a10, a11, a12, a13, a14 => B a1 a2 a3 a4 a5 a6 a7 a8 a9 a10 a11 a12 a13 a14 (lw14 B n)
def lq14 {A1 A2 A3 A4 A5 A6 A7 A8 A9 A10 A11 A12 A13 A14 : Type} (B : A1 → A2 → A3 → A4 → A5 → A6 → A7 → A8 → A9 → A10 → A11 → A12 → A13 → A14 → (A1 → A2 → A3 → A4 → A5 → A6 → A7 → A8 → A9 → A10 → A11 → A12 → A13 → A14 → Prop) → Prop) (a1 : A1) (a2 : A2) (a3 : A3) (a4 : A4) (a5 : A5) (a6 : A6) (a7 : A7) (a8 : A8) (a9 : A9) (a10 : A10) (a11 : A11) (a12 : A12) (a13 : A13) (a14 : A14) : Prop := ∃ n, lw14 B n a1 a2 a3 a4 a5 a6 a7 a8 a9 a10 a11 a12 a13 a14
theorem lq14_walk {A1 A2 A3 A4 A5 A6 A7 A8 A9 A10 A11 A12 A13 A14 : Type} {B : A1 → A2 → A3 → A4 → A5 → A6 → A7 → A8 → A9 → A10 → A11 → A12 → A13 → A14 → (A1 → A2 → A3 → A4 → A5 → A6 → A7 → A8 → A9 → A10 → A11 → A12 → A13 → A14 → Prop) → Prop} (G : A1 → A2 → A3 → A4 → A5 → A6 → A7 → A8 → A9 → A10 → A11 → A12 → A13 → A14 → Prop) (h : ∀ k : A1 → A2 → A3 → A4 → A5 → A6 → A7 → A8 → A9 → A10 → A11 → A12 → A13 → A14 → Prop, (∀ (a1 : A1) (a2 : A2) (a3 : A3) (a4 : A4) (a5 : A5) (a6 : A6) (a7 : A7) (a8 : A8) (a9 : A9) (a10 : A10) (a11 : A11) (a12 : A12) (a13 : A13) (a14 : A14), k a1 a2 a3 a4 a5 a6 a7 a8 a9 a10 a11 a12 a13 a14 → G a1 a2 a3 a4 a5 a6 a7 a8 a9 a10 a11 a12 a13 a14) → ∀ (a1 : A1) (a2 : A2) (a3 : A3) (a4 : A4) (a5 : A5) (a6 : A6) (a7 : A7) (a8 : A8) (a9 : A9) (a10 : A10) (a11 : A11) (a12 : A12) (a13 : A13) (a14 : A14), B a1 a2 a3 a4 a5 a6 a7 a8 a9 a10 a11 a12 a13 a14 k → G a1 a2 a3 a4 a5 a6 a7 a8 a9 a10 a11 a12 a13 a14) : ∀ (a1 : A1) (a2 : A2) (a3 : A3) (a4 : A4) (a5 : A5) (a6 : A6) (a7 : A7) (a8 : A8) (a9 : A9) (a10 : A10) (a11 : A11) (a12 : A12) (a13 : A13) (a14 : A14), lq14 B a1 a2 a3 a4 a5 a6 a7 a8 a9 a10 a11 a12 a13 a14 → G a1 a2 a3 a4 a5 a6 a7 a8 a9 a10 a11 a12 a13 a14 := by
  intro a1 a2 a3 a4 a5 a6 a7 a8 a9 a10 a11 a12 a13 a14 ⟨n, hn⟩
  induction n generalizing a1 a2 a3 a4 a5 a6 a7 a8 a9 a10 a11 a12 a13 a14 with
  | zero => exact hn.elim
  | succ n ih => exact h (lw14 B n) (fun a1 a2 a3 a4 a5 a6 a7 a8 a9 a10 a11 a12 a13 a14 q => ih a1 a2 a3 a4 a5 a6 a7 a8 a9 a10 a11 a12 a13 a14 q) a1 a2 a3 a4 a5 a6 a7 a8 a9 a10 a11 a12 a13 a14 hn
theorem lq14_rule {A1 A2 A3 A4 A5 A6 A7 A8 A9 A10 A11 A12 A13 A14 : Type} {B : A1 → A2 → A3 → A4 → A5 → A6 → A7 → A8 → A9 → A10 → A11 → A12 → A13 → A14 → (A1 → A2 → A3 → A4 → A5 → A6 → A7 → A8 → A9 → A10 → A11 → A12 → A13 → A14 → Prop) → Prop} (I : A1 → A2 → A3 → A4 → A5 → A6 → A7 → A8 → A9 → A10 → A11 → A12 → A13 → A14 → Prop) (μ : A1 → A2 → A3 → A4 → A5 → A6 → A7 → A8 → A9 → A10 → A11 → A12 → A13 → A14 → Nat) (h : ∀ (a1 : A1) (a2 : A2) (a3 : A3) (a4 : A4) (a5 : A5) (a6 : A6) (a7 : A7) (a8 : A8) (a9 : A9) (a10 : A10) (a11 : A11) (a12 : A12) (a13 : A13) (a14 : A14), I a1 a2 a3 a4 a5 a6 a7 a8 a9 a10 a11 a12 a13 a14 → ∀ k : A1 → A2 → A3 → A4 → A5 → A6 → A7 → A8 → A9 → A10 → A11 → A12 → A13 → A14 → Prop, (∀ (b1 : A1) (b2 : A2) (b3 : A3) (b4 : A4) (b5 : A5) (b6 : A6) (b7 : A7) (b8 : A8) (b9 : A9) (b10 : A10) (b11 : A11) (b12 : A12) (b13 : A13) (b14 : A14), I b1 b2 b3 b4 b5 b6 b7 b8 b9 b10 b11 b12 b13 b14 → μ b1 b2 b3 b4 b5 b6 b7 b8 b9 b10 b11 b12 b13 b14 < μ a1 a2 a3 a4 a5 a6 a7 a8 a9 a10 a11 a12 a13 a14 → k b1 b2 b3 b4 b5 b6 b7 b8 b9 b10 b11 b12 b13 b14) → B a1 a2 a3 a4 a5 a6 a7 a8 a9 a10 a11 a12 a13 a14 k) : ∀ (a1 : A1) (a2 : A2) (a3 : A3) (a4 : A4) (a5 : A5) (a6 : A6) (a7 : A7) (a8 : A8) (a9 : A9) (a10 : A10) (a11 : A11) (a12 : A12) (a13 : A13) (a14 : A14), I a1 a2 a3 a4 a5 a6 a7 a8 a9 a10 a11 a12 a13 a14 → lq14 B a1 a2 a3 a4 a5 a6 a7 a8 a9 a10 a11 a12 a13 a14 := by
  have key : ∀ (n : Nat) (a1 : A1) (a2 : A2) (a3 : A3) (a4 : A4) (a5 : A5) (a6 : A6) (a7 : A7) (a8 : A8) (a9 : A9) (a10 : A10) (a11 : A11) (a12 : A12) (a13 : A13) (a14 : A14), I a1 a2 a3 a4 a5 a6 a7 a8 a9 a10 a11 a12 a13 a14 → μ a1 a2 a3 a4 a5 a6 a7 a8 a9 a10 a11 a12 a13 a14 < n → lw14 B n a1 a2 a3 a4 a5 a6 a7 a8 a9 a10 a11 a12 a13 a14 := by
    intro n
    induction n with
    | zero => intro a1 a2 a3 a4 a5 a6 a7 a8 a9 a10 a11 a12 a13 a14 _ q; exact absurd q (Nat.not_lt_zero _)
    | succ n ih => intro a1 a2 a3 a4 a5 a6 a7 a8 a9 a10 a11 a12 a13 a14 hi hm; exact h a1 a2 a3 a4 a5 a6 a7 a8 a9 a10 a11 a12 a13 a14 hi (lw14 B n) (fun b1 b2 b3 b4 b5 b6 b7 b8 b9 b10 b11 b12 b13 b14 q1 q2 => ih b1 b2 b3 b4 b5 b6 b7 b8 b9 b10 b11 b12 b13 b14 q1 (by omega))
  intro a1 a2 a3 a4 a5 a6 a7 a8 a9 a10 a11 a12 a13 a14 hi
  exact ⟨μ a1 a2 a3 a4 a5 a6 a7 a8 a9 a10 a11 a12 a13 a14 + 1, key _ a1 a2 a3 a4 a5 a6 a7 a8 a9 a10 a11 a12 a13 a14 hi (Nat.lt_succ_self _)⟩
def jn14 {A1 A2 A3 A4 A5 A6 A7 A8 A9 A10 A11 A12 A13 A14 : Type} (K : A1 → A2 → A3 → A4 → A5 → A6 → A7 → A8 → A9 → A10 → A11 → A12 → A13 → A14 → Prop) (B : (A1 → A2 → A3 → A4 → A5 → A6 → A7 → A8 → A9 → A10 → A11 → A12 → A13 → A14 → Prop) → Prop) : Prop := B K
theorem jn14_walk {A1 A2 A3 A4 A5 A6 A7 A8 A9 A10 A11 A12 A13 A14 : Type} {K : A1 → A2 → A3 → A4 → A5 → A6 → A7 → A8 → A9 → A10 → A11 → A12 → A13 → A14 → Prop} {B : (A1 → A2 → A3 → A4 → A5 → A6 → A7 → A8 → A9 → A10 → A11 → A12 → A13 → A14 → Prop) → Prop} {P : Prop} (G : A1 → A2 → A3 → A4 → A5 → A6 → A7 → A8 → A9 → A10 → A11 → A12 → A13 → A14 → Prop) (hw : jn14 K B) (h1 : ∀ (a1 : A1) (a2 : A2) (a3 : A3) (a4 : A4) (a5 : A5) (a6 : A6) (a7 : A7) (a8 : A8) (a9 : A9) (a10 : A10) (a11 : A11) (a12 : A12) (a13 : A13) (a14 : A14), K a1 a2 a3 a4 a5 a6 a7 a8 a9 a10 a11 a12 a13 a14 → G a1 a2 a3 a4 a5 a6 a7 a8 a9 a10 a11 a12 a13 a14) (h2 : ∀ k : A1 → A2 → A3 → A4 → A5 → A6 → A7 → A8 → A9 → A10 → A11 → A12 → A13 → A14 → Prop, (∀ (a1 : A1) (a2 : A2) (a3 : A3) (a4 : A4) (a5 : A5) (a6 : A6) (a7 : A7) (a8 : A8) (a9 : A9) (a10 : A10) (a11 : A11) (a12 : A12) (a13 : A13) (a14 : A14), k a1 a2 a3 a4 a5 a6 a7 a8 a9 a10 a11 a12 a13 a14 → G a1 a2 a3 a4 a5 a6 a7 a8 a9 a10 a11 a12 a13 a14) → B k → P) : P := h2 K h1 hw
theorem jn14_rule {A1 A2 A3 A4 A5 A6 A7 A8 A9 A10 A11 A12 A13 A14 : Type} {K : A1 → A2 → A3 → A4 → A5 → A6 → A7 → A8 → A9 → A10 → A11 → A12 → A13 → A14 → Prop} {B : (A1 → A2 → A3 → A4 → A5 → A6 → A7 → A8 → A9 → A10 → A11 → A12 → A13 → A14 → Prop) → Prop} (J : A1 → A2 → A3 → A4 → A5 → A6 → A7 → A8 → A9 → A10 → A11 → A12 → A13 → A14 → Prop) (h1 : ∀ (a1 : A1) (a2 : A2) (a3 : A3) (a4 : A4) (a5 : A5) (a6 : A6) (a7 : A7) (a8 : A8) (a9 : A9) (a10 : A10) (a11 : A11) (a12 : A12) (a13 : A13) (a14 : A14), J a1 a2 a3 a4 a5 a6 a7 a8 a9 a10 a11 a12 a13 a14 → K a1 a2 a3 a4 a5 a6 a7 a8 a9 a10 a11 a12 a13 a14) (h2 : ∀ k : A1 → A2 → A3 → A4 → A5 → A6 → A7 → A8 → A9 → A10 → A11 → A12 → A13 → A14 → Prop, (∀ (a1 : A1) (a2 : A2) (a3 : A3) (a4 : A4) (a5 : A5) (a6 : A6) (a7 : A7) (a8 : A8) (a9 : A9) (a10 : A10) (a11 : A11) (a12 : A12) (a13 : A13) (a14 : A14), J a1 a2 a3 a4 a5 a6 a7 a8 a9 a10 a11 a12 a13 a14 → k a1 a2 a3 a4 a5 a6 a7 a8 a9 a10 a11 a12 a13 a14) → B k) : jn14 K B := h2 K h1
/-- compares: the range of both sides, and the two ways on -/
def cEq (x y : Int) (T N : Prop) : Prop := inR x ∧ inR y ∧ (x = y → T) ∧ (¬ x = y → N)
def cLt (x y : Int) (T N : Prop) : Prop := inR x ∧ inR y ∧ (x < y → T) ∧ (¬ x < y → N)
def cIf (c : Prop) (T N : Prop) : Prop := (c → T) ∧ (¬ c → N)
/-- a bounded index -/
abbrev ib (i : Int) (n : Int) : Prop := 0 ≤ i ∧ i < n
theorem bI_eq1 {p : Prop} [Decidable p] : bI p = 1 ↔ p := by unfold bI; by_cases h : p <;> simp [h]
theorem bI_eq0 {p : Prop} [Decidable p] : bI p = 0 ↔ ¬ p := by unfold bI; by_cases h : p <;> simp [h]
theorem bI_in {p : Prop} [Decidable p] : inR (bI p) := by unfold bI; by_cases h : p <;> simp only [h, if_true, if_false] <;> decide
theorem bI_bl {p : Prop} [Decidable p] : bl (bI p) := by unfold bI; by_cases h : p <;> simp only [h, if_true, if_false] <;> decide

/-! the reference: one object and its int arrays -/
def mIs (k : Nat) : Bool := decide (k < 14) || (decide (21 ≤ k) && decide (k < 27)) || decide (k = 32)
def mArrs : List Nat := [0, 1, 2, 3, 4, 5, 6, 7, 8, 9, 10, 11, 12, 13, 21, 22, 23, 24, 25, 26, 32]
def mlen (k : Nat) : Nat := match k with
  | 0 => 354
  | 1 => 354
  | 2 => 354
  | 3 => 2832
  | 4 => 30
  | 5 => 30
  | 6 => 900
  | 7 => 30
  | 8 => 30
  | 9 => 30
  | 10 => 30
  | 11 => 192
  | 12 => 192
  | 13 => 15
  | 21 => 192
  | 22 => 192
  | 23 => 70
  | 24 => 5
  | 25 => 48
  | 26 => 32
  | _ => 40
theorem mlen_lt (k : Nat) : mlen k < 2147483648 := by
  unfold mlen
  split <;> decide
theorem mIs_mem {k : Nat} (h : mIs k = true) : k ∈ mArrs := by
  simp only [mIs, Bool.or_eq_true, Bool.and_eq_true, decide_eq_true_eq] at h
  simp only [mArrs, List.mem_cons, List.not_mem_nil, or_false]
  omega
abbrev mF : Type := Nat → Int
abbrev mA : Type := Nat → Int → Int
def uF (F : mF) (k : Nat) (x : Int) : mF := fun j => if j = k then x else F j
def uA (A : mA) (k : Nat) (i x : Int) : mA := fun k2 i2 => if k2 = k ∧ i2 = i then x else A k2 i2
/-- launch, tables, the class of int arrays, the place of the reference's class, the object, its arrays -/
abbrev MT : Type := Launch × va_G × List vw_C × List (ClassId × FieldType) × ClassId × Nat × Nat × (Nat → Nat)
def oM (M : MT) : Nat := M.2.2.2.2.2.2.1
def adM (M : MT) : Nat → Nat := M.2.2.2.2.2.2.2
def cIM (M : MT) : ClassId := M.2.2.2.2.1
def ciM (M : MT) : Nat := M.2.2.2.2.2.1
def mval (M : MT) (F : mF) (k : Nat) : Value := if mIs k then .ref (adM M k) else .int (iI (F k))
def mfs (M : MT) (F : mF) : List Value := (List.range 34).map (mval M F)
def marr (M : MT) (A : mA) (k : Nat) : Nat × va_E := (adM M k, .inl (cIM M, mlen k, .inl (fun j => iI (A k j))))
def wsM (M : MT) (F : mF) (A : mA) : va_W := (oM M, .inr (ciM M, mfs M F)) :: mArrs.map (marr M A)
def OkM (M : MT) : Prop := M.2.2.1[ciM M]? = some (RX4, TX4, 34) ∧ M.2.2.2.1[0]? = some (cIM M, .int)
def TM (E : GE) (M : MT) : Prop := TbE E M.1 M.2.1 M.2.2.1 M.2.2.2.1
theorem mfs_get (M : MT) (F : mF) {k : Nat} (h : k < 34) : (mfs M F)[k]? = some (mval M F k) := by
  unfold mfs
  rw [List.getElem?_map, List.getElem?_range h]
  rfl
theorem mfs_set (M : MT) (F : mF) {k : Nat} (h : mIs k = false) (x : Int) : (mfs M F).set k (.int (iI x)) = mfs M (uF F k x) := by
  unfold mfs
  apply List.ext_getElem?
  intro j
  by_cases hj : j = k
  · subst hj
    by_cases hk : j < 34
    · rw [List.getElem?_set_self (by simpa using hk), List.getElem?_map, List.getElem?_range hk]
      simp [mval, h, uF]
    · rw [List.getElem?_eq_none (by simpa using hk), List.getElem?_eq_none (by simpa using hk)]
  · rw [List.getElem?_set_ne (Ne.symm hj), List.getElem?_map, List.getElem?_map]
    by_cases hk : j < 34
    · rw [List.getElem?_range hk]
      simp [mval, uF, hj]
    · rw [List.getElem?_eq_none (by simpa using hk)]
      rfl
theorem wsM_arr (M : MT) (F : mF) (A : mA) {k : Nat} (h : mIs k = true) : ∃ q : Nat, (wsM M F A)[q]? = some (marr M A k) ∧ ∀ (i x : Int), 0 ≤ i → i < 2147483648 → (wsM M F A).set q (adM M k, .inl (cIM M, mlen k, .inl (upd (fun j => iI (A k j)) i.toNat (iI x)))) = wsM M F (uA A k i x) := by
  obtain ⟨q, hq⟩ := List.getElem?_of_mem (mIs_mem h)
  have hnd : ∀ j, mArrs[j]? = some k → j = q := by
    intro j hj
    have hlt := (List.getElem?_eq_some_iff.mp hj).1
    have hlq := (List.getElem?_eq_some_iff.mp hq).1
    exact (List.getElem?_inj hlt (by decide)).mp (hj.trans hq.symm)
  refine ⟨q + 1, ?_, fun i x h0 h1 => ?_⟩
  · show ((oM M, _) :: mArrs.map (marr M A))[q + 1]? = _
    rw [List.getElem?_cons_succ, List.getElem?_map, hq]
    rfl
  · show ((oM M, _) :: mArrs.map (marr M A)).set (q + 1) _ = (oM M, _) :: mArrs.map (marr M (uA A k i x))
    rw [List.set_cons_succ]
    congr 1
    apply List.ext_getElem?
    intro j
    by_cases hj : j = q
    · subst hj
      have hlq := (List.getElem?_eq_some_iff.mp hq).1
      rw [List.getElem?_set_self (by simpa using hlq), List.getElem?_map, hq]
      show some _ = some (marr M (uA A k i x) k)
      unfold marr
      show _ = some (adM M k, Sum.inl (cIM M, mlen k, Sum.inl (fun (j : Nat) => iI (uA A k i x k j))))
      refine congrArg (fun w => some (adM M k, Sum.inl (cIM M, mlen k, Sum.inl w))) (funext fun b => ?_)
      unfold upd uA
      by_cases hb : b = i.toNat
      · have : (b : Int) = i := by omega
        rw [if_pos hb, if_pos ⟨rfl, this⟩]
      · have : ¬ (b : Int) = i := by omega
        simp [hb, this]
    · rw [List.getElem?_set_ne (Ne.symm hj), List.getElem?_map, List.getElem?_map]
      cases hk : mArrs[j]? with
      | none => rfl
      | some k2 =>
        have hne : k2 ≠ k := fun e => hj (hnd j (e ▸ hk))
        simp [marr, uA, hne]

theorem gm_geti {E : GE} {cc : ByteArray} {nL : Nat} {ret : Option FieldType} (hE : OkE E RX4 cc nL ret) {M : MT} (hM : OkM M) (hT : TM E M) {F : mF} {A : mA} {z : Option Nat} {k n pc : Nat} {lv : List LV} {st : List AV} {idx : Nat} (f : Nat) (hf : f < 34) (hi : mIs f = false) (hq : Cond.fieldLink RX4 idx (TX4 f).1 (TX4 f).2.1 (TX4 f).2.2.1 ∈ lw_all) (d : decode cc pc = .ok (.getfield idx, 3)) (h : G E (wsM M F A) z k n (pc + 3) lv (aI (F f) :: st)) : G E (wsM M F A) z k n pc lv (aR (some (oM M)) :: st) := by
  obtain ⟨p, l, e, R, s, m, args, below, meth, c, A0, Q, D, cl, tys⟩ := E
  obtain ⟨hx, hb, hml, hown, hts, hr, hlk, hK, hA⟩ := hE
  obtain ⟨rfl, rfl, rfl, rfl⟩ := hT
  obtain ⟨hc, ht⟩ := hM
  intro H locs ls hz hP hD hS hl
  have e : mval M F f = .int (iI (F f)) := by simp [mval, hi]
  exact va_get (ci := ciM M) (v := .int (iI (F f))) (C := RX4) (T := TX4) (N := 34) hx hb hts in_X4 hown hK hP 0 rfl hc f hf (hts _ hq) (fun _ h9 => h9) (by rw [← e]; exact mfs_get M F hf) d (h H locs ls hz hP hD hS hl)
theorem gm_geta {E : GE} {cc : ByteArray} {nL : Nat} {ret : Option FieldType} (hE : OkE E RX4 cc nL ret) {M : MT} (hM : OkM M) (hT : TM E M) {F : mF} {A : mA} {z : Option Nat} {k n pc : Nat} {lv : List LV} {st : List AV} {idx : Nat} (f : Nat) (hf : f < 34) (hi : mIs f = true) (hq : Cond.fieldLink RX4 idx (TX4 f).1 (TX4 f).2.1 (TX4 f).2.2.1 ∈ lw_all) (d : decode cc pc = .ok (.getfield idx, 3)) (h : G E (wsM M F A) z k n (pc + 3) lv (aR (some (adM M f)) :: st)) : G E (wsM M F A) z k n pc lv (aR (some (oM M)) :: st) := by
  obtain ⟨p, l, e, R, s, m, args, below, meth, c, A0, Q, D, cl, tys⟩ := E
  obtain ⟨hx, hb, hml, hown, hts, hr, hlk, hK, hA⟩ := hE
  obtain ⟨rfl, rfl, rfl, rfl⟩ := hT
  obtain ⟨hc, ht⟩ := hM
  intro H locs ls hz hP hD hS hl
  have e : mval M F f = .ref (adM M f) := by simp [mval, hi]
  exact va_get (ci := ciM M) (v := .ref (adM M f)) (C := RX4) (T := TX4) (N := 34) hx hb hts in_X4 hown hK hP 0 rfl hc f hf (hts _ hq) (fun _ h9 => h9) (by rw [← e]; exact mfs_get M F hf) d (h H locs ls hz hP hD hS hl)
theorem gm_put {E : GE} {cc : ByteArray} {nL : Nat} {ret : Option FieldType} (hE : OkE E RX4 cc nL ret) {M : MT} (hM : OkM M) (hT : TM E M) {F : mF} {A : mA} {z : Option Nat} {k n pc : Nat} {lv : List LV} {st : List AV} {idx : Nat} {x : Int} (f : Nat) (hf : f < 34) (hi : mIs f = false) (hq : Cond.fieldLink RX4 idx (TX4 f).1 (TX4 f).2.1 (TX4 f).2.2.1 ∈ lw_all) (hfin : (TX4 f).2.2.2 = false) {ty : FieldType} (hd : parseFieldDescriptor (TX4 f).2.2.1 = some ty) (hn : narrow ty (.int (iI x)) = .int (iI x)) (hfit : fits ty (.int (iI x)) = true) (d : decode cc pc = .ok (.putfield idx, 3)) (h : G E (wsM M (uF F f x) A) z k n (pc + 3) lv st) : G E (wsM M F A) z k n pc lv (aI x :: aR (some (oM M)) :: st) := by
  obtain ⟨p, l, e, R, s, m, args, below, meth, c, A0, Q, D, cl, tys⟩ := E
  obtain ⟨hx, hb, hml, hown, hts, hr, hlk, hK, hA⟩ := hE
  obtain ⟨rfl, rfl, rfl, rfl⟩ := hT
  obtain ⟨hc, ht⟩ := hM
  intro H locs ls hz hP hD hS hl
  refine vz_put (ci := ciM M) (v := .int (iI x)) (ty := ty) (C := RX4) (T := TX4) (N := 34) hx hb hts in_X4 tyX4 tyX4_ok nmX4 hown hK hP hD hS (q0 := 0) rfl hc f hf (hts _ hq) (fun _ h9 => h9) hfin hd hn hfit (by simp [mfs]; exact hf) d (fun H1 locs1 hz1 hP1 hD1 hS1 => ?_)
  have e9 : (wsM M F A).set 0 (oM M, .inr (ciM M, (mfs M F).set f (.int (iI x)))) = wsM M (uF F f x) A := by
    rw [mfs_set M F hi x]
    rfl
  rw [e9] at hP1 hD1
  exact h H1 locs1 ls (fun q h => hz1.trans (hz q h)) hP1 hD1 hS1 hl
theorem gm_iald {E : GE} {cc : ByteArray} {nL : Nat} {ret : Option FieldType} (hE : OkE E RX4 cc nL ret) {M : MT} (hM : OkM M) (hT : TM E M) {F : mF} {A : mA} {z : Option Nat} {k n pc : Nat} {lv : List LV} {st : List AV} {i : Int} (f : Nat) (hi : mIs f = true) (hb2 : ib i (mlen f)) (d : decode cc pc = .ok (.iaload, 1)) (h : G E (wsM M F A) z k n (pc + 1) lv (aI (A f i) :: st)) : G E (wsM M F A) z k n pc lv (aI i :: aR (some (adM M f)) :: st) := by
  obtain ⟨p, l, e, R, s, m, args, below, meth, c, A0, Q, D, cl, tys⟩ := E
  obtain ⟨hx, hb, hml, hown, hts, hr, hlk, hK, hA⟩ := hE
  obtain ⟨rfl, rfl, rfl, rfl⟩ := hT
  obtain ⟨hc, ht⟩ := hM
  intro H locs ls hz hP hD hS hl
  obtain ⟨q, hq, -⟩ := wsM_arr M F A hi
  have hl9 := mlen_lt f
  refine va_iald hx hb hK hP q 0 hq ht (iI_in hb2.1 hb2.2 hl9) d ?_
  rw [iI_clamp hb2.1 (by have := hb2.2; omega)]
  have e9 : (((i.toNat : Nat) : Int)) = i := by have := hb2.1; omega
  have e2 : iI (A f ((i.toNat : Nat) : Int)) = iI (A f i) := by rw [e9]
  first | rw [e2] | (dsimp only; rw [e2])
  exact h H locs ls hz hP hD hS hl
theorem gm_iast {E : GE} {cc : ByteArray} {nL : Nat} {ret : Option FieldType} (hE : OkE E RX4 cc nL ret) {M : MT} (hM : OkM M) (hT : TM E M) {F : mF} {A : mA} {z : Option Nat} {k n pc : Nat} {lv : List LV} {st : List AV} {i x : Int} (f : Nat) (hi : mIs f = true) (hb2 : ib i (mlen f)) (d : decode cc pc = .ok (.iastore, 1)) (h : G E (wsM M F (uA A f i x)) z k n (pc + 1) lv st) : G E (wsM M F A) z k n pc lv (aI x :: aI i :: aR (some (adM M f)) :: st) := by
  obtain ⟨p, l, e, R, s, m, args, below, meth, c, A0, Q, D, cl, tys⟩ := E
  obtain ⟨hx, hb, hml, hown, hts, hr, hlk, hK, hA⟩ := hE
  obtain ⟨rfl, rfl, rfl, rfl⟩ := hT
  obtain ⟨hc, ht⟩ := hM
  intro H locs ls hz hP hD hS hl
  obtain ⟨q, hq, hs⟩ := wsM_arr M F A hi
  have hl9 := mlen_lt f
  refine vz_iast hx hb hK hP hD hS (q0 := q) (t0 := 0) hq ht (x := iI x) (iI_in hb2.1 hb2.2 hl9) d (fun H1 locs1 hz1 hP1 hD1 hS1 => ?_)
  rw [iI_clamp hb2.1 (by have := hb2.2; omega), hs i x hb2.1 (by have := hb2.2; omega)] at hP1 hD1
  exact h H1 locs1 ls (fun q h => hz1.trans (hz q h)) hP1 hD1 hS1 hl

