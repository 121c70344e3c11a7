/-! THE SYSTEM's WORLD: contracts, returns, throws, calls -/
set_option maxRecDepth 100000
abbrev xPhi : Type := Option AV → xT → xI → xR → xL → Prop
abbrev xPsi : Type := String → Nat → xT → xI → xR → xL → Prop
/-- what was something stays what it was -/
def tle (T T' : xT) : Prop := ∀ a, xtag T a ≠ 0 → xtag T' a = xtag T a ∧ xlen T' a = xlen T a
theorem tle.rf {T : xT} : tle T T := fun _ _ => ⟨rfl, rfl⟩
theorem tle.tr {T T' T'' : xT} (h : tle T T') (h' : tle T' T'') : tle T T'' := fun a ha => by
  obtain ⟨h1, h2⟩ := h a ha
  obtain ⟨h3, h4⟩ := h' a (by rw [h1]; exact ha)
  exact ⟨h3.trans h1, h4.trans h2⟩
theorem tle.new {T : xT} {q t n : Nat} (hq : xtag T q = 0) : tle T (xnew T q t n) := fun a ha => by
  have e : a ≠ q := fun e => ha (e ▸ hq)
  exact ⟨if_neg e, if_neg e⟩
def PcX (X : XT) (av : List AV) (T : xT) (I : xI) (R : xR) (L : xL) (z : Nat) : Array Value → State → Prop :=
  va_Pc (av.map toV) (fun U => U.heap.size = z ∧ va_P (dX X) xCl (wsX X T I R L) U.heap ∧ va_K (dX X) xCl (xTy X) U ∧ va_D (fun _ => True) (wsX X T I R L) ∧ bsX X ≤ z ∧ EX X U U.heap)
def QcX (Φ : xPhi) (X : XT) (A : Nat → Prop) : Array Value → State → Outcome → State → Prop := fun _ st oc t =>
  (∃ (r : Option AV) (T' : xT) (I' : xI) (R' : xR) (L' : xL), oc = .returned (RV r) ∧ Φ r T' I' R' L' ∧ xok X T' I' R' L' ∧ va_P (dX X) xCl (wsX X T' I' R' L') t.heap ∧ va_D A (wsX X T' I' R' L')) ∧ va_F A st t
def XcX (Ψ : xPsi) (X : XT) (A : Nat → Prop) : String → Addr → State → State → Prop := fun E q st t =>
  (∃ (T' : xT) (I' : xI) (R' : xR) (L' : xL), Ψ E q T' I' R' L' ∧ xok X T' I' R' L' ∧ va_P (dX X) xCl (wsX X T' I' R' L') t.heap ∧ va_D A (wsX X T' I' R' L')) ∧ va_F A st t
def CtX (X : XT) (y : MethodName) (cc : ByteArray) (nL : Nat) (ret : Option FieldType) (rm : Room) (av : List AV) (T : xT) (I : xI) (R : xR) (L : xL) (Φ : xPhi) : Prop :=
  xok X T I R L → ∀ z, Met (lX X) y (ws_ y cc nL ret) rm (PcX X av T I R L z) (QcX Φ X (va_A (wsX X T I R L) z)) rm.cells rm.slots (va_A (wsX X T I R L) z)
def CtY (X : XT) (y : MethodName) (cc : ByteArray) (nL : Nat) (ret : Option FieldType) (rm : Room) (av : List AV) (T : xT) (I : xI) (R : xR) (L : xL) (Φ : xPhi) (Ψ : xPsi) : Prop :=
  xok X T I R L → ∀ z, vy_Met (lX X) y (ws_ y cc nL ret) rm (PcX X av T I R L z) (QcX Φ X (va_A (wsX X T I R L) z)) (XcX Ψ X (va_A (wsX X T I R L) z)) rm.cells rm.slots (va_A (wsX X T I R L) z)
def CtW (X : XT) (y : MethodName) (cc : ByteArray) (nL : Nat) (ret : Option FieldType) (hh : List (Nat × Nat × Nat × Nat)) (rm : Room) (av : List AV) (T : xT) (I : xI) (R : xR) (L : xL) (Φ : xPhi) : Prop :=
  xok X T I R L → ∀ z, Met (lX X) y (wsW_ y cc nL ret hh) rm (PcX X av T I R L z) (QcX Φ X (va_A (wsX X T I R L) z)) rm.cells rm.slots (va_A (wsX X T I R L) z)
def NmE (E : GE) (nm : String) : Prop := match E with
  | (p, l, e, R, s, m, args, below, meth, c, A, Q, D, cl, tys) => meth.name = nm
def RtX (E : GE) (X : XT) (rm : Room) (Φ : xPhi) : Prop := match E with
  | (p, l, e, R, s, m, args, below, meth, c, A, Q, D, cl, tys) => R = rm ∧ ∀ (H : Heap) (locs : List Loc) (g : JFrame), W p l e R s m args below meth c H locs rm.cells rm.slots (MQ below (QcX Φ X A) args s rm.cells rm.slots A) g → W p l e R s m args below meth c H locs rm.cells rm.slots Q g
theorem RtX.rm {E : GE} {X : XT} {rm : Room} {Φ : xPhi} (h : RtX E X rm Φ) : RmE E rm := by
  obtain ⟨p, l, e, R, s, m, args, below, meth, c, A, Q, D, cl, tys⟩ := E
  exact h.1
def YtX (E : GE) (X : XT) (rm : Room) (Φ : xPhi) (Ψ : xPsi) : Prop := match E with
  | (p, l, e, R, s, m, args, below, meth, c, A, Q, D, cl, tys) => R = rm ∧ (∀ x ∈ c.exceptionTable.toList, False) ∧ Q = vy_MQ below (QcX Φ X A) (XcX Ψ X A) args s rm.cells rm.slots A
def HdE (E : GE) (hh : List (Nat × Nat × Nat × Nat)) : Prop := match E with
  | (p, l, e, R, s, m, args, below, meth, c, A, Q, D, cl, tys) => c.exceptionTable.toList = tableOf hh
/-- thrown over this method's frame at pc: an object q of class Ec -/
def GTX (E : GE) (X : XT) (T : xT) (I : xI) (R : xR) (L : xL) (k n pc : Nat) (lv : List LV) (Ec : String) (q : Nat) : Prop := xok X T I R L → match E with
  | (p, l, e, Rm, s, m, args, below, meth, c, A, Q, D, cl, tys) => ∀ (H : Heap) (locs : List Loc) (ls : Array Slot) (rest : List Value) (ce : Cell), va_P (dX X) xCl (wsX X T I R L) H → va_D A (wsX X T I R L) → va_S A s.heap H locs → LH ls c.maxLocals lv → H[q]? = some ce → ce.vm = .none → s.vm.findClass Ec = some ce.cls → vy_W p l e Rm s m args below meth c H locs k n Q (F0 m pc ls rest) q
theorem PcX.blind {X : XT} {av : List AV} {T : xT} {I : xI} {R : xR} {L : xL} {z : Nat} : FrameBlind (PcX X av T I R L z) := fun a U g mk q => by
  obtain ⟨q0, q1, qP, qK, qD, qb, qE⟩ := q
  exact ⟨q0, q1, qP, va_K.moved (u := U) (U := U.calling g mk a) (Vm.Alike.refl U.vm) qK, qD, qb, EX.same (u := U) (U := U.calling g mk a) rfl qE⟩

theorem CtX.intro {X : XT} {y : MethodName} {cc : ByteArray} {nL : Nat} {ret : Option FieldType} {rm : Room} {av : List AV} {T : xT} {I : xI} {R : xR} {L : xL} {Φ : xPhi} (hy : plainName y.cls = true) (hn : (ents av).length ≤ nL) (body : ∀ E : GE, OkX E X y.cls cc nL ret → RtX E X rm Φ → NmE E y.name → GX E X T I R L 0 0 0 (ents av ++ List.replicate (nL - (ents av).length) none) []) : CtX X y cc nL ret rm av T I R L Φ := by
  intro hok z
  refine Met.ofW (cc := cc) (maxL := nL) (ret := ret) hy rfl ?_
  intro p e s m args below meth c s₁ B hml hv
  obtain ⟨rfl, hsz, hP, hK, hD0, hbz, hEX⟩ := hv
  have hts := atoms_spec (ws := ws_ y cc nL ret) B.pre
  have hts : ∀ w ∈ lw_all, w.before _ s = true := fun w h => hts w (List.mem_cons_of_mem _ h)
  have hown : s.vm.findClass y.cls = some m.cls := findClass_of_methodNamed B.named
  have hA : ∀ q : Nat, s.heap.size ≤ q → va_A (wsX X T I R L) z q := fun q h => Or.inr (by rw [← hsz]; exact h)
  have hAb : ∀ q : Nat, va_A (wsX X T I R L) z q → bsX X ≤ q := by
    intro q hq
    rcases hq with ⟨i, e0, hi⟩ | hq
    · unfold wsX at hi
      rw [List.getElem?_map] at hi
      cases ha : T.1[i]? with
      | none => rw [ha] at hi; cases hi
      | some a0 =>
        rw [ha] at hi
        have : a0 = q := congrArg Prod.fst (Option.some.inj hi)
        rw [← this]
        exact hok.2.2.1 a0 (List.mem_of_getElem? ha)
    · omega
  have hl := lv_entry (av.map toV) (n := nL) (by rw [lg_sl_toV]; exact hn)
  rw [lg_entry_eq]
  have hl2 : LH ((lg_sl (av.map toV) ++ List.replicate (nL - (lg_sl (av.map toV)).length) Slot.unset).toArray) c.maxLocals (ents av ++ List.replicate (nL - (ents av).length) none) := by
    show lv_has _ _ _
    rw [prs_none, ents_args, hml]
    exact hl
  have hnm : meth.name = y.name := (name_of_methodNamed B.named B.method).1
  exact body (p, lX X, e, rm, s, m, (av.map toV).toArray, below, meth, c, va_A (wsX X T I R L) z, MQ below (QcX Φ X (va_A (wsX X T I R L) z)) (av.map toV).toArray s rm.cells rm.slots (va_A (wsX X T I R L) z), dX X, xCl, xTy X)
    ⟨⟨B.exec, B.bytes, hml, hown, hts, B.returns, B.notSynchronized, hK, hA⟩, ⟨rfl, rfl, rfl, rfl⟩, hAb, by rw [hsz]; exact hbz, hEX⟩ ⟨rfl, fun _ _ _ h => h⟩ hnm hok s.heap [] _ zno hP hD0.self va_S.rf hl2
theorem CtY.intro {X : XT} {y : MethodName} {cc : ByteArray} {nL : Nat} {ret : Option FieldType} {rm : Room} {av : List AV} {T : xT} {I : xI} {R : xR} {L : xL} {Φ : xPhi} {Ψ : xPsi} (hy : plainName y.cls = true) (hn : (ents av).length ≤ nL) (body : ∀ E : GE, OkX E X y.cls cc nL ret → RtX E X rm Φ → YtX E X rm Φ Ψ → NmE E y.name → GX E X T I R L 0 0 0 (ents av ++ List.replicate (nL - (ents av).length) none) []) : CtY X y cc nL ret rm av T I R L Φ Ψ := by
  intro hok z
  refine vy_ofW (cc := cc) (maxL := nL) (ret := ret) hy rfl ?_
  intro p e s m args below meth c s₁ B hml hex hv
  obtain ⟨rfl, hsz, hP, hK, hD0, hbz, hEX⟩ := hv
  have hts := atoms_spec (ws := ws_ y cc nL ret) B.pre
  have hts : ∀ w ∈ lw_all, w.before _ s = true := fun w h => hts w (List.mem_cons_of_mem _ h)
  have hown : s.vm.findClass y.cls = some m.cls := findClass_of_methodNamed B.named
  have hA : ∀ q : Nat, s.heap.size ≤ q → va_A (wsX X T I R L) z q := fun q h => Or.inr (by rw [← hsz]; exact h)
  have hAb : ∀ q : Nat, va_A (wsX X T I R L) z q → bsX X ≤ q := by
    intro q hq
    rcases hq with ⟨i, e0, hi⟩ | hq
    · unfold wsX at hi
      rw [List.getElem?_map] at hi
      cases ha : T.1[i]? with
      | none => rw [ha] at hi; cases hi
      | some a0 =>
        rw [ha] at hi
        have : a0 = q := congrArg Prod.fst (Option.some.inj hi)
        rw [← this]
        exact hok.2.2.1 a0 (List.mem_of_getElem? ha)
    · omega
  have hl := lv_entry (av.map toV) (n := nL) (by rw [lg_sl_toV]; exact hn)
  rw [lg_entry_eq]
  have hl2 : LH ((lg_sl (av.map toV) ++ List.replicate (nL - (lg_sl (av.map toV)).length) Slot.unset).toArray) c.maxLocals (ents av ++ List.replicate (nL - (ents av).length) none) := by
    show lv_has _ _ _
    rw [prs_none, ents_args, hml]
    exact hl
  have hnm : meth.name = y.name := (name_of_methodNamed B.named B.method).1
  exact body (p, lX X, e, rm, s, m, (av.map toV).toArray, below, meth, c, va_A (wsX X T I R L) z, vy_MQ below (QcX Φ X (va_A (wsX X T I R L) z)) (XcX Ψ X (va_A (wsX X T I R L) z)) (av.map toV).toArray s rm.cells rm.slots (va_A (wsX X T I R L) z), dX X, xCl, xTy X)
    ⟨⟨B.exec, B.bytes, hml, hown, hts, B.returns, B.notSynchronized, hK, hA⟩, ⟨rfl, rfl, rfl, rfl⟩, hAb, by rw [hsz]; exact hbz, hEX⟩ ⟨rfl, fun _ _ _ h => vy_ret h⟩ ⟨rfl, hex, rfl⟩ hnm hok s.heap [] _ zno hP hD0.self va_S.rf hl2
theorem CtW.intro {X : XT} {y : MethodName} {cc : ByteArray} {nL : Nat} {ret : Option FieldType} {rm : Room} {av : List AV} {T : xT} {I : xI} {R : xR} {L : xL} {Φ : xPhi} {hh : List (Nat × Nat × Nat × Nat)} (hy : plainName y.cls = true) (hn : (ents av).length ≤ nL) (body : ∀ E : GE, OkX E X y.cls cc nL ret → RtX E X rm Φ → HdE E hh → NmE E y.name → GX E X T I R L 0 0 0 (ents av ++ List.replicate (nL - (ents av).length) none) []) : CtW X y cc nL ret hh rm av T I R L Φ := by
  intro hok z
  refine va_MetW (cc := cc) (maxL := nL) (ret := ret) (hh := hh) hy rfl ?_
  intro p e s m args below meth c s₁ B hml hv
  obtain ⟨rfl, hsz, hP, hK, hD0, hbz, hEX⟩ := hv
  have hts := atoms_spec (ws := wsW_ y cc nL ret hh) B.pre
  have hts : ∀ w ∈ lw_all, w.before _ s = true := fun w h => hts w (List.mem_cons_of_mem _ h)
  have hown : s.vm.findClass y.cls = some m.cls := findClass_of_methodNamed B.named
  have hA : ∀ q : Nat, s.heap.size ≤ q → va_A (wsX X T I R L) z q := fun q h => Or.inr (by rw [← hsz]; exact h)
  have hAb : ∀ q : Nat, va_A (wsX X T I R L) z q → bsX X ≤ q := by
    intro q hq
    rcases hq with ⟨i, e0, hi⟩ | hq
    · unfold wsX at hi
      rw [List.getElem?_map] at hi
      cases ha : T.1[i]? with
      | none => rw [ha] at hi; cases hi
      | some a0 =>
        rw [ha] at hi
        have : a0 = q := congrArg Prod.fst (Option.some.inj hi)
        rw [← this]
        exact hok.2.2.1 a0 (List.mem_of_getElem? ha)
    · omega
  have hl := lv_entry (av.map toV) (n := nL) (by rw [lg_sl_toV]; exact hn)
  rw [lg_entry_eq]
  have hl2 : LH ((lg_sl (av.map toV) ++ List.replicate (nL - (lg_sl (av.map toV)).length) Slot.unset).toArray) c.maxLocals (ents av ++ List.replicate (nL - (ents av).length) none) := by
    show lv_has _ _ _
    rw [prs_none, ents_args, hml]
    exact hl
  have hnm : meth.name = y.name := (name_of_methodNamed B.named B.method).1
  exact body (p, lX X, e, rm, s, m, (av.map toV).toArray, below, meth, c, va_A (wsX X T I R L) z, MQ below (QcX Φ X (va_A (wsX X T I R L) z)) (av.map toV).toArray s rm.cells rm.slots (va_A (wsX X T I R L) z), dX X, xCl, xTy X)
    ⟨⟨B.exec, B.bytes, hml, hown, hts, B.returns, B.notSynchronized, hK, hA⟩, ⟨rfl, rfl, rfl, rfl⟩, hAb, by rw [hsz]; exact hbz, hEX⟩ ⟨rfl, fun _ _ _ h => h⟩ (vy_table (x := y) B (atoms_spec (ws := wsW_ y cc nL ret hh) B.pre _ List.mem_cons_self)) hnm hok s.heap [] _ zno hP hD0.self va_S.rf hl2
theorem gx_vret {E : GE} {X : XT} {own : String} {cc : ByteArray} {nL : Nat} {T : xT} {I : xI} {R : xR} {L : xL} {k n pc : Nat} {lv : List LV} {rm : Room} {Φ : xPhi}  (hE : OkX E X own cc nL none) (hR : RtX E X rm Φ) (d : decode cc pc = .ok (.return_, 1)) (hk : k ≤ rm.cells) (hn : n ≤ rm.slots)  (h : Φ none T I R L) : GX E X T I R L k n pc lv [] := by
  obtain ⟨p, l, e, Rm, s, m, args, below, meth, c, A, Q, D, cl, tys⟩ := E
  obtain ⟨⟨hx, hb, hml, hown, hts, hr, hlk, hK, hA⟩, ⟨rfl, rfl, rfl, rfl⟩, hAb, hbs, hEX⟩ := hE
  obtain ⟨rfl, hQ⟩ := hR
  intro hok H locs ls hz hP hD hS hl
  refine W.widen (k := Rm.cells) (n := Rm.slots) hk hn (hQ _ _ _ ?_)
  exact (W.vret hx hb hr (fun t ht hW => ⟨⟨none, T, I, R, L, rfl, h, hok, by rw [ht]; exact hP, hD⟩, hS.F ht⟩) hS.2.2 d (hlocks := hlk))
theorem gx_iret {E : GE} {X : XT} {own : String} {cc : ByteArray} {nL : Nat} {T : xT} {I : xI} {R : xR} {L : xL} {k n pc : Nat} {lv : List LV} {rm : Room} {Φ : xPhi} {ty : FieldType} {x : Int} (hE : OkX E X own cc nL (some ty)) (hR : RtX E X rm Φ) (d : decode cc pc = .ok (.ireturn, 1)) (hk : k ≤ rm.cells) (hn : n ≤ rm.slots) (hnr : narrow ty (.int (iI x)) = .int (iI x)) (h : Φ (some (aI x)) T I R L) : GX E X T I R L k n pc lv [aI x] := by
  obtain ⟨p, l, e, Rm, s, m, args, below, meth, c, A, Q, D, cl, tys⟩ := E
  obtain ⟨⟨hx, hb, hml, hown, hts, hr, hlk, hK, hA⟩, ⟨rfl, rfl, rfl, rfl⟩, hAb, hbs, hEX⟩ := hE
  obtain ⟨rfl, hQ⟩ := hR
  intro hok H locs ls hz hP hD hS hl
  refine W.widen (k := Rm.cells) (n := Rm.slots) hk hn (hQ _ _ _ ?_)
  exact (W.zret (v := iI x) hx hb hr hnr (fun t ht hW => ⟨⟨some (aI x), T, I, R, L, rfl, h, hok, by rw [ht]; exact hP, hD⟩, hS.F ht⟩) hS.2.2 d (hlocks := hlk))
theorem gx_aret {E : GE} {X : XT} {own : String} {cc : ByteArray} {nL : Nat} {T : xT} {I : xI} {R : xR} {L : xL} {k n pc : Nat} {lv : List LV} {rm : Room} {Φ : xPhi} {ty : FieldType} {x : Option Nat} (hE : OkX E X own cc nL (some ty)) (hR : RtX E X rm Φ) (d : decode cc pc = .ok (.areturn, 1)) (hk : k ≤ rm.cells) (hn : n ≤ rm.slots) (hrt : (∃ n, ty = .object n) ∨ ∃ t, ty = .array t) (h : Φ (some (aR x)) T I R L) : GX E X T I R L k n pc lv [aR x] := by
  obtain ⟨p, l, e, Rm, s, m, args, below, meth, c, A, Q, D, cl, tys⟩ := E
  obtain ⟨⟨hx, hb, hml, hown, hts, hr, hlk, hK, hA⟩, ⟨rfl, rfl, rfl, rfl⟩, hAb, hbs, hEX⟩ := hE
  obtain ⟨rfl, hQ⟩ := hR
  intro hok H locs ls hz hP hD hS hl
  refine W.widen (k := Rm.cells) (n := Rm.slots) hk hn (hQ _ _ _ ?_)
  exact (W.aret (v := va_rf x) hx hb hr hrt (by cases x with | none => exact Or.inl rfl | some a => exact Or.inr ⟨a, rfl⟩) (fun t ht hW => ⟨⟨some (aR x), T, I, R, L, rfl, h, hok, by rw [ht]; exact hP, hD⟩, hS.F ht⟩) hS.2.2 d (hlocks := hlk))
/-- it leaves the method -/
theorem gx_out {E : GE} {X : XT} {own : String} {cc : ByteArray} {nL : Nat} {ret : Option FieldType} (hE : OkX E X own cc nL ret) {T : xT} {I : xI} {R : xR} {L : xL} {k n pc : Nat} {lv : List LV} {Ec : String} {q : Nat} {rm : Room} {Φ : xPhi} {Ψ : xPsi} (hY : YtX E X rm Φ Ψ) (hk : k ≤ rm.cells) (hn : n ≤ rm.slots) (h : Ψ Ec q T I R L) : GTX E X T I R L k n pc lv Ec q := by
  obtain ⟨p, l, e, Rm, s, m, args, below, meth, c, A, Q, D, cl, tys⟩ := E
  obtain ⟨⟨hx, hb, hml, hown, hts, hr, hlk, hK, hA⟩, ⟨rfl, rfl, rfl, rfl⟩, hAb, hbs, hEX⟩ := hE
  obtain ⟨rfl, hex, rfl⟩ := hY
  intro hok H locs ls rest ce hP hD hS hl hce hcv hcl
  exact vy_out (fun x hx => (hex x hx).elim) hlk hce hcv hcl (fun t ht hW => ⟨⟨T, I, R, L, h, hok, by rw [ht]; exact hP, hD⟩, hS.F ht⟩) hS.2.2 hk hn
theorem gx_athrow {E : GE} {X : XT} {own : String} {cc : ByteArray} {nL : Nat} {ret : Option FieldType} (hE : OkX E X own cc nL ret) {T : xT} {I : xI} {R : xR} {L : xL} {k n pc : Nat} {lv : List LV} {st : List AV} {a t : Nat} {r : vw_C} (ht : xtag T a = t) (h0 : 0 < t) (h1 : t < 25 ∨ t = 26) (hc : xCl[t - 1]? = some r) (d : decode cc pc = .ok (.athrow, 1)) (h : GTX E X T I R L k n pc lv r.1 a) : GX E X T I R L k n pc lv (aR (some a) :: st) := by
  obtain ⟨p, l, e, Rm, s, m, args, below, meth, c, A, Q, D, cl, tys⟩ := E
  obtain ⟨⟨hx, hb, hml, hown, hts, hr, hlk, hK, hA⟩, ⟨rfl, rfl, rfl, rfl⟩, hAb, hbs, hEX⟩ := hE
  intro hok H locs ls hz hP hD hS hl
  obtain ⟨q, hq0, hq1⟩ := wsX_at X T I R L (hok.dom ht h0 (by omega) (by omega))
  rw [ht, ceX_obj (by omega)] at hq1
  obtain ⟨r', hr1, cell, g1, g2, g3, -⟩ := hP q _ hq1
  refine vy_athrow hx hb d (h hok H locs ls _ cell hP hD hS hl g1 g3 ?_)
  rw [g2]
  exact (hK.1 (t - 1) r hc).2.1
/-- caught here by the first row of the table that covers -/
theorem gx_catch {E : GE} {X : XT} {own : String} {cc : ByteArray} {nL : Nat} {ret : Option FieldType} (hE : OkX E X own cc nL ret) {T : xT} {I : xI} {R : xR} {L : xL} {k n pc : Nat} {lv : List LV} {Ec : String} {q : Nat} {hh : List (Nat × Nat × Nat × Nat)} (hH : HdE E hh) (pre : List ExceptionTableEntry) (x : ExceptionTableEntry) (suf : List ExceptionTableEntry) (hsp : tableOf hh = pre ++ x :: suf) (hpass : ∀ z ∈ pre, covers z pc = false ∨ (z.catchType ≠ 0 ∧ Cond.classLink own z.catchType "WhalingLogs$Wrong" ∈ lw_all ∧ Ec = "WhalingLogs$Refused")) (hcov : covers x pc = true) (h0 : x.catchType ≠ 0) (hlink : Cond.classLink own x.catchType Ec ∈ lw_all) (hcast : Cond.castable Ec Ec ∈ lw_tbl) (h : GX E X T I R L k n x.handlerPc lv [aR (some q)]) : GTX E X T I R L k n pc lv Ec q := by
  obtain ⟨p, l, e, Rm, s, m, args, below, meth, c, A, Q, D, cl, tys⟩ := E
  obtain ⟨⟨hx, hb, hml, hown, hts, hr, hlk, hK, hA⟩, ⟨rfl, rfl, rfl, rfl⟩, hAb, hbs, hEX⟩ := hE
  intro hok H locs ls rest ce hP hD hS hl hce hcv hcl
  exact vy_catch hown pre x suf (hH.trans hsp) (fun z hz => (hpass z hz).imp id (fun w => ⟨w.1, _, hts _ w.2.1, by rw [w.2.2]; exact hEX.2.2.2.2.2.2.2.2.2⟩)) hcov h0 (hts _ hlink) (va_Nw.use rfl (hEX.nw _ hcast rfl)) hce hcv hcl (h hok H locs ls zno hP hD hS hl)

theorem gx_after3 {E : GE} {X : XT} {T : xT} {I : xI} {R : xR} {L : xL} {k n pc : Nat} {lv : List LV} {st st0 : List AV} {mc ms : Nat} {Φ : xPhi} {a : Array Value} {own : String} {cc : ByteArray} {nL : Nat} {ret : Option FieldType} (hE : OkX E X own cc nL ret) (hr : match E with | (p, l, e, Rm, s, m, args, below, meth, c, A, Q, D, cl, tys) => ∀ (H : Heap) (locs : List Loc) (ls : Array Slot), xok X T I R L → va_P (dX X) xCl (wsX X T I R L) H → va_D A (wsX X T I R L) → bsX X ≤ H.size → (∀ U : State, U.heap = H → s.WarmedH U.vm → EX X U U.heap) → ls.size = c.maxLocals → va_Run p l e Rm s m args below meth c H locs k n mc ms (F0 m pc ls (st0.map toV)) (st.map toV) (QcX Φ X (va_A (wsX X T I R L) H.size) a) (va_A (wsX X T I R L) H.size)) (kk : ∀ (r : Option AV) (T2 : xT) (I2 : xI) (R2 : xR) (L2 : xL), Φ r T2 I2 R2 L2 → GX E X T2 I2 R2 L2 (k + mc) (n + ms) (pc + 3) lv (r.toList ++ st)) : GX E X T I R L k n pc lv st0 := by
  obtain ⟨p, l, e, Rm, s, m, args, below, meth, c, A, Q, D, cl, tys⟩ := E
  obtain ⟨⟨hx, hb, hml, hown, hts, hrt, hlk, hK, hA⟩, ⟨rfl, rfl, rfl, rfl⟩, hAb, hbs, hEX⟩ := hE
  intro hok H locs ls hz hP hD hS hl T0 hT X0
  have hAA : ∀ q, va_A (wsX X T I R L) H.size q → A q := by
    intro q hq
    rcases hq with ⟨i, e0, hi⟩ | hq
    · exact hD.2 i (q, e0) hi
    · exact hA q (Nat.le_trans hS.1 hq)
  have hU : ∀ U : State, U.heap = H → s.WarmedH U.vm → EX X U U.heap := fun U h1 h2 => by
    rw [h1]
    exact EX.moved h2 (hEX.kept fun q hq => hS.2.1 q (by omega) (fun h => by have := hAb q h; omega))
  obtain ⟨v, st₀, t, T', L9, h0, X', hL, e1, e2, ⟨⟨r, T2, I2, R2, L2, hv, hp, hok2, hP', hD'⟩, hF1, hF2⟩, stp⟩ := hr H locs ls hok hP hD (Nat.le_trans hbs hS.1) hU hl.1 T0 hT X0
  cases hv
  rw [h0] at hF1 hF2
  · skip
    have hS' : va_S A s.heap T'.heap (locs ++ L9) := by
      refine ⟨Nat.le_trans hS.1 (by rw [e1]; exact hF1), fun q h1 h2 => ?_, fun q hq => ?_⟩
      · rw [e1, hF2 q (Nat.lt_of_lt_of_le h1 hS.1) (fun w => h2 (hAA q w))]
        exact hS.2.1 q h1 h2
      · rcases List.mem_append.mp hq with h | h
        · exact hS.2.2 q h
        · exact hAA _ (hL q h)
    have h9 := kk r T2 I2 R2 L2 hp hok2 T'.heap (locs ++ L9) ls zno (by rw [e1]; exact hP') (hD'.weaken fun _ q _ h => hAA q.1 h) hS' hl
    have e9 : (r.toList ++ st).map toV = (RV r).toList ++ st.map toV := by cases r <;> rfl
    rw [e9] at h9
    obtain ⟨t2, a1, b1⟩ := h9 T' rfl X'
    exact ⟨t2, stp t2 a1, b1⟩
theorem gy_after3 {E : GE} {X : XT} {T : xT} {I : xI} {R : xR} {L : xL} {k n pc : Nat} {lv : List LV} {st st0 : List AV} {mc ms : Nat} {Φ : xPhi} {a : Array Value} {own : String} {cc : ByteArray} {nL : Nat} {ret : Option FieldType} (hE : OkX E X own cc nL ret) {Ψ : xPsi} (hr : match E with | (p, l, e, Rm, s, m, args, below, meth, c, A, Q, D, cl, tys) => ∀ (H : Heap) (locs : List Loc) (ls : Array Slot), xok X T I R L → va_P (dX X) xCl (wsX X T I R L) H → va_D A (wsX X T I R L) → bsX X ≤ H.size → (∀ U : State, U.heap = H → s.WarmedH U.vm → EX X U U.heap) → ls.size = c.maxLocals → vy_Run p l e Rm s m args below meth c H locs k n mc ms (F0 m pc ls (st0.map toV)) (st.map toV) (QcX Φ X (va_A (wsX X T I R L) H.size) a) (XcX Ψ X (va_A (wsX X T I R L) H.size)) (va_A (wsX X T I R L) H.size)) (kk : ∀ (r : Option AV) (T2 : xT) (I2 : xI) (R2 : xR) (L2 : xL), Φ r T2 I2 R2 L2 → GX E X T2 I2 R2 L2 (k + mc) (n + ms) (pc + 3) lv (r.toList ++ st)) (kx : ∀ (Ec : String) (q : Nat) (T2 : xT) (I2 : xI) (R2 : xR) (L2 : xL), Ψ Ec q T2 I2 R2 L2 → GTX E X T2 I2 R2 L2 (k + mc) (n + ms) pc lv Ec q) : GX E X T I R L k n pc lv st0 := by
  obtain ⟨p, l, e, Rm, s, m, args, below, meth, c, A, Q, D, cl, tys⟩ := E
  obtain ⟨⟨hx, hb, hml, hown, hts, hrt, hlk, hK, hA⟩, ⟨rfl, rfl, rfl, rfl⟩, hAb, hbs, hEX⟩ := hE
  intro hok H locs ls hz hP hD hS hl T0 hT X0
  have hAA : ∀ q, va_A (wsX X T I R L) H.size q → A q := by
    intro q hq
    rcases hq with ⟨i, e0, hi⟩ | hq
    · exact hD.2 i (q, e0) hi
    · exact hA q (Nat.le_trans hS.1 hq)
  have hU : ∀ U : State, U.heap = H → s.WarmedH U.vm → EX X U U.heap := fun U h1 h2 => by
    rw [h1]
    exact EX.moved h2 (hEX.kept fun q hq => hS.2.1 q (by omega) (fun h => by have := hAb q h; omega))
  rcases hr H locs ls hok hP hD (Nat.le_trans hbs hS.1) hU hl.1 T0 hT X0 with ⟨v, st₀, t, T', L9, h0, X', hL, e1, e2, ⟨⟨r, T2, I2, R2, L2, hv, hp, hok2, hP', hD'⟩, hF1, hF2⟩, stp⟩ | ⟨q, st₀, t, T', L9, Ec, ce, h0, X', hL, e1, e2, ⟨⟨T2, I2, R2, L2, hp, hok2, hP', hD'⟩, hF1, hF2⟩, hce, hcv, hcl, stp⟩
  · cases hv
    rw [h0] at hF1 hF2
    have hS' : va_S A s.heap T'.heap (locs ++ L9) := by
      refine ⟨Nat.le_trans hS.1 (by rw [e1]; exact hF1), fun q h1 h2 => ?_, fun q hq => ?_⟩
      · rw [e1, hF2 q (Nat.lt_of_lt_of_le h1 hS.1) (fun w => h2 (hAA q w))]
        exact hS.2.1 q h1 h2
      · rcases List.mem_append.mp hq with h | h
        · exact hS.2.2 q h
        · exact hAA _ (hL q h)
    have h9 := kk r T2 I2 R2 L2 hp hok2 T'.heap (locs ++ L9) ls zno (by rw [e1]; exact hP') (hD'.weaken fun _ q _ h => hAA q.1 h) hS' hl
    have e9 : (r.toList ++ st).map toV = (RV r).toList ++ st.map toV := by cases r <;> rfl
    rw [e9] at h9
    obtain ⟨t2, a1, b1⟩ := h9 T' rfl X'
    exact ⟨t2, stp t2 a1, b1⟩
  · rw [h0] at hF1 hF2
    have hS' : va_S A s.heap T'.heap (locs ++ L9) := by
      refine ⟨Nat.le_trans hS.1 (by rw [e1]; exact hF1), fun q h1 h2 => ?_, fun q hq => ?_⟩
      · rw [e1, hF2 q (Nat.lt_of_lt_of_le h1 hS.1) (fun w => h2 (hAA q w))]
        exact hS.2.1 q h1 h2
      · rcases List.mem_append.mp hq with h | h
        · exact hS.2.2 q h
        · exact hAA _ (hL q h)
    have h9 := kx Ec q T2 I2 R2 L2 hp hok2 T'.heap (locs ++ L9) ls (st.map toV) ce (by rw [e1]; exact hP') (hD'.weaken fun _ q _ h => hAA q.1 h) hS' hl (by rw [e1]; exact hce) hcv hcl
    obtain ⟨t2, a1, b1⟩ := h9 T' rfl X'
    exact ⟨t2, stp.trans a1, b1⟩
theorem gx_after5 {E : GE} {X : XT} {T : xT} {I : xI} {R : xR} {L : xL} {k n pc : Nat} {lv : List LV} {st st0 : List AV} {mc ms : Nat} {Φ : xPhi} {a : Array Value} {own : String} {cc : ByteArray} {nL : Nat} {ret : Option FieldType} (hE : OkX E X own cc nL ret) (hr : match E with | (p, l, e, Rm, s, m, args, below, meth, c, A, Q, D, cl, tys) => ∀ (H : Heap) (locs : List Loc) (ls : Array Slot), xok X T I R L → va_P (dX X) xCl (wsX X T I R L) H → va_D A (wsX X T I R L) → bsX X ≤ H.size → (∀ U : State, U.heap = H → s.WarmedH U.vm → EX X U U.heap) → ls.size = c.maxLocals → va_Run5 p l e Rm s m args below meth c H locs k n mc ms (F0 m pc ls (st0.map toV)) (st.map toV) (QcX Φ X (va_A (wsX X T I R L) H.size) a) (va_A (wsX X T I R L) H.size)) (kk : ∀ (r : Option AV) (T2 : xT) (I2 : xI) (R2 : xR) (L2 : xL), Φ r T2 I2 R2 L2 → GX E X T2 I2 R2 L2 (k + mc) (n + ms) (pc + 5) lv (r.toList ++ st)) : GX E X T I R L k n pc lv st0 := by
  obtain ⟨p, l, e, Rm, s, m, args, below, meth, c, A, Q, D, cl, tys⟩ := E
  obtain ⟨⟨hx, hb, hml, hown, hts, hrt, hlk, hK, hA⟩, ⟨rfl, rfl, rfl, rfl⟩, hAb, hbs, hEX⟩ := hE
  intro hok H locs ls hz hP hD hS hl T0 hT X0
  have hAA : ∀ q, va_A (wsX X T I R L) H.size q → A q := by
    intro q hq
    rcases hq with ⟨i, e0, hi⟩ | hq
    · exact hD.2 i (q, e0) hi
    · exact hA q (Nat.le_trans hS.1 hq)
  have hU : ∀ U : State, U.heap = H → s.WarmedH U.vm → EX X U U.heap := fun U h1 h2 => by
    rw [h1]
    exact EX.moved h2 (hEX.kept fun q hq => hS.2.1 q (by omega) (fun h => by have := hAb q h; omega))
  obtain ⟨v, st₀, t, T', L9, h0, X', hL, e1, e2, ⟨⟨r, T2, I2, R2, L2, hv, hp, hok2, hP', hD'⟩, hF1, hF2⟩, stp⟩ := hr H locs ls hok hP hD (Nat.le_trans hbs hS.1) hU hl.1 T0 hT X0
  cases hv
  rw [h0] at hF1 hF2
  · skip
    have hS' : va_S A s.heap T'.heap (locs ++ L9) := by
      refine ⟨Nat.le_trans hS.1 (by rw [e1]; exact hF1), fun q h1 h2 => ?_, fun q hq => ?_⟩
      · rw [e1, hF2 q (Nat.lt_of_lt_of_le h1 hS.1) (fun w => h2 (hAA q w))]
        exact hS.2.1 q h1 h2
      · rcases List.mem_append.mp hq with h | h
        · exact hS.2.2 q h
        · exact hAA _ (hL q h)
    have h9 := kk r T2 I2 R2 L2 hp hok2 T'.heap (locs ++ L9) ls zno (by rw [e1]; exact hP') (hD'.weaken fun _ q _ h => hAA q.1 h) hS' hl
    have e9 : (r.toList ++ st).map toV = (RV r).toList ++ st.map toV := by cases r <;> rfl
    rw [e9] at h9
    obtain ⟨t2, a1, b1⟩ := h9 T' rfl X'
    exact ⟨t2, stp t2 a1, b1⟩
theorem gy_after5 {E : GE} {X : XT} {T : xT} {I : xI} {R : xR} {L : xL} {k n pc : Nat} {lv : List LV} {st st0 : List AV} {mc ms : Nat} {Φ : xPhi} {a : Array Value} {own : String} {cc : ByteArray} {nL : Nat} {ret : Option FieldType} (hE : OkX E X own cc nL ret) {Ψ : xPsi} (hr : match E with | (p, l, e, Rm, s, m, args, below, meth, c, A, Q, D, cl, tys) => ∀ (H : Heap) (locs : List Loc) (ls : Array Slot), xok X T I R L → va_P (dX X) xCl (wsX X T I R L) H → va_D A (wsX X T I R L) → bsX X ≤ H.size → (∀ U : State, U.heap = H → s.WarmedH U.vm → EX X U U.heap) → ls.size = c.maxLocals → vy_Run5 p l e Rm s m args below meth c H locs k n mc ms (F0 m pc ls (st0.map toV)) (st.map toV) (QcX Φ X (va_A (wsX X T I R L) H.size) a) (XcX Ψ X (va_A (wsX X T I R L) H.size)) (va_A (wsX X T I R L) H.size)) (kk : ∀ (r : Option AV) (T2 : xT) (I2 : xI) (R2 : xR) (L2 : xL), Φ r T2 I2 R2 L2 → GX E X T2 I2 R2 L2 (k + mc) (n + ms) (pc + 5) lv (r.toList ++ st)) (kx : ∀ (Ec : String) (q : Nat) (T2 : xT) (I2 : xI) (R2 : xR) (L2 : xL), Ψ Ec q T2 I2 R2 L2 → GTX E X T2 I2 R2 L2 (k + mc) (n + ms) pc lv Ec q) : GX E X T I R L k n pc lv st0 := by
  obtain ⟨p, l, e, Rm, s, m, args, below, meth, c, A, Q, D, cl, tys⟩ := E
  obtain ⟨⟨hx, hb, hml, hown, hts, hrt, hlk, hK, hA⟩, ⟨rfl, rfl, rfl, rfl⟩, hAb, hbs, hEX⟩ := hE
  intro hok H locs ls hz hP hD hS hl T0 hT X0
  have hAA : ∀ q, va_A (wsX X T I R L) H.size q → A q := by
    intro q hq
    rcases hq with ⟨i, e0, hi⟩ | hq
    · exact hD.2 i (q, e0) hi
    · exact hA q (Nat.le_trans hS.1 hq)
  have hU : ∀ U : State, U.heap = H → s.WarmedH U.vm → EX X U U.heap := fun U h1 h2 => by
    rw [h1]
    exact EX.moved h2 (hEX.kept fun q hq => hS.2.1 q (by omega) (fun h => by have := hAb q h; omega))
  rcases hr H locs ls hok hP hD (Nat.le_trans hbs hS.1) hU hl.1 T0 hT X0 with ⟨v, st₀, t, T', L9, h0, X', hL, e1, e2, ⟨⟨r, T2, I2, R2, L2, hv, hp, hok2, hP', hD'⟩, hF1, hF2⟩, stp⟩ | ⟨q, st₀, t, T', L9, Ec, ce, h0, X', hL, e1, e2, ⟨⟨T2, I2, R2, L2, hp, hok2, hP', hD'⟩, hF1, hF2⟩, hce, hcv, hcl, stp⟩
  · cases hv
    rw [h0] at hF1 hF2
    have hS' : va_S A s.heap T'.heap (locs ++ L9) := by
      refine ⟨Nat.le_trans hS.1 (by rw [e1]; exact hF1), fun q h1 h2 => ?_, fun q hq => ?_⟩
      · rw [e1, hF2 q (Nat.lt_of_lt_of_le h1 hS.1) (fun w => h2 (hAA q w))]
        exact hS.2.1 q h1 h2
      · rcases List.mem_append.mp hq with h | h
        · exact hS.2.2 q h
        · exact hAA _ (hL q h)
    have h9 := kk r T2 I2 R2 L2 hp hok2 T'.heap (locs ++ L9) ls zno (by rw [e1]; exact hP') (hD'.weaken fun _ q _ h => hAA q.1 h) hS' hl
    have e9 : (r.toList ++ st).map toV = (RV r).toList ++ st.map toV := by cases r <;> rfl
    rw [e9] at h9
    obtain ⟨t2, a1, b1⟩ := h9 T' rfl X'
    exact ⟨t2, stp t2 a1, b1⟩
  · rw [h0] at hF1 hF2
    have hS' : va_S A s.heap T'.heap (locs ++ L9) := by
      refine ⟨Nat.le_trans hS.1 (by rw [e1]; exact hF1), fun q h1 h2 => ?_, fun q hq => ?_⟩
      · rw [e1, hF2 q (Nat.lt_of_lt_of_le h1 hS.1) (fun w => h2 (hAA q w))]
        exact hS.2.1 q h1 h2
      · rcases List.mem_append.mp hq with h | h
        · exact hS.2.2 q h
        · exact hAA _ (hL q h)
    have h9 := kx Ec q T2 I2 R2 L2 hp hok2 T'.heap (locs ++ L9) ls (st.map toV) ce (by rw [e1]; exact hP') (hD'.weaken fun _ q _ h => hAA q.1 h) hS' hl (by rw [e1]; exact hce) hcv hcl
    obtain ⟨t2, a1, b1⟩ := h9 T' rfl X'
    exact ⟨t2, stp.trans a1, b1⟩
theorem xobjS {X : XT} {T : xT} {I : xI} {R : xR} {L : xL} {H : Heap} {s : State} {tys : List (ClassId × FieldType)} (hok : xok X T I R L) (hP : va_P (dX X) xCl (wsX X T I R L) H) (hK : va_K (dX X) xCl tys s) (hRo : RoOk X H) {v tv : Nat} {r : vw_C} (hv : xtag T v = tv) (h0 : 0 < tv) (h1 : tv < 27) (hc : xCl[tv - 1]? = some r) : ∃ cell : Cell, H[v]? = some cell ∧ cell.vm.isStatics = false ∧ s.vm.findClass r.1 = some cell.cls := by
  by_cases h25 : tv = 25
  · subst h25
    obtain ⟨ws, q, hP9, hq1⟩ := xpicS hok hP hRo hv
    exact va_recv hK hP9 hc hq1
  · exact xobj hok hP hK hv h0 (by omega) hc
/-- a private method of a superclass -/
theorem selP {C : String} {x0 y : MethodName} {s : State} {args : Array Value} (hy : y.cls ≠ "java/lang/invoke/MethodHandle" ∧ y.cls ≠ "java/lang/invoke/VarHandle") (hx0 : x0.cls = y.cls) (h0 : (Cond.selects C x0 x0).before args s = true) (hpriv : (Cond.privateMethod y).before args s = true) (hinst : (Cond.instanceMethod y).before args s = true) : (Cond.selects C y y).before args s = true := by
  obtain ⟨c2, r2, m2, g1, g2, g3, g4, kP, hkP, hkPi⟩ := Cond.selects_spec h0
  obtain ⟨mk, methM, hnamed, hmethM, -, -⟩ := Cond.instanceMethod_spec hinst
  have hfound : s.methodFound? y.cls y.name y.desc = some mk := State.methodFound?_of_named hnamed hy
  have hsel : selectMethod {} s.vm c2 mk = .method mk := selectMethod_private hmethM (Cond.privateMethod_at hpriv mk methM hnamed hmethM)
  have e1 : m2.cls = mk.cls := by
    have e2 := findClass_of_methodNamed hnamed
    have e3 := findClass_of_methodNamed g3
    rw [hx0] at e3
    exact Option.some.inj (e3.symm.trans e2)
  rw [e1] at hkP
  simp only [Cond.before, Cond.holds, Cond.value, g1, hfound, hnamed, hsel, hkP]
  simp; exact hkPi

theorem gx_callV {E : GE} {X : XT} {own : String} {cc : ByteArray} {nL : Nat} {ret : Option FieldType} (hE : OkX E X own cc nL ret) {rm : Room} (hR : RmE E rm) {T : xT} {I : xI} {R : xR} {L : xL} {k n pc idx na : Nat} {lv : List LV} {st st0 As : List AV} {y : MethodName} {cc1 : ByteArray} {nL1 : Nat} {ret1 : Option FieldType} {rm1 : Room} {Φ : xPhi} {b t : Nat} {C : String} {TN : u_T × Nat} (ht : xtag T b = t) (h0 : 0 < t) (h1 : t < 27) (hc : xCl[t - 1]? = some (C, TN)) (hd : y.cls = C ∧ y.cls ≠ "java/lang/invoke/MethodHandle" ∧ y.cls ≠ "java/lang/invoke/VarHandle" ∧ (parseMethodDescriptor y.desc).map (fun d => d.parameters.length) = some na) (hM : CtX X y cc1 nL1 ret1 rm1 (aR (some b) :: As) T I R L Φ) (hg : GoodIn lw_all (wsV own idx C y (ws_ y cc1 nL1 ret1))) (hrm : rm1.frames + 1 ≤ rm.frames ∧ 8 + (nL1 + 11) + rm1.locals ≤ rm.locals) (hcs : k + rm1.cells ≤ rm.cells ∧ n + rm1.slots ≤ rm.slots) (hlen : As.length = na) (h8 : acs st ≤ 8) (d : decode cc pc = .ok (.invokevirtual idx, 3)) (hst : st0 = As.reverse ++ aR (some b) :: st) (kk : ∀ (r : Option AV) (T2 : xT) (I2 : xI) (R2 : xR) (L2 : xL), Φ r T2 I2 R2 L2 → GX E X T2 I2 R2 L2 (k + rm1.cells) (n + rm1.slots) (pc + 3) lv (r.toList ++ st)) : GX E X T I R L k n pc lv st0 := by
  subst hst
  refine gx_after3 (mc := rm1.cells) (ms := rm1.slots) (a := ((aR (some b) :: As).map toV).toArray) hE ?_ kk
  obtain ⟨p, l, e, Rm, s, m, args, below, meth, c, A, Q, D, cl, tys⟩ := E
  obtain ⟨⟨hx, hb, hml, hown, hts, hrt, hlk, hK, hA⟩, ⟨rfl, rfl, rfl, rfl⟩, hAb, hbs, hEX⟩ := hE
  obtain rfl : Rm = rm := hR
  intro H locs ls hok hP hD hbz hU hsz
  refine va_runV (C := C) (b := b) (As := As.map toV) ⟨hx, hb, hml, hown, hts⟩ (hM hok H.size) (cwV na hts hg rfl rfl rfl hd hrm) ⟨PcX.blind, xobjS hok hP hK (by have h9 := hU (s.withHeap H) rfl (State.WarmedH.refl s); exact h9.2.2.2.2.2.1) ht h0 h1 hc, fun U hU2 hW => ⟨rfl, by rw [hU2], by rw [hU2]; exact hP, va_K.moved hW.alike hK, hD.all, hbz, hU U hU2 hW⟩⟩ rfl (by rw [List.length_map]; exact hlen) (hsz.trans hml) ?_ (lv_room (stk8_of st 8 h8)) d hcs
  show ((As.reverse ++ aR (some b) :: st).map toV) = _
  simp [toV, va_rf]
theorem gx_callS {E : GE} {X : XT} {own : String} {cc : ByteArray} {nL : Nat} {ret : Option FieldType} (hE : OkX E X own cc nL ret) {rm : Room} (hR : RmE E rm) {T : xT} {I : xI} {R : xR} {L : xL} {k n pc idx na : Nat} {lv : List LV} {st st0 As : List AV} {y : MethodName} {cc1 : ByteArray} {nL1 : Nat} {ret1 : Option FieldType} {rm1 : Room} {Φ : xPhi}  (hd : y.cls ≠ "java/lang/invoke/MethodHandle" ∧ y.cls ≠ "java/lang/invoke/VarHandle" ∧ (parseMethodDescriptor y.desc).map (fun d => d.parameters.length) = some na) (hM : CtX X y cc1 nL1 ret1 rm1 As T I R L Φ) (hg : GoodIn lw_all (va_wsS own idx y (ws_ y cc1 nL1 ret1))) (hrm : rm1.frames + 1 ≤ rm.frames ∧ 8 + (nL1 + 11) + rm1.locals ≤ rm.locals) (hcs : k + rm1.cells ≤ rm.cells ∧ n + rm1.slots ≤ rm.slots) (hlen : As.length = na) (h8 : acs st ≤ 8) (d : decode cc pc = .ok (.invokestatic idx, 3)) (hst : st0 = As.reverse ++ st) (kk : ∀ (r : Option AV) (T2 : xT) (I2 : xI) (R2 : xR) (L2 : xL), Φ r T2 I2 R2 L2 → GX E X T2 I2 R2 L2 (k + rm1.cells) (n + rm1.slots) (pc + 3) lv (r.toList ++ st)) : GX E X T I R L k n pc lv st0 := by
  subst hst
  refine gx_after3 (mc := rm1.cells) (ms := rm1.slots) (a := (As.map toV).toArray) hE ?_ kk
  obtain ⟨p, l, e, Rm, s, m, args, below, meth, c, A, Q, D, cl, tys⟩ := E
  obtain ⟨⟨hx, hb, hml, hown, hts, hrt, hlk, hK, hA⟩, ⟨rfl, rfl, rfl, rfl⟩, hAb, hbs, hEX⟩ := hE
  obtain rfl : Rm = rm := hR
  intro H locs ls hok hP hD hbz hU hsz
  refine va_runS (As := As.map toV) ⟨hx, hb, hml, hown, hts⟩ (hM hok H.size) (va_cwS na hts hg rfl rfl rfl hd hrm) ⟨PcX.blind, fun U hU2 hW => ⟨rfl, by rw [hU2], by rw [hU2]; exact hP, va_K.moved hW.alike hK, hD.all, hbz, hU U hU2 hW⟩⟩ rfl (by rw [List.length_map]; exact hlen) (hsz.trans hml) ?_ (lv_room (stk8_of st 8 h8)) d hcs
  show ((As.reverse ++ st).map toV) = _
  simp [toV, va_rf]
theorem gx_callVN {E : GE} {X : XT} {own : String} {cc : ByteArray} {nL : Nat} {ret : Option FieldType} (hE : OkX E X own cc nL ret) {rm : Room} (hR : RmE E rm) {T : xT} {I : xI} {R : xR} {L : xL} {k n pc idx na : Nat} {lv : List LV} {st st0 As : List AV} {y : MethodName} {cc1 : ByteArray} {nL1 : Nat} {ret1 : Option FieldType} {rm1 : Room} {Φ : xPhi} {b t : Nat} {C : String} {TN : u_T × Nat} (ht : xtag T b = t) (h0 : 0 < t) (h1 : t < 27) (hc : xCl[t - 1]? = some (C, TN)) (hd : y.cls ≠ "java/lang/invoke/MethodHandle" ∧ y.cls ≠ "java/lang/invoke/VarHandle" ∧ (parseMethodDescriptor y.desc).map (fun d => d.parameters.length) = some na) (hM : CtX X y cc1 nL1 ret1 rm1 (aR (some b) :: As) T I R L Φ) {host : String} (hg : GoodIn lw_all (ws_ y cc1 nL1 ret1)) (hl1 : Cond.methodLinkNest own idx y host ∈ lw_tbl) (hl2 : Cond.initialized y.cls ∈ lw_all) (hl3 : Cond.instanceMethod y ∈ lw_all) (hl4 : Cond.selects C y y ∈ lw_all) (hrm : rm1.frames + 1 ≤ rm.frames ∧ 8 + (nL1 + 11) + rm1.locals ≤ rm.locals) (hcs : k + rm1.cells ≤ rm.cells ∧ n + rm1.slots ≤ rm.slots) (hlen : As.length = na) (h8 : acs st ≤ 8) (d : decode cc pc = .ok (.invokevirtual idx, 3)) (hst : st0 = As.reverse ++ aR (some b) :: st) (kk : ∀ (r : Option AV) (T2 : xT) (I2 : xI) (R2 : xR) (L2 : xL), Φ r T2 I2 R2 L2 → GX E X T2 I2 R2 L2 (k + rm1.cells) (n + rm1.slots) (pc + 3) lv (r.toList ++ st)) : GX E X T I R L k n pc lv st0 := by
  subst hst
  refine gx_after3 (mc := rm1.cells) (ms := rm1.slots) (a := ((aR (some b) :: As).map toV).toArray) hE ?_ kk
  obtain ⟨p, l, e, Rm, s, m, args, below, meth, c, A, Q, D, cl, tys⟩ := E
  obtain ⟨⟨hx, hb, hml, hown, hts, hrt, hlk, hK, hA⟩, ⟨rfl, rfl, rfl, rfl⟩, hAb, hbs, hEX⟩ := hE
  obtain rfl : Rm = rm := hR
  intro H locs ls hok hP hD hbz hU hsz
  refine va_runVN (C := C) (b := b) (As := As.map toV) ⟨hx, hb, hml, hown, hts⟩ (hM hok H.size) ⟨va_cnB na hts hg rfl rfl rfl (hEX.nw _ hl1 rfl) (hts _ hl2) hd hrm, hts _ hl3, hts _ hl4⟩ ⟨PcX.blind, xobjS hok hP hK (by have h9 := hU (s.withHeap H) rfl (State.WarmedH.refl s); exact h9.2.2.2.2.2.1) ht h0 h1 hc, fun U hU2 hW => ⟨rfl, by rw [hU2], by rw [hU2]; exact hP, va_K.moved hW.alike hK, hD.all, hbz, hU U hU2 hW⟩⟩ rfl (by rw [List.length_map]; exact hlen) (hsz.trans hml) ?_ (lv_room (stk8_of st 8 h8)) d hcs
  show ((As.reverse ++ aR (some b) :: st).map toV) = _
  simp [toV, va_rf]
theorem gx_callSN {E : GE} {X : XT} {own : String} {cc : ByteArray} {nL : Nat} {ret : Option FieldType} (hE : OkX E X own cc nL ret) {rm : Room} (hR : RmE E rm) {T : xT} {I : xI} {R : xR} {L : xL} {k n pc idx na : Nat} {lv : List LV} {st st0 As : List AV} {y : MethodName} {cc1 : ByteArray} {nL1 : Nat} {ret1 : Option FieldType} {rm1 : Room} {Φ : xPhi}  (hd : y.cls ≠ "java/lang/invoke/MethodHandle" ∧ y.cls ≠ "java/lang/invoke/VarHandle" ∧ (parseMethodDescriptor y.desc).map (fun d => d.parameters.length) = some na) (hM : CtX X y cc1 nL1 ret1 rm1 As T I R L Φ) {host : String} (hg : GoodIn lw_all (ws_ y cc1 nL1 ret1)) (hl1 : Cond.methodLinkNest own idx y host ∈ lw_tbl) (hl2 : Cond.initialized y.cls ∈ lw_all) (hl3 : Cond.static y ∈ lw_all) (hrm : rm1.frames + 1 ≤ rm.frames ∧ 8 + (nL1 + 11) + rm1.locals ≤ rm.locals) (hcs : k + rm1.cells ≤ rm.cells ∧ n + rm1.slots ≤ rm.slots) (hlen : As.length = na) (h8 : acs st ≤ 8) (d : decode cc pc = .ok (.invokestatic idx, 3)) (hst : st0 = As.reverse ++ st) (kk : ∀ (r : Option AV) (T2 : xT) (I2 : xI) (R2 : xR) (L2 : xL), Φ r T2 I2 R2 L2 → GX E X T2 I2 R2 L2 (k + rm1.cells) (n + rm1.slots) (pc + 3) lv (r.toList ++ st)) : GX E X T I R L k n pc lv st0 := by
  subst hst
  refine gx_after3 (mc := rm1.cells) (ms := rm1.slots) (a := (As.map toV).toArray) hE ?_ kk
  obtain ⟨p, l, e, Rm, s, m, args, below, meth, c, A, Q, D, cl, tys⟩ := E
  obtain ⟨⟨hx, hb, hml, hown, hts, hrt, hlk, hK, hA⟩, ⟨rfl, rfl, rfl, rfl⟩, hAb, hbs, hEX⟩ := hE
  obtain rfl : Rm = rm := hR
  intro H locs ls hok hP hD hbz hU hsz
  refine va_runSN (As := As.map toV) ⟨hx, hb, hml, hown, hts⟩ (hM hok H.size) ⟨va_cnB na hts hg rfl rfl rfl (hEX.nw _ hl1 rfl) (hts _ hl2) hd hrm, hts _ hl3, trivial⟩ ⟨PcX.blind, fun U hU2 hW => ⟨rfl, by rw [hU2], by rw [hU2]; exact hP, va_K.moved hW.alike hK, hD.all, hbz, hU U hU2 hW⟩⟩ rfl (by rw [List.length_map]; exact hlen) (hsz.trans hml) ?_ (lv_room (stk8_of st 8 h8)) d hcs
  show ((As.reverse ++ st).map toV) = _
  simp [toV, va_rf]
theorem gy_callV {E : GE} {X : XT} {own : String} {cc : ByteArray} {nL : Nat} {ret : Option FieldType} (hE : OkX E X own cc nL ret) {rm : Room} (hR : RmE E rm) {T : xT} {I : xI} {R : xR} {L : xL} {k n pc idx na : Nat} {lv : List LV} {st st0 As : List AV} {y : MethodName} {cc1 : ByteArray} {nL1 : Nat} {ret1 : Option FieldType} {rm1 : Room} {Φ : xPhi} {Ψ : xPsi} {b t : Nat} {C : String} {TN : u_T × Nat} (ht : xtag T b = t) (h0 : 0 < t) (h1 : t < 27) (hc : xCl[t - 1]? = some (C, TN)) (hd : y.cls = C ∧ y.cls ≠ "java/lang/invoke/MethodHandle" ∧ y.cls ≠ "java/lang/invoke/VarHandle" ∧ (parseMethodDescriptor y.desc).map (fun d => d.parameters.length) = some na) (hM : CtY X y cc1 nL1 ret1 rm1 (aR (some b) :: As) T I R L Φ Ψ) (hg : GoodIn lw_all (wsV own idx C y (ws_ y cc1 nL1 ret1))) (hrm : rm1.frames + 1 ≤ rm.frames ∧ 8 + (nL1 + 11) + rm1.locals ≤ rm.locals) (hcs : k + rm1.cells ≤ rm.cells ∧ n + rm1.slots ≤ rm.slots) (hlen : As.length = na) (h8 : acs st ≤ 8) (d : decode cc pc = .ok (.invokevirtual idx, 3)) (hst : st0 = As.reverse ++ aR (some b) :: st) (kk : ∀ (r : Option AV) (T2 : xT) (I2 : xI) (R2 : xR) (L2 : xL), Φ r T2 I2 R2 L2 → GX E X T2 I2 R2 L2 (k + rm1.cells) (n + rm1.slots) (pc + 3) lv (r.toList ++ st)) (kx : ∀ (Ec : String) (q : Nat) (T2 : xT) (I2 : xI) (R2 : xR) (L2 : xL), Ψ Ec q T2 I2 R2 L2 → GTX E X T2 I2 R2 L2 (k + rm1.cells) (n + rm1.slots) pc lv Ec q) : GX E X T I R L k n pc lv st0 := by
  subst hst
  refine gy_after3 (mc := rm1.cells) (ms := rm1.slots) (a := ((aR (some b) :: As).map toV).toArray) hE ?_ kk kx
  obtain ⟨p, l, e, Rm, s, m, args, below, meth, c, A, Q, D, cl, tys⟩ := E
  obtain ⟨⟨hx, hb, hml, hown, hts, hrt, hlk, hK, hA⟩, ⟨rfl, rfl, rfl, rfl⟩, hAb, hbs, hEX⟩ := hE
  obtain rfl : Rm = rm := hR
  intro H locs ls hok hP hD hbz hU hsz
  refine vy_runV (C := C) (b := b) (As := As.map toV) ⟨hx, hb, hml, hown, hts⟩ (hM hok H.size) (cwV na hts hg rfl rfl rfl hd hrm) ⟨PcX.blind, xobjS hok hP hK (by have h9 := hU (s.withHeap H) rfl (State.WarmedH.refl s); exact h9.2.2.2.2.2.1) ht h0 h1 hc, fun U hU2 hW => ⟨rfl, by rw [hU2], by rw [hU2]; exact hP, va_K.moved hW.alike hK, hD.all, hbz, hU U hU2 hW⟩⟩ rfl (by rw [List.length_map]; exact hlen) (hsz.trans hml) ?_ (lv_room (stk8_of st 8 h8)) d hcs
  show ((As.reverse ++ aR (some b) :: st).map toV) = _
  simp [toV, va_rf]
theorem gy_callS {E : GE} {X : XT} {own : String} {cc : ByteArray} {nL : Nat} {ret : Option FieldType} (hE : OkX E X own cc nL ret) {rm : Room} (hR : RmE E rm) {T : xT} {I : xI} {R : xR} {L : xL} {k n pc idx na : Nat} {lv : List LV} {st st0 As : List AV} {y : MethodName} {cc1 : ByteArray} {nL1 : Nat} {ret1 : Option FieldType} {rm1 : Room} {Φ : xPhi} {Ψ : xPsi}  (hd : y.cls ≠ "java/lang/invoke/MethodHandle" ∧ y.cls ≠ "java/lang/invoke/VarHandle" ∧ (parseMethodDescriptor y.desc).map (fun d => d.parameters.length) = some na) (hM : CtY X y cc1 nL1 ret1 rm1 As T I R L Φ Ψ) (hg : GoodIn lw_all (va_wsS own idx y (ws_ y cc1 nL1 ret1))) (hrm : rm1.frames + 1 ≤ rm.frames ∧ 8 + (nL1 + 11) + rm1.locals ≤ rm.locals) (hcs : k + rm1.cells ≤ rm.cells ∧ n + rm1.slots ≤ rm.slots) (hlen : As.length = na) (h8 : acs st ≤ 8) (d : decode cc pc = .ok (.invokestatic idx, 3)) (hst : st0 = As.reverse ++ st) (kk : ∀ (r : Option AV) (T2 : xT) (I2 : xI) (R2 : xR) (L2 : xL), Φ r T2 I2 R2 L2 → GX E X T2 I2 R2 L2 (k + rm1.cells) (n + rm1.slots) (pc + 3) lv (r.toList ++ st)) (kx : ∀ (Ec : String) (q : Nat) (T2 : xT) (I2 : xI) (R2 : xR) (L2 : xL), Ψ Ec q T2 I2 R2 L2 → GTX E X T2 I2 R2 L2 (k + rm1.cells) (n + rm1.slots) pc lv Ec q) : GX E X T I R L k n pc lv st0 := by
  subst hst
  refine gy_after3 (mc := rm1.cells) (ms := rm1.slots) (a := (As.map toV).toArray) hE ?_ kk kx
  obtain ⟨p, l, e, Rm, s, m, args, below, meth, c, A, Q, D, cl, tys⟩ := E
  obtain ⟨⟨hx, hb, hml, hown, hts, hrt, hlk, hK, hA⟩, ⟨rfl, rfl, rfl, rfl⟩, hAb, hbs, hEX⟩ := hE
  obtain rfl : Rm = rm := hR
  intro H locs ls hok hP hD hbz hU hsz
  refine vy_runS (As := As.map toV) ⟨hx, hb, hml, hown, hts⟩ (hM hok H.size) (va_cwS na hts hg rfl rfl rfl hd hrm) ⟨PcX.blind, fun U hU2 hW => ⟨rfl, by rw [hU2], by rw [hU2]; exact hP, va_K.moved hW.alike hK, hD.all, hbz, hU U hU2 hW⟩⟩ rfl (by rw [List.length_map]; exact hlen) (hsz.trans hml) ?_ (lv_room (stk8_of st 8 h8)) d hcs
  show ((As.reverse ++ st).map toV) = _
  simp [toV, va_rf]
theorem gy_callVN {E : GE} {X : XT} {own : String} {cc : ByteArray} {nL : Nat} {ret : Option FieldType} (hE : OkX E X own cc nL ret) {rm : Room} (hR : RmE E rm) {T : xT} {I : xI} {R : xR} {L : xL} {k n pc idx na : Nat} {lv : List LV} {st st0 As : List AV} {y : MethodName} {cc1 : ByteArray} {nL1 : Nat} {ret1 : Option FieldType} {rm1 : Room} {Φ : xPhi} {Ψ : xPsi} {b t : Nat} {C : String} {TN : u_T × Nat} (ht : xtag T b = t) (h0 : 0 < t) (h1 : t < 27) (hc : xCl[t - 1]? = some (C, TN)) (hd : y.cls ≠ "java/lang/invoke/MethodHandle" ∧ y.cls ≠ "java/lang/invoke/VarHandle" ∧ (parseMethodDescriptor y.desc).map (fun d => d.parameters.length) = some na) (hM : CtY X y cc1 nL1 ret1 rm1 (aR (some b) :: As) T I R L Φ Ψ) {host : String} (hg : GoodIn lw_all (ws_ y cc1 nL1 ret1)) (hl1 : Cond.methodLinkNest own idx y host ∈ lw_tbl) (hl2 : Cond.initialized y.cls ∈ lw_all) (hl3 : Cond.instanceMethod y ∈ lw_all) (hl4 : Cond.selects C y y ∈ lw_all) (hrm : rm1.frames + 1 ≤ rm.frames ∧ 8 + (nL1 + 11) + rm1.locals ≤ rm.locals) (hcs : k + rm1.cells ≤ rm.cells ∧ n + rm1.slots ≤ rm.slots) (hlen : As.length = na) (h8 : acs st ≤ 8) (d : decode cc pc = .ok (.invokevirtual idx, 3)) (hst : st0 = As.reverse ++ aR (some b) :: st) (kk : ∀ (r : Option AV) (T2 : xT) (I2 : xI) (R2 : xR) (L2 : xL), Φ r T2 I2 R2 L2 → GX E X T2 I2 R2 L2 (k + rm1.cells) (n + rm1.slots) (pc + 3) lv (r.toList ++ st)) (kx : ∀ (Ec : String) (q : Nat) (T2 : xT) (I2 : xI) (R2 : xR) (L2 : xL), Ψ Ec q T2 I2 R2 L2 → GTX E X T2 I2 R2 L2 (k + rm1.cells) (n + rm1.slots) pc lv Ec q) : GX E X T I R L k n pc lv st0 := by
  subst hst
  refine gy_after3 (mc := rm1.cells) (ms := rm1.slots) (a := ((aR (some b) :: As).map toV).toArray) hE ?_ kk kx
  obtain ⟨p, l, e, Rm, s, m, args, below, meth, c, A, Q, D, cl, tys⟩ := E
  obtain ⟨⟨hx, hb, hml, hown, hts, hrt, hlk, hK, hA⟩, ⟨rfl, rfl, rfl, rfl⟩, hAb, hbs, hEX⟩ := hE
  obtain rfl : Rm = rm := hR
  intro H locs ls hok hP hD hbz hU hsz
  refine vy_runVN (C := C) (b := b) (As := As.map toV) ⟨hx, hb, hml, hown, hts⟩ (hM hok H.size) ⟨va_cnB na hts hg rfl rfl rfl (hEX.nw _ hl1 rfl) (hts _ hl2) hd hrm, hts _ hl3, hts _ hl4⟩ ⟨PcX.blind, xobjS hok hP hK (by have h9 := hU (s.withHeap H) rfl (State.WarmedH.refl s); exact h9.2.2.2.2.2.1) ht h0 h1 hc, fun U hU2 hW => ⟨rfl, by rw [hU2], by rw [hU2]; exact hP, va_K.moved hW.alike hK, hD.all, hbz, hU U hU2 hW⟩⟩ rfl (by rw [List.length_map]; exact hlen) (hsz.trans hml) ?_ (lv_room (stk8_of st 8 h8)) d hcs
  show ((As.reverse ++ aR (some b) :: st).map toV) = _
  simp [toV, va_rf]
theorem gy_callSN {E : GE} {X : XT} {own : String} {cc : ByteArray} {nL : Nat} {ret : Option FieldType} (hE : OkX E X own cc nL ret) {rm : Room} (hR : RmE E rm) {T : xT} {I : xI} {R : xR} {L : xL} {k n pc idx na : Nat} {lv : List LV} {st st0 As : List AV} {y : MethodName} {cc1 : ByteArray} {nL1 : Nat} {ret1 : Option FieldType} {rm1 : Room} {Φ : xPhi} {Ψ : xPsi}  (hd : y.cls ≠ "java/lang/invoke/MethodHandle" ∧ y.cls ≠ "java/lang/invoke/VarHandle" ∧ (parseMethodDescriptor y.desc).map (fun d => d.parameters.length) = some na) (hM : CtY X y cc1 nL1 ret1 rm1 As T I R L Φ Ψ) {host : String} (hg : GoodIn lw_all (ws_ y cc1 nL1 ret1)) (hl1 : Cond.methodLinkNest own idx y host ∈ lw_tbl) (hl2 : Cond.initialized y.cls ∈ lw_all) (hl3 : Cond.static y ∈ lw_all) (hrm : rm1.frames + 1 ≤ rm.frames ∧ 8 + (nL1 + 11) + rm1.locals ≤ rm.locals) (hcs : k + rm1.cells ≤ rm.cells ∧ n + rm1.slots ≤ rm.slots) (hlen : As.length = na) (h8 : acs st ≤ 8) (d : decode cc pc = .ok (.invokestatic idx, 3)) (hst : st0 = As.reverse ++ st) (kk : ∀ (r : Option AV) (T2 : xT) (I2 : xI) (R2 : xR) (L2 : xL), Φ r T2 I2 R2 L2 → GX E X T2 I2 R2 L2 (k + rm1.cells) (n + rm1.slots) (pc + 3) lv (r.toList ++ st)) (kx : ∀ (Ec : String) (q : Nat) (T2 : xT) (I2 : xI) (R2 : xR) (L2 : xL), Ψ Ec q T2 I2 R2 L2 → GTX E X T2 I2 R2 L2 (k + rm1.cells) (n + rm1.slots) pc lv Ec q) : GX E X T I R L k n pc lv st0 := by
  subst hst
  refine gy_after3 (mc := rm1.cells) (ms := rm1.slots) (a := (As.map toV).toArray) hE ?_ kk kx
  obtain ⟨p, l, e, Rm, s, m, args, below, meth, c, A, Q, D, cl, tys⟩ := E
  obtain ⟨⟨hx, hb, hml, hown, hts, hrt, hlk, hK, hA⟩, ⟨rfl, rfl, rfl, rfl⟩, hAb, hbs, hEX⟩ := hE
  obtain rfl : Rm = rm := hR
  intro H locs ls hok hP hD hbz hU hsz
  refine vy_runSN (As := As.map toV) ⟨hx, hb, hml, hown, hts⟩ (hM hok H.size) ⟨va_cnB na hts hg rfl rfl rfl (hEX.nw _ hl1 rfl) (hts _ hl2) hd hrm, hts _ hl3, trivial⟩ ⟨PcX.blind, fun U hU2 hW => ⟨rfl, by rw [hU2], by rw [hU2]; exact hP, va_K.moved hW.alike hK, hD.all, hbz, hU U hU2 hW⟩⟩ rfl (by rw [List.length_map]; exact hlen) (hsz.trans hml) ?_ (lv_room (stk8_of st 8 h8)) d hcs
  show ((As.reverse ++ st).map toV) = _
  simp [toV, va_rf]
theorem gx_callI {E : GE} {X : XT} {own : String} {cc : ByteArray} {nL : Nat} {ret : Option FieldType} (hE : OkX E X own cc nL ret) {rm : Room} (hR : RmE E rm) {T : xT} {I : xI} {R : xR} {L : xL} {k n pc idx na : Nat} {lv : List LV} {st st0 As : List AV} {y : MethodName} {cc1 : ByteArray} {nL1 : Nat} {rm1 : Room} {Φ : xPhi} (hd : y.cls ≠ "java/lang/invoke/MethodHandle" ∧ y.cls ≠ "java/lang/invoke/VarHandle" ∧ (parseMethodDescriptor y.desc).map (fun d => d.parameters.length) = some na) {b : Nat} (hg : GoodIn lw_all (ws_ y cc1 nL1 none)) (hl1 : Cond.methodLink own idx y ∈ lw_all) (hl2 : Cond.initialized y.cls ∈ lw_all) (hl3 : Cond.instanceMethod y ∈ lw_all) (hnm : y.name = "<init>") (hM : CtX X y cc1 nL1 none rm1 (aR (some b) :: As) T I R L Φ) (hrm : rm1.frames + 1 ≤ rm.frames ∧ 8 + (nL1 + 11) + rm1.locals ≤ rm.locals) (hcs : k + rm1.cells ≤ rm.cells ∧ n + rm1.slots ≤ rm.slots) (hlen : As.length = na) (h8 : acs st ≤ 8) (d : decode cc pc = .ok (.invokespecial idx, 3)) (hst : st0 = As.reverse ++ aR (some b) :: st) (kk : ∀ (r : Option AV) (T2 : xT) (I2 : xI) (R2 : xR) (L2 : xL), Φ r T2 I2 R2 L2 → GX E X T2 I2 R2 L2 (k + rm1.cells) (n + rm1.slots) (pc + 3) lv (r.toList ++ st)) : GX E X T I R L k n pc lv st0 := by
  subst hst
  refine gx_after3 (mc := rm1.cells) (ms := rm1.slots) (a := ((aR (some b) :: As).map toV).toArray) hE ?_ kk
  obtain ⟨p, l, e, Rm, s, m, args, below, meth, c, A, Q, D, cl, tys⟩ := E
  obtain ⟨⟨hx, hb, hml, hown, hts, hrt, hlk, hK, hA⟩, ⟨rfl, rfl, rfl, rfl⟩, hAb, hbs, hEX⟩ := hE
  obtain rfl : Rm = rm := hR
  intro H locs ls hok hP hD hbz hU hsz
  refine va_runI (b := b) (As := As.map toV) ⟨hx, hb, hml, hown, hts⟩ (hM hok H.size) (cwI na hts hg rfl rfl rfl (hts _ hl2) (hts _ hl1) (hts _ hl3) hnm hd hrm) ⟨PcX.blind, fun U hU2 hW => ⟨rfl, by rw [hU2], by rw [hU2]; exact hP, va_K.moved hW.alike hK, hD.all, hbz, hU U hU2 hW⟩⟩ rfl (by rw [List.length_map]; exact hlen) (hsz.trans hml) ?_ (lv_room (stk8_of st 8 h8)) d hcs
  show ((As.reverse ++ aR (some b) :: st).map toV) = _
  simp [toV, va_rf]
theorem gx_callIN {E : GE} {X : XT} {own : String} {cc : ByteArray} {nL : Nat} {ret : Option FieldType} (hE : OkX E X own cc nL ret) {rm : Room} (hR : RmE E rm) {T : xT} {I : xI} {R : xR} {L : xL} {k n pc idx na : Nat} {lv : List LV} {st st0 As : List AV} {y : MethodName} {cc1 : ByteArray} {nL1 : Nat} {rm1 : Room} {Φ : xPhi} (hd : y.cls ≠ "java/lang/invoke/MethodHandle" ∧ y.cls ≠ "java/lang/invoke/VarHandle" ∧ (parseMethodDescriptor y.desc).map (fun d => d.parameters.length) = some na) {b : Nat} {host : String} (hg : GoodIn lw_all (ws_ y cc1 nL1 none)) (hl1 : Cond.methodLinkNest own idx y host ∈ lw_tbl) (hl2 : Cond.initialized y.cls ∈ lw_all) (hl3 : Cond.instanceMethod y ∈ lw_all) (hnm : y.name = "<init>") (hM : CtX X y cc1 nL1 none rm1 (aR (some b) :: As) T I R L Φ) (hrm : rm1.frames + 1 ≤ rm.frames ∧ 8 + (nL1 + 11) + rm1.locals ≤ rm.locals) (hcs : k + rm1.cells ≤ rm.cells ∧ n + rm1.slots ≤ rm.slots) (hlen : As.length = na) (h8 : acs st ≤ 8) (d : decode cc pc = .ok (.invokespecial idx, 3)) (hst : st0 = As.reverse ++ aR (some b) :: st) (kk : ∀ (r : Option AV) (T2 : xT) (I2 : xI) (R2 : xR) (L2 : xL), Φ r T2 I2 R2 L2 → GX E X T2 I2 R2 L2 (k + rm1.cells) (n + rm1.slots) (pc + 3) lv (r.toList ++ st)) : GX E X T I R L k n pc lv st0 := by
  subst hst
  refine gx_after3 (mc := rm1.cells) (ms := rm1.slots) (a := ((aR (some b) :: As).map toV).toArray) hE ?_ kk
  obtain ⟨p, l, e, Rm, s, m, args, below, meth, c, A, Q, D, cl, tys⟩ := E
  obtain ⟨⟨hx, hb, hml, hown, hts, hrt, hlk, hK, hA⟩, ⟨rfl, rfl, rfl, rfl⟩, hAb, hbs, hEX⟩ := hE
  obtain rfl : Rm = rm := hR
  intro H locs ls hok hP hD hbz hU hsz
  refine va_runIN (b := b) (As := As.map toV) ⟨hx, hb, hml, hown, hts⟩ (hM hok H.size) ⟨va_cnB na hts hg rfl rfl rfl (hEX.nw _ hl1 rfl) (hts _ hl2) hd hrm, hnm, hts _ hl3⟩ ⟨PcX.blind, fun U hU2 hW => ⟨rfl, by rw [hU2], by rw [hU2]; exact hP, va_K.moved hW.alike hK, hD.all, hbz, hU U hU2 hW⟩⟩ rfl (by rw [List.length_map]; exact hlen) (hsz.trans hml) ?_ (lv_room (stk8_of st 8 h8)) d hcs
  show ((As.reverse ++ aR (some b) :: st).map toV) = _
  simp [toV, va_rf]
theorem gx_callU {E : GE} {X : XT} {own : String} {cc : ByteArray} {nL : Nat} {ret : Option FieldType} (hE : OkX E X own cc nL ret) {rm : Room} (hR : RmE E rm) {T : xT} {I : xI} {R : xR} {L : xL} {k n pc idx na : Nat} {lv : List LV} {st st0 As : List AV} {y : MethodName} {cc1 : ByteArray} {nL1 : Nat} {ret1 : Option FieldType} {rm1 : Room} {Φ : xPhi} {b t : Nat} {C : String} {TN : u_T × Nat} (ht : xtag T b = t) (h0 : 0 < t) (h1 : t < 27) (hc : xCl[t - 1]? = some (C, TN)) {owner : String} {x : MethodName} (hd : owner ≠ "java/lang/invoke/MethodHandle" ∧ owner ≠ "java/lang/invoke/VarHandle" ∧ (parseMethodDescriptor x.desc).map (fun d => d.parameters.length) = some na) (hM : CtX X y cc1 nL1 ret1 rm1 (aR (some b) :: As) T I R L Φ) (hg : GoodIn lw_all (va_wsU own idx C owner x y (ws_ y cc1 nL1 ret1))) (hyx : y = ⟨owner, x.name, x.desc⟩) (hrm : rm1.frames + 1 ≤ rm.frames ∧ 8 + (nL1 + 11) + rm1.locals ≤ rm.locals) (hcs : k + rm1.cells ≤ rm.cells ∧ n + rm1.slots ≤ rm.slots) (hlen : As.length = na) (h8 : acs st ≤ 8) (d : decode cc pc = .ok (.invokevirtual idx, 3)) (hst : st0 = As.reverse ++ aR (some b) :: st) (kk : ∀ (r : Option AV) (T2 : xT) (I2 : xI) (R2 : xR) (L2 : xL), Φ r T2 I2 R2 L2 → GX E X T2 I2 R2 L2 (k + rm1.cells) (n + rm1.slots) (pc + 3) lv (r.toList ++ st)) : GX E X T I R L k n pc lv st0 := by
  subst hst
  refine gx_after3 (mc := rm1.cells) (ms := rm1.slots) (a := ((aR (some b) :: As).map toV).toArray) hE ?_ kk
  obtain ⟨p, l, e, Rm, s, m, args, below, meth, c, A, Q, D, cl, tys⟩ := E
  obtain ⟨⟨hx, hb, hml, hown, hts, hrt, hlk, hK, hA⟩, ⟨rfl, rfl, rfl, rfl⟩, hAb, hbs, hEX⟩ := hE
  obtain rfl : Rm = rm := hR
  intro H locs ls hok hP hD hbz hU hsz
  refine va_runU (C := C) (b := b) (As := As.map toV) ⟨hx, hb, hml, hown, hts⟩ (hM hok H.size) (va_cwU na hts hg rfl rfl rfl hyx hd hrm) ⟨PcX.blind, xobjS hok hP hK (by have h9 := hU (s.withHeap H) rfl (State.WarmedH.refl s); exact h9.2.2.2.2.2.1) ht h0 h1 hc, fun U hU2 hW => ⟨rfl, by rw [hU2], by rw [hU2]; exact hP, va_K.moved hW.alike hK, hD.all, hbz, hU U hU2 hW⟩⟩ rfl (by rw [List.length_map]; exact hlen) (hsz.trans hml) ?_ (lv_room (stk8_of st 8 h8)) d hcs
  show ((As.reverse ++ aR (some b) :: st).map toV) = _
  simp [toV, va_rf]
theorem gx_callO {E : GE} {X : XT} {own : String} {cc : ByteArray} {nL : Nat} {ret : Option FieldType} (hE : OkX E X own cc nL ret) {rm : Room} (hR : RmE E rm) {T : xT} {I : xI} {R : xR} {L : xL} {k n pc idx na : Nat} {lv : List LV} {st st0 As : List AV} {y : MethodName} {cc1 : ByteArray} {nL1 : Nat} {ret1 : Option FieldType} {rm1 : Room} {Φ : xPhi} {b t : Nat} {C : String} {TN : u_T × Nat} (ht : xtag T b = t) (h0 : 0 < t) (h1 : t < 27) (hc : xCl[t - 1]? = some (C, TN)) {owner : String} {x : MethodName} (hd : owner ≠ "java/lang/invoke/MethodHandle" ∧ owner ≠ "java/lang/invoke/VarHandle" ∧ (parseMethodDescriptor x.desc).map (fun d => d.parameters.length) = some na) (hM : CtX X y cc1 nL1 ret1 rm1 (aR (some b) :: As) T I R L Φ) (hg : GoodIn lw_all (va_wsO own idx C owner x y (ws_ y cc1 nL1 ret1))) {b0 : ByteArray} {m0 : Nat} {r0 : Option FieldType} (hc0 : Cond.code ⟨owner, x.name, x.desc⟩ b0 m0 r0 ∈ lw_all) (hrm : rm1.frames + 1 ≤ rm.frames ∧ 8 + (nL1 + 11) + rm1.locals ≤ rm.locals) (hcs : k + rm1.cells ≤ rm.cells ∧ n + rm1.slots ≤ rm.slots) (hlen : As.length = na) (h8 : acs st ≤ 8) (d : decode cc pc = .ok (.invokevirtual idx, 3)) (hst : st0 = As.reverse ++ aR (some b) :: st) (kk : ∀ (r : Option AV) (T2 : xT) (I2 : xI) (R2 : xR) (L2 : xL), Φ r T2 I2 R2 L2 → GX E X T2 I2 R2 L2 (k + rm1.cells) (n + rm1.slots) (pc + 3) lv (r.toList ++ st)) : GX E X T I R L k n pc lv st0 := by
  subst hst
  refine gx_after3 (mc := rm1.cells) (ms := rm1.slots) (a := ((aR (some b) :: As).map toV).toArray) hE ?_ kk
  obtain ⟨p, l, e, Rm, s, m, args, below, meth, c, A, Q, D, cl, tys⟩ := E
  obtain ⟨⟨hx, hb, hml, hown, hts, hrt, hlk, hK, hA⟩, ⟨rfl, rfl, rfl, rfl⟩, hAb, hbs, hEX⟩ := hE
  obtain rfl : Rm = rm := hR
  intro H locs ls hok hP hD hbz hU hsz
  refine va_runU (C := C) (b := b) (As := As.map toV) ⟨hx, hb, hml, hown, hts⟩ (hM hok H.size) (va_cwO na hts hg rfl rfl rfl hc0 hd hrm) ⟨PcX.blind, xobjS hok hP hK (by have h9 := hU (s.withHeap H) rfl (State.WarmedH.refl s); exact h9.2.2.2.2.2.1) ht h0 h1 hc, fun U hU2 hW => ⟨rfl, by rw [hU2], by rw [hU2]; exact hP, va_K.moved hW.alike hK, hD.all, hbz, hU U hU2 hW⟩⟩ rfl (by rw [List.length_map]; exact hlen) (hsz.trans hml) ?_ (lv_room (stk8_of st 8 h8)) d hcs
  show ((As.reverse ++ aR (some b) :: st).map toV) = _
  simp [toV, va_rf]
theorem gx_callP {E : GE} {X : XT} {own : String} {cc : ByteArray} {nL : Nat} {ret : Option FieldType} (hE : OkX E X own cc nL ret) {rm : Room} (hR : RmE E rm) {T : xT} {I : xI} {R : xR} {L : xL} {k n pc idx na : Nat} {lv : List LV} {st st0 As : List AV} {y : MethodName} {cc1 : ByteArray} {nL1 : Nat} {ret1 : Option FieldType} {rm1 : Room} {Φ : xPhi} {b t : Nat} {C : String} {TN : u_T × Nat} (ht : xtag T b = t) (h0 : 0 < t) (h1 : t < 27) (hc : xCl[t - 1]? = some (C, TN)) (hd : y.cls ≠ "java/lang/invoke/MethodHandle" ∧ y.cls ≠ "java/lang/invoke/VarHandle" ∧ (parseMethodDescriptor y.desc).map (fun d => d.parameters.length) = some na) (hM : CtX X y cc1 nL1 ret1 rm1 (aR (some b) :: As) T I R L Φ) {x0 : MethodName} (hg : GoodIn lw_all (ws_ y cc1 nL1 ret1)) (hl1 : Cond.methodLink own idx y ∈ lw_all) (hl2 : Cond.initialized y.cls ∈ lw_all) (hl3 : Cond.instanceMethod y ∈ lw_all) (hl4 : Cond.selects C x0 x0 ∈ lw_all) (hx0 : x0.cls = y.cls) (hpr : Cond.privateMethod y ∈ lw_tbl) (hrm : rm1.frames + 1 ≤ rm.frames ∧ 8 + (nL1 + 11) + rm1.locals ≤ rm.locals) (hcs : k + rm1.cells ≤ rm.cells ∧ n + rm1.slots ≤ rm.slots) (hlen : As.length = na) (h8 : acs st ≤ 8) (d : decode cc pc = .ok (.invokevirtual idx, 3)) (hst : st0 = As.reverse ++ aR (some b) :: st) (kk : ∀ (r : Option AV) (T2 : xT) (I2 : xI) (R2 : xR) (L2 : xL), Φ r T2 I2 R2 L2 → GX E X T2 I2 R2 L2 (k + rm1.cells) (n + rm1.slots) (pc + 3) lv (r.toList ++ st)) : GX E X T I R L k n pc lv st0 := by
  subst hst
  refine gx_after3 (mc := rm1.cells) (ms := rm1.slots) (a := ((aR (some b) :: As).map toV).toArray) hE ?_ kk
  obtain ⟨p, l, e, Rm, s, m, args, below, meth, c, A, Q, D, cl, tys⟩ := E
  obtain ⟨⟨hx, hb, hml, hown, hts, hrt, hlk, hK, hA⟩, ⟨rfl, rfl, rfl, rfl⟩, hAb, hbs, hEX⟩ := hE
  obtain rfl : Rm = rm := hR
  intro H locs ls hok hP hD hbz hU hsz
  refine va_runV (C := C) (b := b) (As := As.map toV) ⟨hx, hb, hml, hown, hts⟩ (hM hok H.size) ⟨callB_of na hts hg rfl rfl rfl (hts _ hl2) (hts _ hl1) hd hrm, hts _ hl3, selP ⟨hd.1, hd.2.1⟩ hx0 (hts _ hl4) (va_Nw.use rfl (hEX.nw _ hpr rfl)) (hts _ hl3)⟩ ⟨PcX.blind, xobjS hok hP hK (by have h9 := hU (s.withHeap H) rfl (State.WarmedH.refl s); exact h9.2.2.2.2.2.1) ht h0 h1 hc, fun U hU2 hW => ⟨rfl, by rw [hU2], by rw [hU2]; exact hP, va_K.moved hW.alike hK, hD.all, hbz, hU U hU2 hW⟩⟩ rfl (by rw [List.length_map]; exact hlen) (hsz.trans hml) ?_ (lv_room (stk8_of st 8 h8)) d hcs
  show ((As.reverse ++ aR (some b) :: st).map toV) = _
  simp [toV, va_rf]
theorem gx_callA {E : GE} {X : XT} {own : String} {cc : ByteArray} {nL : Nat} {ret : Option FieldType} (hE : OkX E X own cc nL ret) {rm : Room} (hR : RmE E rm) {T : xT} {I : xI} {R : xR} {L : xL} {k n pc idx na : Nat} {lv : List LV} {st st0 As : List AV} {y : MethodName} {cc1 : ByteArray} {nL1 : Nat} {ret1 : Option FieldType} {rm1 : Room} {Φ : xPhi} {b t : Nat} {C : String} {TN : u_T × Nat} (ht : xtag T b = t) (h0 : 0 < t) (h1 : t < 27) (hc : xCl[t - 1]? = some (C, TN)) {owner : String} {x : MethodName} (hd : owner ≠ "java/lang/invoke/MethodHandle" ∧ owner ≠ "java/lang/invoke/VarHandle" ∧ (parseMethodDescriptor x.desc).map (fun d => d.parameters.length) = some na) (hM : CtX X y cc1 nL1 ret1 rm1 (aR (some b) :: As) T I R L Φ) (hg : GoodIn lw_all (va_wsU own idx C owner x y (ws_ y cc1 nL1 ret1))) (hdc : Cond.declares ⟨owner, x.name, x.desc⟩ ∈ lw_tbl) (hrm : rm1.frames + 1 ≤ rm.frames ∧ 8 + (nL1 + 11) + rm1.locals ≤ rm.locals) (hcs : k + rm1.cells ≤ rm.cells ∧ n + rm1.slots ≤ rm.slots) (hlen : As.length = na) (h8 : acs st ≤ 8) (d : decode cc pc = .ok (.invokevirtual idx, 3)) (hst : st0 = As.reverse ++ aR (some b) :: st) (kk : ∀ (r : Option AV) (T2 : xT) (I2 : xI) (R2 : xR) (L2 : xL), Φ r T2 I2 R2 L2 → GX E X T2 I2 R2 L2 (k + rm1.cells) (n + rm1.slots) (pc + 3) lv (r.toList ++ st)) : GX E X T I R L k n pc lv st0 := by
  subst hst
  refine gx_after3 (mc := rm1.cells) (ms := rm1.slots) (a := ((aR (some b) :: As).map toV).toArray) hE ?_ kk
  obtain ⟨p, l, e, Rm, s, m, args, below, meth, c, A, Q, D, cl, tys⟩ := E
  obtain ⟨⟨hx, hb, hml, hown, hts, hrt, hlk, hK, hA⟩, ⟨rfl, rfl, rfl, rfl⟩, hAb, hbs, hEX⟩ := hE
  obtain rfl : Rm = rm := hR
  intro H locs ls hok hP hD hbz hU hsz
  refine va_runU (C := C) (b := b) (As := As.map toV) ⟨hx, hb, hml, hown, hts⟩ (hM hok H.size) (va_cwA na hts hg rfl rfl rfl (hEX.nw _ hdc rfl) hd hrm) ⟨PcX.blind, xobjS hok hP hK (by have h9 := hU (s.withHeap H) rfl (State.WarmedH.refl s); exact h9.2.2.2.2.2.1) ht h0 h1 hc, fun U hU2 hW => ⟨rfl, by rw [hU2], by rw [hU2]; exact hP, va_K.moved hW.alike hK, hD.all, hbz, hU U hU2 hW⟩⟩ rfl (by rw [List.length_map]; exact hlen) (hsz.trans hml) ?_ (lv_room (stk8_of st 8 h8)) d hcs
  show ((As.reverse ++ aR (some b) :: st).map toV) = _
  simp [toV, va_rf]
theorem gx_callSU {E : GE} {X : XT} {own : String} {cc : ByteArray} {nL : Nat} {ret : Option FieldType} (hE : OkX E X own cc nL ret) {rm : Room} (hR : RmE E rm) {T : xT} {I : xI} {R : xR} {L : xL} {k n pc idx na : Nat} {lv : List LV} {st st0 As : List AV} {y : MethodName} {cc1 : ByteArray} {nL1 : Nat} {ret1 : Option FieldType} {rm1 : Room} {Φ : xPhi} {b t : Nat} {C : String} {TN : u_T × Nat} (ht : xtag T b = t) (h0 : 0 < t) (h1 : t < 27) (hc : xCl[t - 1]? = some (C, TN)) (hd : y.name ≠ "<init>" ∧ (parseMethodDescriptor y.desc).map (fun d => d.parameters.length) = some na) (hM : CtX X y cc1 nL1 ret1 rm1 (aR (some b) :: As) T I R L Φ) (hg : GoodIn lw_all (va_wsSU own idx y (ws_ y cc1 nL1 ret1))) (hrm : rm1.frames + 1 ≤ rm.frames ∧ 8 + (nL1 + 11) + rm1.locals ≤ rm.locals) (hcs : k + rm1.cells ≤ rm.cells ∧ n + rm1.slots ≤ rm.slots) (hlen : As.length = na) (h8 : acs st ≤ 8) (d : decode cc pc = .ok (.invokespecial idx, 3)) (hst : st0 = As.reverse ++ aR (some b) :: st) (kk : ∀ (r : Option AV) (T2 : xT) (I2 : xI) (R2 : xR) (L2 : xL), Φ r T2 I2 R2 L2 → GX E X T2 I2 R2 L2 (k + rm1.cells) (n + rm1.slots) (pc + 3) lv (r.toList ++ st)) : GX E X T I R L k n pc lv st0 := by
  subst hst
  refine gx_after3 (mc := rm1.cells) (ms := rm1.slots) (a := ((aR (some b) :: As).map toV).toArray) hE ?_ kk
  obtain ⟨p, l, e, Rm, s, m, args, below, meth, c, A, Q, D, cl, tys⟩ := E
  obtain ⟨⟨hx, hb, hml, hown, hts, hrt, hlk, hK, hA⟩, ⟨rfl, rfl, rfl, rfl⟩, hAb, hbs, hEX⟩ := hE
  obtain rfl : Rm = rm := hR
  intro H locs ls hok hP hD hbz hU hsz
  refine va_runSU (C := C) (b := b) (As := As.map toV) ((hK.1 (t - 1) _ hc).2) ⟨hx, hb, hml, hown, hts⟩ (hM hok H.size) (va_cwSU na hts hg rfl rfl rfl hd hrm) ⟨PcX.blind, xobjS hok hP hK (by have h9 := hU (s.withHeap H) rfl (State.WarmedH.refl s); exact h9.2.2.2.2.2.1) ht h0 h1 hc, fun U hU2 hW => ⟨rfl, by rw [hU2], by rw [hU2]; exact hP, va_K.moved hW.alike hK, hD.all, hbz, hU U hU2 hW⟩⟩ rfl (by rw [List.length_map]; exact hlen) (hsz.trans hml) ?_ (lv_room (stk8_of st 8 h8)) d hcs
  show ((As.reverse ++ aR (some b) :: st).map toV) = _
  simp [toV, va_rf]
theorem gx_callF {E : GE} {X : XT} {own : String} {cc : ByteArray} {nL : Nat} {ret : Option FieldType} (hE : OkX E X own cc nL ret) {rm : Room} (hR : RmE E rm) {T : xT} {I : xI} {R : xR} {L : xL} {k n pc idx na : Nat} {lv : List LV} {st st0 As : List AV} {y : MethodName} {cc1 : ByteArray} {nL1 : Nat} {ret1 : Option FieldType} {rm1 : Room} {Φ : xPhi} {b t : Nat} {C : String} {TN : u_T × Nat} (ht : xtag T b = t) (h0 : 0 < t) (h1 : t < 27) (hc : xCl[t - 1]? = some (C, TN)) {x : MethodName} {cnt : Nat} (hfw : (C, x, y) ∈ fwL) (hd : x.cls ≠ "java/lang/invoke/MethodHandle" ∧ x.cls ≠ "java/lang/invoke/VarHandle" ∧ (parseMethodDescriptor x.desc).map (fun d => d.parameters.length) = some na) (hM : CtX X y cc1 nL1 ret1 rm1 (aR (some b) :: As) T I R L Φ) (hg : GoodIn lw_all (va_wsF own idx C x y (ws_ y cc1 nL1 ret1))) (hrm : rm1.frames + 1 ≤ rm.frames ∧ 8 + (nL1 + 11) + rm1.locals ≤ rm.locals) (hcs : k + rm1.cells ≤ rm.cells ∧ n + rm1.slots ≤ rm.slots) (hlen : As.length = na) (h8 : acs st ≤ 8) (d : decode cc pc = .ok (.invokeinterface idx cnt, 5)) (hst : st0 = As.reverse ++ aR (some b) :: st) (kk : ∀ (r : Option AV) (T2 : xT) (I2 : xI) (R2 : xR) (L2 : xL), Φ r T2 I2 R2 L2 → GX E X T2 I2 R2 L2 (k + rm1.cells) (n + rm1.slots) (pc + 5) lv (r.toList ++ st)) : GX E X T I R L k n pc lv st0 := by
  subst hst
  refine gx_after5 (mc := rm1.cells) (ms := rm1.slots) (a := ((aR (some b) :: As).map toV).toArray) hE ?_ kk
  obtain ⟨p, l, e, Rm, s, m, args, below, meth, c, A, Q, D, cl, tys⟩ := E
  obtain ⟨⟨hx, hb, hml, hown, hts, hrt, hlk, hK, hA⟩, ⟨rfl, rfl, rfl, rfl⟩, hAb, hbs, hEX⟩ := hE
  obtain rfl : Rm = rm := hR
  intro H locs ls hok hP hD hbz hU hsz
  refine va_runF (C := C) (b := b) (As := As.map toV) ((hK.1 (t - 1) _ hc).2) ⟨hx, hb, hml, hown, hts⟩ (hM hok H.size) (va_cwF na hts hg rfl rfl rfl (hEX.2.2.2.1 _ hfw) hd hrm) ⟨PcX.blind, xobjS hok hP hK (by have h9 := hU (s.withHeap H) rfl (State.WarmedH.refl s); exact h9.2.2.2.2.2.1) ht h0 h1 hc, fun U hU2 hW => ⟨rfl, by rw [hU2], by rw [hU2]; exact hP, va_K.moved hW.alike hK, hD.all, hbz, hU U hU2 hW⟩⟩ rfl (by rw [List.length_map]; exact hlen) (hsz.trans hml) ?_ (lv_room (stk8_of st 8 h8)) d hcs
  show ((As.reverse ++ aR (some b) :: st).map toV) = _
  simp [toV, va_rf]
theorem gy_callF {E : GE} {X : XT} {own : String} {cc : ByteArray} {nL : Nat} {ret : Option FieldType} (hE : OkX E X own cc nL ret) {rm : Room} (hR : RmE E rm) {T : xT} {I : xI} {R : xR} {L : xL} {k n pc idx na : Nat} {lv : List LV} {st st0 As : List AV} {y : MethodName} {cc1 : ByteArray} {nL1 : Nat} {ret1 : Option FieldType} {rm1 : Room} {Φ : xPhi} {Ψ : xPsi} {b t : Nat} {C : String} {TN : u_T × Nat} (ht : xtag T b = t) (h0 : 0 < t) (h1 : t < 27) (hc : xCl[t - 1]? = some (C, TN)) {x : MethodName} {cnt : Nat} (hfw : (C, x, y) ∈ fwL) (hd : x.cls ≠ "java/lang/invoke/MethodHandle" ∧ x.cls ≠ "java/lang/invoke/VarHandle" ∧ (parseMethodDescriptor x.desc).map (fun d => d.parameters.length) = some na) (hM : CtY X y cc1 nL1 ret1 rm1 (aR (some b) :: As) T I R L Φ Ψ) (hg : GoodIn lw_all (va_wsF own idx C x y (ws_ y cc1 nL1 ret1))) (hrm : rm1.frames + 1 ≤ rm.frames ∧ 8 + (nL1 + 11) + rm1.locals ≤ rm.locals) (hcs : k + rm1.cells ≤ rm.cells ∧ n + rm1.slots ≤ rm.slots) (hlen : As.length = na) (h8 : acs st ≤ 8) (d : decode cc pc = .ok (.invokeinterface idx cnt, 5)) (hst : st0 = As.reverse ++ aR (some b) :: st) (kk : ∀ (r : Option AV) (T2 : xT) (I2 : xI) (R2 : xR) (L2 : xL), Φ r T2 I2 R2 L2 → GX E X T2 I2 R2 L2 (k + rm1.cells) (n + rm1.slots) (pc + 5) lv (r.toList ++ st)) (kx : ∀ (Ec : String) (q : Nat) (T2 : xT) (I2 : xI) (R2 : xR) (L2 : xL), Ψ Ec q T2 I2 R2 L2 → GTX E X T2 I2 R2 L2 (k + rm1.cells) (n + rm1.slots) pc lv Ec q) : GX E X T I R L k n pc lv st0 := by
  subst hst
  refine gy_after5 (mc := rm1.cells) (ms := rm1.slots) (a := ((aR (some b) :: As).map toV).toArray) hE ?_ kk kx
  obtain ⟨p, l, e, Rm, s, m, args, below, meth, c, A, Q, D, cl, tys⟩ := E
  obtain ⟨⟨hx, hb, hml, hown, hts, hrt, hlk, hK, hA⟩, ⟨rfl, rfl, rfl, rfl⟩, hAb, hbs, hEX⟩ := hE
  obtain rfl : Rm = rm := hR
  intro H locs ls hok hP hD hbz hU hsz
  refine vy_runF (C := C) (b := b) (As := As.map toV) ((hK.1 (t - 1) _ hc).2) ⟨hx, hb, hml, hown, hts⟩ (hM hok H.size) (va_cwF na hts hg rfl rfl rfl (hEX.2.2.2.1 _ hfw) hd hrm) ⟨PcX.blind, xobjS hok hP hK (by have h9 := hU (s.withHeap H) rfl (State.WarmedH.refl s); exact h9.2.2.2.2.2.1) ht h0 h1 hc, fun U hU2 hW => ⟨rfl, by rw [hU2], by rw [hU2]; exact hP, va_K.moved hW.alike hK, hD.all, hbz, hU U hU2 hW⟩⟩ rfl (by rw [List.length_map]; exact hlen) (hsz.trans hml) ?_ (lv_room (stk8_of st 8 h8)) d hcs
  show ((As.reverse ++ aR (some b) :: st).map toV) = _
  simp [toV, va_rf]
theorem gx_callVW {E : GE} {X : XT} {own : String} {cc : ByteArray} {nL : Nat} {ret : Option FieldType} (hE : OkX E X own cc nL ret) {rm : Room} (hR : RmE E rm) {T : xT} {I : xI} {R : xR} {L : xL} {k n pc idx na : Nat} {lv : List LV} {st st0 As : List AV} {y : MethodName} {cc1 : ByteArray} {nL1 : Nat} {ret1 : Option FieldType} {rm1 : Room} {Φ : xPhi} {hh : List (Nat × Nat × Nat × Nat)} {b t : Nat} {C : String} {TN : u_T × Nat} (ht : xtag T b = t) (h0 : 0 < t) (h1 : t < 27) (hc : xCl[t - 1]? = some (C, TN)) (hd : y.cls = C ∧ y.cls ≠ "java/lang/invoke/MethodHandle" ∧ y.cls ≠ "java/lang/invoke/VarHandle" ∧ (parseMethodDescriptor y.desc).map (fun d => d.parameters.length) = some na) (hM : CtW X y cc1 nL1 ret1 hh rm1 (aR (some b) :: As) T I R L Φ) (hg : GoodIn lw_all (wsV own idx C y (wsW_ y cc1 nL1 ret1 hh))) (hrm : rm1.frames + 1 ≤ rm.frames ∧ 8 + (nL1 + 11) + rm1.locals ≤ rm.locals) (hcs : k + rm1.cells ≤ rm.cells ∧ n + rm1.slots ≤ rm.slots) (hlen : As.length = na) (h8 : acs st ≤ 8) (d : decode cc pc = .ok (.invokevirtual idx, 3)) (hst : st0 = As.reverse ++ aR (some b) :: st) (kk : ∀ (r : Option AV) (T2 : xT) (I2 : xI) (R2 : xR) (L2 : xL), Φ r T2 I2 R2 L2 → GX E X T2 I2 R2 L2 (k + rm1.cells) (n + rm1.slots) (pc + 3) lv (r.toList ++ st)) : GX E X T I R L k n pc lv st0 := by
  subst hst
  refine gx_after3 (mc := rm1.cells) (ms := rm1.slots) (a := ((aR (some b) :: As).map toV).toArray) hE ?_ kk
  obtain ⟨p, l, e, Rm, s, m, args, below, meth, c, A, Q, D, cl, tys⟩ := E
  obtain ⟨⟨hx, hb, hml, hown, hts, hrt, hlk, hK, hA⟩, ⟨rfl, rfl, rfl, rfl⟩, hAb, hbs, hEX⟩ := hE
  obtain rfl : Rm = rm := hR
  intro H locs ls hok hP hD hbz hU hsz
  refine vy_runVW (C := C) (b := b) (As := As.map toV) ⟨hx, hb, hml, hown, hts⟩ (hM hok H.size) (vy_cwVW na hts hg rfl rfl rfl hd hrm) ⟨PcX.blind, xobjS hok hP hK (by have h9 := hU (s.withHeap H) rfl (State.WarmedH.refl s); exact h9.2.2.2.2.2.1) ht h0 h1 hc, fun U hU2 hW => ⟨rfl, by rw [hU2], by rw [hU2]; exact hP, va_K.moved hW.alike hK, hD.all, hbz, hU U hU2 hW⟩⟩ rfl (by rw [List.length_map]; exact hlen) (hsz.trans hml) ?_ (lv_room (stk8_of st 8 h8)) d hcs
  show ((As.reverse ++ aR (some b) :: st).map toV) = _
  simp [toV, va_rf]
/-- Object.<init> -/
theorem gx_objInit {E : GE} {X : XT} {own : String} {cc : ByteArray} {nL : Nat} {ret : Option FieldType} (hE : OkX E X own cc nL ret) {T : xT} {I : xI} {R : xR} {L : xL} {k n pc : Nat} {lv : List LV} {st : List AV} {rm : Room} (hR : RmE E rm) {a : Option Nat} {idx b : Nat} (ha : a = some b) (h1 : Cond.methodLink own idx Lib.objectInit ∈ lw_all) (h2 : Cond.instanceMethod Lib.objectInit ∈ lw_all) (h3 : Cond.code Lib.objectInit ⟨#[0xb1]⟩ 1 none ∈ lw_all) (hf : 1 ≤ rm.frames) (hlo : 20 ≤ rm.locals) (h8 : acs st ≤ 8) (d : decode cc pc = .ok (.invokespecial idx, 3)) (h : GX E X T I R L k n (pc + 3) lv st) : GX E X T I R L k n pc lv (aR a :: st) := by
  subst ha
  obtain ⟨p, l, e, Rm, s, m, args, below, meth, c, A, Q, D, cl, tys⟩ := E
  obtain ⟨⟨hx, hb, hml, hown, hts, hr, hlk, hK, hA⟩, ⟨rfl, rfl, rfl, rfl⟩, hAb, hbs, hEX⟩ := hE
  intro hok H locs ls hz hP hD hS hl
  obtain rfl : Rm = rm := hR
  have hst := stk8_of st 8 h8
  have h9 := lv_room (m := m) (pc := pc) (ls := ls) (rest := toV (aR (some b)) :: st.map toV) (st := st.map toV) hst
  refine W.objInit hx hb hown (hts _ h1) (hts _ h2) (hts _ h3) rfl hl.1 rfl d hf (by exact Nat.le_trans (Nat.add_le_add_right h9 12) hlo) ?_
  exact h hok H locs ls hz hP hD hS hl

