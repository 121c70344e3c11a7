/-! THE SYSTEM's WORLD: more rows: bytes, Strings, copying, casts, calls of privates, lookups -/
set_option maxRecDepth 100000
theorem tle.tag {T T' : xT} (h : tle T T') {a t : Nat} (ht : xtag T a = t) (h0 : t ≠ 0) : xtag T' a = t := ((h a (by rw [ht]; exact h0)).1).trans ht
theorem tle.len {T T' : xT} (h : tle T T') {a t : Nat} (ht : xtag T a = t) (h0 : t ≠ 0) : xlen T' a = xlen T a := (h a (by rw [ht]; exact h0)).2
/-- an int as 32 bits -/
def wr (x : Int) : Int := (iI x).toInt
theorem wr_in (x : Int) : inR (wr x) := by
  unfold wr
  have h1 := Int32.le_toInt (iI x)
  have h2 := Int32.toInt_lt (iI x)
  unfold inR
  omega
theorem iI_wr (x : Int) : iI (wr x) = iI x := by
  unfold wr iI
  exact Int32.ofInt_toInt _
theorem wr_of {x : Int} (h : inR x) : wr x = x := iI_to h
theorem g_wr {E : GE} {ws : va_W} {z : Option Nat} {k n pc : Nat} {lv : List LV} {st : List AV} {x : Int} (h : G E ws z k n pc lv (aI (wr x) :: st)) : G E ws z k n pc lv (aI x :: st) := by
  obtain ⟨p, l, e, Rm, s, m, args, below, meth, c, A, Q, D, cl, tys⟩ := E
  intro H locs ls hz hP hD hS hl
  have h9 := h H locs ls hz hP hD hS hl
  have e9 : (aI (wr x) :: st).map toV = (aI x :: st).map toV := by
    show Value.int (iI (wr x)) :: st.map toV = Value.int (iI x) :: st.map toV
    rw [iI_wr]
  rw [e9] at h9
  exact h9
def xOb (t : Nat) : Prop := t = 2 ∨ (18 ≤ t ∧ t ≤ 24)
def xOrd (t : Nat) : Prop := 18 ≤ t ∧ t ≤ 24
theorem lkoff {d x : Int} : ∀ (l : List (Int × Int)), (∀ q ∈ l, x ≠ q.1) → Op.lookupswitch.offset l d x = d
  | [], _ => rfl
  | (a, o) :: r, h => by
    rw [Op.lookupswitch.offset_cons, if_neg (fun e => h (a, o) List.mem_cons_self e.symm)]
    exact lkoff r (fun q hq => h q (List.mem_cons_of_mem _ hq))
theorem lkin {d x : Int} : ∀ (l : List (Int × Int)), (∃ q ∈ l, x = q.1) → ∃ (i : Nat) (q : Int × Int), l[i]? = some q ∧ x = q.1 ∧ Op.lookupswitch.offset l d x = q.2
  | [], h => by obtain ⟨q, hq, -⟩ := h; cases hq
  | (a, o) :: r, h => by
    by_cases e : x = a
    · exact ⟨0, (a, o), rfl, e, by rw [Op.lookupswitch.offset_cons, if_pos e.symm]⟩
    · obtain ⟨q, hq, hx⟩ := h
      have hq2 : q ∈ r := by
        rcases List.mem_cons.mp hq with h1 | h1
        · rw [h1] at hx; exact absurd hx e
        · exact h1
      obtain ⟨i, q2, h1, h2, h3⟩ := lkin (d := d) r ⟨q, hq2, hx⟩
      exact ⟨i + 1, q2, h1, h2, by rw [Op.lookupswitch.offset_cons, if_neg (fun z => e z.symm)]; exact h3⟩
theorem g_lookup {E : GE} {own : String} {cc : ByteArray} {nL : Nat} {ret : Option FieldType} (hE : OkE E own cc nL ret) {ws : va_W} {z : Option Nat} {k n pc : Nat} {lv : List LV} {st : List AV} {dflt : Int} {ps : Array (Int × Int)} {len : Nat} {x : Int} (d : decode cc pc = .ok (.lookupswitch dflt ps, len)) (hxr : inR x) (hp : (ps.toList.zip (ps.toList.drop 1)).all (fun (a, next) => a.1 < next.1) = true) (td : Nat) (htd : (pc : Int) + dflt = (td : Int)) (ts : List Nat) (hts : ps.toList.map (fun q => (pc : Int) + q.2) = ts.map (fun (t : Nat) => (t : Int))) (ko : (∀ q ∈ ps.toList, x ≠ q.1) → G E ws z k n td lv st) (ki : ∀ (i t : Nat) (q : Int × Int), ps.toList[i]? = some q → ts[i]? = some t → x = q.1 → G E ws z k n t lv st) : G E ws z k n pc lv (aI x :: st) := by
  obtain ⟨p, l, e, Rm, s, m, args, below, meth, c, A, Q, D, cl, tys⟩ := E
  obtain ⟨hx, hb, hml, hown, htt, hr, hlk, hK, hA⟩ := hE
  intro H locs ls hz hP hD hS hl
  have ex : (iI x).toInt = x := iI_to hxr
  by_cases ho : ∃ q ∈ ps.toList, x = q.1
  · obtain ⟨i, q, h1, h2, h3⟩ := lkin (d := dflt) ps.toList ho
    have e2 := congrArg (fun (l : List Int) => l[i]?) hts
    simp only [List.getElem?_map, h1, Option.map_some] at e2
    cases ht : ts[i]? with
    | none => rw [ht] at e2; cases e2
    | some t =>
      rw [ht] at e2
      exact lv_lookup hx hb d hp (by rw [ex]; exact h3) (Option.some.inj e2) (ki i t q h1 ht h2 H locs ls hz hP hD hS hl)
  · have h1 : ∀ q ∈ ps.toList, x ≠ q.1 := fun q hq e => ho ⟨q, hq, e⟩
    exact lv_lookup hx hb d hp (by rw [ex]; exact lkoff ps.toList h1) htd (ko h1 H locs ls hz hP hD hS hl)

theorem gx_bald {E : GE} {X : XT} {own : String} {cc : ByteArray} {nL : Nat} {ret : Option FieldType} (hE : OkX E X own cc nL ret) {T : xT} {I : xI} {R : xR} {L : xL} {k n pc : Nat} {lv : List LV} {st : List AV} {a : Nat} {i : Int} (ht : xtag T a = 101) (hb2 : ib i (xlen T a)) (hlen : xlen T a < 2147483648) (d : decode cc pc = .ok (.baload, 1)) (h : GX E X T I R L k n (pc + 1) lv (aI (I a i) :: st)) : GX E X T I R L k n pc lv (aI i :: aR (some a) :: st) := by
  obtain ⟨p, l, e, Rm, s, m, args, below, meth, c, A, Q, D, cl, tys⟩ := E
  obtain ⟨⟨hx, hb, hml, hown, hts, hr, hlk, hK, hA⟩, ⟨rfl, rfl, rfl, rfl⟩, hAb, hbs, hEX⟩ := hE
  intro hok H locs ls hz hP hD hS hl
  have hRo : RoOk X H := hEX.2.2.2.2.2.1.kept fun q hq => hS.2.1 q (by omega) (fun h9 => by have := hAb q h9; omega)
  obtain ⟨ws, q, hP9, hq1⟩ := xpicB hok hP hRo ht
  have e9 := toN_int hb2.1
  refine va_bald hx hb hK hP9 q 1 hq1 (xTy_at X (t := 101) (by omega) (by omega)) (iI_in hb2.1 hb2.2 hlen) d ?_
  rw [iI_clamp hb2.1 (by have := hb2.2; omega)]
  have e8 : Value.int (iI (I a ((i.toNat : Nat) : Int))) = .int (iI (I a i)) := by rw [e9]
  first | rw [e8] | (dsimp only; rw [e8]) | skip
  exact h hok H locs ls hz hP hD hS hl
theorem gx_alenB {E : GE} {X : XT} {own : String} {cc : ByteArray} {nL : Nat} {ret : Option FieldType} (hE : OkX E X own cc nL ret) {T : xT} {I : xI} {R : xR} {L : xL} {k n pc : Nat} {lv : List LV} {st : List AV} {a : Nat} (ht : xtag T a = 101) (d : decode cc pc = .ok (.arraylength, 1)) (h : GX E X T I R L k n (pc + 1) lv (aI (xlen T a) :: st)) : GX E X T I R L k n pc lv (aR (some a) :: st) := by
  obtain ⟨p, l, e, Rm, s, m, args, below, meth, c, A, Q, D, cl, tys⟩ := E
  obtain ⟨⟨hx, hb, hml, hown, hts, hr, hlk, hK, hA⟩, ⟨rfl, rfl, rfl, rfl⟩, hAb, hbs, hEX⟩ := hE
  intro hok H locs ls hz hP hD hS hl
  have hRo : RoOk X H := hEX.2.2.2.2.2.1.kept fun q hq => hS.2.1 q (by omega) (fun h9 => by have := hAb q h9; omega)
  obtain ⟨ws, q, hP9, hq1⟩ := xpicB hok hP hRo ht
  exact va_alen hx hb hK hP9 q 1 hq1 (xTy_at X (t := 101) (by omega) (by omega)) (v := iI (xlen T a)) (by
    show Int32.ofNat (xlen T a) = Int32.ofInt ((xlen T a : Nat) : Int)
    rfl) d (h hok H locs ls hz hP hD hS hl)
/-- an object of the claim's into an array of Objects -/
theorem gx_aastA {E : GE} {X : XT} {own : String} {cc : ByteArray} {nL : Nat} {ret : Option FieldType} (hE : OkX E X own cc nL ret) {T : xT} {I : xI} {R : xR} {L : xL} {k n pc : Nat} {lv : List LV} {st : List AV} {a v : Nat} {i : Int} (ht : xtag T a = 103) (hv : xOb (xtag T v)) (hb2 : ib i (xlen T a)) (hlen : xlen T a < 2147483648) (d : decode cc pc = .ok (.aastore, 1)) (h : GX E X T I (uR R a i (some v)) L k n (pc + 1) lv st) : GX E X T I R L k n pc lv (aR (some v) :: aI i :: aR (some a) :: st) := by
  have h9 : xtag T v = 2 ∨ xtag T v = 18 ∨ xtag T v = 19 ∨ xtag T v = 20 ∨ xtag T v = 21 ∨ xtag T v = 22 ∨ xtag T v = 23 ∨ xtag T v = 24 := by unfold xOb at hv; omega
  rcases h9 with e | e | e | e | e | e | e | e
  · exact gx_aastO hE ht (tv := 2) e (by decide) (by decide) rfl q2605 hb2 hlen d h
  · exact gx_aastO hE ht (tv := 18) e (by decide) (by decide) rfl q2626 hb2 hlen d h
  · exact gx_aastO hE ht (tv := 19) e (by decide) (by decide) rfl q2627 hb2 hlen d h
  · exact gx_aastO hE ht (tv := 20) e (by decide) (by decide) rfl q2628 hb2 hlen d h
  · exact gx_aastO hE ht (tv := 21) e (by decide) (by decide) rfl q2629 hb2 hlen d h
  · exact gx_aastO hE ht (tv := 22) e (by decide) (by decide) rfl q2630 hb2 hlen d h
  · exact gx_aastO hE ht (tv := 23) e (by decide) (by decide) rfl q2631 hb2 hlen d h
  · exact gx_aastO hE ht (tv := 24) e (by decide) (by decide) rfl q2632 hb2 hlen d h
/-- to Order -/
theorem gx_castOrd {E : GE} {X : XT} {own : String} {cc : ByteArray} {nL : Nat} {ret : Option FieldType} (hE : OkX E X own cc nL ret) {T : xT} {I : xI} {R : xR} {L : xL} {k n pc : Nat} {lv : List LV} {st : List AV} {a idx : Nat} (hv : xOrd (xtag T a)) (hq : Cond.classLink own idx "WhalingLogs$Order" ∈ lw_all) (d : decode cc pc = .ok (.checkcast idx, 3)) (h : GX E X T I R L k n (pc + 3) lv (aR (some a) :: st)) : GX E X T I R L k n pc lv (aR (some a) :: st) := by
  have h9 : xtag T a = 18 ∨ xtag T a = 19 ∨ xtag T a = 20 ∨ xtag T a = 21 ∨ xtag T a = 22 ∨ xtag T a = 23 ∨ xtag T a = 24 := by unfold xOrd at hv; omega
  rcases h9 with e | e | e | e | e | e | e
  · exact gx_castY hE (t := 18) e (by decide) (by decide) rfl hq q1941 d h
  · exact gx_castY hE (t := 19) e (by decide) (by decide) rfl hq q1977 d h
  · exact gx_castY hE (t := 20) e (by decide) (by decide) rfl hq q1962 d h
  · exact gx_castY hE (t := 21) e (by decide) (by decide) rfl hq q1953 d h
  · exact gx_castY hE (t := 22) e (by decide) (by decide) rfl hq q1970 d h
  · exact gx_castY hE (t := 23) e (by decide) (by decide) rfl hq q1984 d h
  · exact gx_castY hE (t := 24) e (by decide) (by decide) rfl hq q1934 d h
/-- to an array of bytes -/
theorem gx_castB {E : GE} {X : XT} {own : String} {cc : ByteArray} {nL : Nat} {ret : Option FieldType} (hE : OkX E X own cc nL ret) {T : xT} {I : xI} {R : xR} {L : xL} {k n pc : Nat} {lv : List LV} {st : List AV} {a idx : Nat} (ht : xtag T a = 101) (hq : Cond.classLink own idx "[B" ∈ lw_all) (d : decode cc pc = .ok (.checkcast idx, 3)) (h : GX E X T I R L k n (pc + 3) lv (aR (some a) :: st)) : GX E X T I R L k n pc lv (aR (some a) :: st) := by
  obtain ⟨p, l, e, Rm, s, m, args, below, meth, c, A, Q, D, cl, tys⟩ := E
  obtain ⟨⟨hx, hb, hml, hown, hts, hr, hlk, hK, hA⟩, ⟨rfl, rfl, rfl, rfl⟩, hAb, hbs, hEX⟩ := hE
  intro hok H locs ls hz hP hD hS hl
  have hRo : RoOk X H := hEX.2.2.2.2.2.1.kept fun q hq => hS.2.1 q (by omega) (fun h9 => by have := hAb q h9; omega)
  obtain ⟨ws, q, hP9, hq1⟩ := xpicB hok hP hRo ht
  exact va_castA hx hb hown (hts _ hq) hP9 q hq1 hEX.2.2.2.2.2.2.2.1 d (h hok H locs ls hz hP hD hS hl)
/-- a String is a String -/
theorem gx_castStr {E : GE} {X : XT} {own : String} {cc : ByteArray} {nL : Nat} {ret : Option FieldType} (hE : OkX E X own cc nL ret) {T : xT} {I : xI} {R : xR} {L : xL} {k n pc : Nat} {lv : List LV} {st : List AV} {a idx : Nat} (ht : xtag T a = 25) (hq : Cond.classLink own idx "java/lang/String" ∈ lw_all) (d : decode cc pc = .ok (.checkcast idx, 3)) (h : GX E X T I R L k n (pc + 3) lv (aR (some a) :: st)) : GX E X T I R L k n pc lv (aR (some a) :: st) := by
  obtain ⟨p, l, e, Rm, s, m, args, below, meth, c, A, Q, D, cl, tys⟩ := E
  obtain ⟨⟨hx, hb, hml, hown, hts, hr, hlk, hK, hA⟩, ⟨rfl, rfl, rfl, rfl⟩, hAb, hbs, hEX⟩ := hE
  intro hok H locs ls hz hP hD hS hl
  have hRo : RoOk X H := hEX.2.2.2.2.2.1.kept fun q hq => hS.2.1 q (by omega) (fun h9 => by have := hAb q h9; omega)
  exact va_castS (nm := "java/lang/String") hx hb hown (hts _ hq) (hK.1 24 _ rfl).2 (xobjS hok hP hK hRo ht (by decide) (by decide) (r := (RJ8, TJ8, 4)) rfl) d (h hok H locs ls hz hP hD hS hl)
theorem gx_instStr {E : GE} {X : XT} {own : String} {cc : ByteArray} {nL : Nat} {ret : Option FieldType} (hE : OkX E X own cc nL ret) {T : xT} {I : xI} {R : xR} {L : xL} {k n pc : Nat} {lv : List LV} {st : List AV} {a idx : Nat} (ht : xtag T a = 25) (hq : Cond.classLink own idx "java/lang/String" ∈ lw_all) (d : decode cc pc = .ok (.instanceof idx, 3)) (h : GX E X T I R L k n (pc + 3) lv (aI 1 :: st)) : GX E X T I R L k n pc lv (aR (some a) :: st) := by
  obtain ⟨p, l, e, Rm, s, m, args, below, meth, c, A, Q, D, cl, tys⟩ := E
  obtain ⟨⟨hx, hb, hml, hown, hts, hr, hlk, hK, hA⟩, ⟨rfl, rfl, rfl, rfl⟩, hAb, hbs, hEX⟩ := hE
  intro hok H locs ls hz hP hD hS hl
  have hRo : RoOk X H := hEX.2.2.2.2.2.1.kept fun q hq => hS.2.1 q (by omega) (fun h9 => by have := hAb q h9; omega)
  exact va_instS (nm := "java/lang/String") hx hb hown (hts _ hq) (hK.1 24 _ rfl).2 (xobjS hok hP hK hRo ht (by decide) (by decide) (r := (RJ8, TJ8, 4)) rfl) d (h hok H locs ls hz hP hD hS hl)
/-- a text -/
theorem gx_ldcS {E : GE} {X : XT} {own : String} {cc : ByteArray} {nL : Nat} {ret : Option FieldType} (hE : OkX E X own cc nL ret) {T : xT} {I : xI} {R : xR} {L : xL} {k n pc : Nat} {lv : List LV} {st : List AV} {i idx : Nat} {txt : String} {bs9 : List Int} (hq : litL[i]? = some (own, idx, txt, bs9)) (d : decode cc pc = .ok (.ldc idx, 2)) (h : ∀ b v : Nat, srX X (10 + i) = some b → xtag T b = 25 → R b 0 = some v → I b 1 = 0 → xtag T v = 101 → xlen T v = bs9.length → (∀ j : Nat, j < bs9.length → I v (j : Int) = bs9.getD j 0) → GX E X T I R L k n (pc + 2) lv (aR (some b) :: st)) : GX E X T I R L k n pc lv st := by
  obtain ⟨p, l, e, Rm, s, m, args, below, meth, c, A, Q, D, cl, tys⟩ := E
  obtain ⟨⟨hx, hb, hml, hown, hts, hr, hlk, hK, hA⟩, ⟨rfl, rfl, rfl, rfl⟩, hAb, hbs, hEX⟩ := hE
  intro hok H locs ls hz hP hD hS hl
  obtain ⟨b, v, f, fI, gI, fR, ⟨g1, g2⟩, g3, g4, g5, g6, fR2, g7, g8⟩ := hEX.2.2.2.2.2.2.1 i _ hq
  obtain ⟨-, z2, -, z4, z5, -⟩ := hok.2.2.2 b _ g4
  obtain ⟨-, y2, y3, y4, -, -⟩ := hok.2.2.2 v _ g7
  have h9 := h b v g3 z2 (by rw [z5]; exact g5) (by rw [z4]; exact g6) y2 y3 (fun j hj => by rw [y4]; exact g8 j hj) hok H locs ls hz hP hD hS hl
  intro T0 hT X0
  obtain ⟨t, a1, b1⟩ := h9 T0 hT X0
  have g1' : (Cond.stringRef own idx txt).before args s = true := g1
  have g2' : (Term.string own idx).eval args s none [] s = some (.ref b) := g2
  exact ⟨t, X0.ldcString hx (own := own) (text := txt) (index := idx) (a := b) hown g1' g2' (g := F0 m pc ls (st.map toV)) rfl (by rw [hb]; exact d) _ a1, b1⟩

theorem xok.chI {X : XT} {T : xT} {I I' : xI} {R : xR} {L : xL} (h : xok X T I R L) {a : Nat} (ha : a ∈ T.1) (hI : ∀ b, b ≠ a → I' b = I b) : xok X T I' R L := by
  refine ⟨h.1, fun b hb j => ?_, h.2.2.1, fun b c hc => ?_⟩
  · obtain ⟨h1, h2⟩ := h.2.1 b hb j
    have hne : b ≠ a := fun e => (h.1 a).mpr (Or.inl ha) (e ▸ hb)
    exact ⟨(congrFun (hI b hne) j).trans h1, h2⟩
  · obtain ⟨z1, z2, z3, z4, z5⟩ := h.2.2.2 b c hc
    have hne : b ≠ a := fun e => by have := h.2.2.1 a ha; omega
    exact ⟨z1, z2, z3, (hI b hne).trans z4, z5⟩
theorem xok.chL {X : XT} {T : xT} {I : xI} {R : xR} {L L' : xL} (h : xok X T I R L) {a : Nat} (ha : a ∈ T.1) (hI : ∀ b, b ≠ a → L' b = L b) : xok X T I R L' := by
  refine ⟨h.1, fun b hb j => ?_, h.2.2.1, h.2.2.2⟩
  obtain ⟨h1, h2, h3⟩ := h.2.1 b hb j
  have hne : b ≠ a := fun e => (h.1 a).mpr (Or.inl ha) (e ▸ hb)
  exact ⟨h1, h2, (congrFun (hI b hne) j).trans h3⟩
/-- a stretch copied -/
def cpI (I : xI) (a : Nat) (sp : Int) (b : Nat) (dp n : Int) : xI := fun x j => if x = b ∧ dp ≤ j ∧ j < dp + n then I a (sp + (j - dp)) else I x j
def cpL (L : xL) (a : Nat) (sp : Int) (b : Nat) (dp n : Int) : xL := fun x j => if x = b ∧ dp ≤ j ∧ j < dp + n then L a (sp + (j - dp)) else L x j
theorem cpI_o {I : xI} {a : Nat} {sp : Int} {b : Nat} {dp n : Int} (x : Nat) (hx : x ≠ b) : cpI I a sp b dp n x = I x := funext fun j => if_neg (fun q => hx q.1)
theorem cpL_o {I : xL} {a : Nat} {sp : Int} {b : Nat} {dp n : Int} (x : Nat) (hx : x ≠ b) : cpL I a sp b dp n x = I x := funext fun j => if_neg (fun q => hx q.1)
theorem cp_fun {I : xI} {a : Nat} {sp : Int} {b : Nat} {dp n : Int} (h1 : 0 ≤ sp) (h2 : 0 ≤ dp) (h3 : 0 ≤ n) : va_cpy (fun (j : Nat) => iI (I a j)) (fun (j : Nat) => iI (I b j)) sp.toNat dp.toNat n.toNat = fun (j : Nat) => iI (cpI I a sp b dp n b j) := by
  funext k
  unfold va_cpy cpI
  by_cases h : dp.toNat ≤ k ∧ k < dp.toNat + n.toNat
  · rw [if_pos h, if_pos ⟨rfl, by omega, by omega⟩]
    have e : ((sp.toNat + (k - dp.toNat) : Nat) : Int) = sp + ((k : Int) - dp) := by omega
    show iI (I a ((sp.toNat + (k - dp.toNat) : Nat) : Int)) = _
    rw [e]
  · rw [if_neg h, if_neg (fun q => h ⟨by omega, by omega⟩)]
theorem cp_funL {I : xL} {a : Nat} {sp : Int} {b : Nat} {dp n : Int} (h1 : 0 ≤ sp) (h2 : 0 ≤ dp) (h3 : 0 ≤ n) : va_cpy (fun (j : Nat) => I a j) (fun (j : Nat) => I b j) sp.toNat dp.toNat n.toNat = fun (j : Nat) => cpL I a sp b dp n b j := by
  funext k
  unfold va_cpy cpL
  by_cases h : dp.toNat ≤ k ∧ k < dp.toNat + n.toNat
  · rw [if_pos h, if_pos ⟨rfl, by omega, by omega⟩]
    have e : ((sp.toNat + (k - dp.toNat) : Nat) : Int) = sp + ((k : Int) - dp) := by omega
    show I a ((sp.toNat + (k - dp.toNat) : Nat) : Int) = _
    rw [e]
  · rw [if_neg h, if_neg (fun q => h ⟨by omega, by omega⟩)]
theorem gx_copyI {E : GE} {X : XT} {own : String} {cc : ByteArray} {nL : Nat} {ret : Option FieldType} (hE : OkX E X own cc nL ret) {T : xT} {I : xI} {R : xR} {L : xL} {k n pc : Nat} {lv : List LV} {st : List AV} {rm : Room} (hR : RmE E rm) {a b idx : Nat} {sp dp n9 : Int} (h1 : Cond.methodLink own idx arraycopyName ∈ lw_all) (h2 : Cond.native arraycopyName ∈ lw_all) (h3 : Cond.static arraycopyName ∈ lw_all) (h4 : Cond.initialized "java/lang/System" ∈ lw_all) (ha : xtag T a = 100) (hb9 : xtag T b = 100) (hsp : 0 ≤ sp ∧ sp < 2147483648) (hdp : 0 ≤ dp ∧ dp < 2147483648) (hn9 : 0 ≤ n9 ∧ n9 < 2147483648) (hs1 : sp + n9 ≤ xlen T a) (hs2 : dp + n9 ≤ xlen T b) (hf : 1 ≤ rm.frames) (hlo : 64 ≤ rm.locals) (h8 : acs st ≤ 8) (d : decode cc pc = .ok (.invokestatic idx, 3)) (h : GX E X T (cpI I a sp b dp n9) R L k n (pc + 3) lv st) : GX E X T I R L k n pc lv (aI n9 :: aI dp :: aR (some b) :: aI sp :: aR (some a) :: st) := by
  obtain ⟨p, l, e, Rm, s, m, args, below, meth, c, A, Q, D, cl, tys⟩ := E
  obtain ⟨⟨hx, hb, hml, hown, hts, hr, hlk, hK, hA⟩, ⟨rfl, rfl, rfl, rfl⟩, hAb, hbs, hEX⟩ := hE
  intro hok H locs ls hz hP hD hS hl
  obtain rfl : Rm = rm := hR
  have hst := stk8_of st 8 h8
  have hdm := hok.dom hb9 (by omega) (by omega) (by omega)
  obtain ⟨q0, -, hq0⟩ := wsX_at X T I R L (hok.dom ha (by omega) (by omega) (by omega))
  obtain ⟨q1, hq1a, hq1⟩ := wsX_at X T I R L hdm
  have hch := wsX_set (I' := (cpI I a sp b dp n9)) (R' := R) (L' := L) hD hq1a (fun x hx n t => by unfold ceX fvX arX; simp only [cpI_o x hx])
  rw [ha, ceX_arr (by omega)] at hq0
  rw [hb9, ceX_arr (by omega)] at hq1 hch
  have c1 : (iI sp).toNatClampNeg = sp.toNat := iI_clamp hsp.1 hsp.2
  have c2 : (iI dp).toNatClampNeg = dp.toNat := iI_clamp hdp.1 hdp.2
  have c3 : (iI n9).toNatClampNeg = n9.toNat := iI_clamp hn9.1 hn9.2
  have e64 : nativeFrameWords "java/lang/System" "arraycopy" 5 + 11 ≤ 56 := by decide
  refine va_copyi (ty := xAt 100) (rest := st.map toV) hx hb hl.1.symm hown (hts _ h1) (hts _ h2) (hts _ h3) (hts _ h4) hK hP hD hS q0 q1 (100 - 100) (100 - 100) hq0 hq1 (xTy_at X (t := 100) (by omega) (by omega)) (xTy_at X (t := 100) (by omega) (by omega)) rfl (iI_nn hsp) (iI_nn hdp) (iI_nn hn9) (by rw [c1, c3]; omega) (by rw [c2, c3]; omega) (fun i hi => rfl) hf (by omega) d (fun H1 locs1 hP1 hD1 hS1 => ?_)
  rw [c1, c2, c3, cp_fun hsp.1 hdp.1 hn9.1] at hP1 hD1
  have e8 : ((caX X (100 - 100), xlen T b, Sum.inl (fun (j : Nat) => iI (cpI I a sp b dp n9 b j))) : ClassId × vp_A) = (caX X (100 - 100), arX 100 (cpI I a sp b dp n9) R L b (xlen T b)) := rfl
  rw [e8, hch] at hP1 hD1
  exact h (hok.chI hdm (fun x hx => cpI_o x hx)) H1 locs1 ls zno hP1 hD1 hS1 hl
theorem gx_copyL {E : GE} {X : XT} {own : String} {cc : ByteArray} {nL : Nat} {ret : Option FieldType} (hE : OkX E X own cc nL ret) {T : xT} {I : xI} {R : xR} {L : xL} {k n pc : Nat} {lv : List LV} {st : List AV} {rm : Room} (hR : RmE E rm) {a b idx : Nat} {sp dp n9 : Int} (h1 : Cond.methodLink own idx arraycopyName ∈ lw_all) (h2 : Cond.native arraycopyName ∈ lw_all) (h3 : Cond.static arraycopyName ∈ lw_all) (h4 : Cond.initialized "java/lang/System" ∈ lw_all) (ha : xtag T a = 102) (hb9 : xtag T b = 102) (hsp : 0 ≤ sp ∧ sp < 2147483648) (hdp : 0 ≤ dp ∧ dp < 2147483648) (hn9 : 0 ≤ n9 ∧ n9 < 2147483648) (hs1 : sp + n9 ≤ xlen T a) (hs2 : dp + n9 ≤ xlen T b) (hf : 1 ≤ rm.frames) (hlo : 64 ≤ rm.locals) (h8 : acs st ≤ 8) (d : decode cc pc = .ok (.invokestatic idx, 3)) (h : GX E X T I R (cpL L a sp b dp n9) k n (pc + 3) lv st) : GX E X T I R L k n pc lv (aI n9 :: aI dp :: aR (some b) :: aI sp :: aR (some a) :: st) := by
  obtain ⟨p, l, e, Rm, s, m, args, below, meth, c, A, Q, D, cl, tys⟩ := E
  obtain ⟨⟨hx, hb, hml, hown, hts, hr, hlk, hK, hA⟩, ⟨rfl, rfl, rfl, rfl⟩, hAb, hbs, hEX⟩ := hE
  intro hok H locs ls hz hP hD hS hl
  obtain rfl : Rm = rm := hR
  have hst := stk8_of st 8 h8
  have hdm := hok.dom hb9 (by omega) (by omega) (by omega)
  obtain ⟨q0, -, hq0⟩ := wsX_at X T I R L (hok.dom ha (by omega) (by omega) (by omega))
  obtain ⟨q1, hq1a, hq1⟩ := wsX_at X T I R L hdm
  have hch := wsX_set (I' := I) (R' := R) (L' := (cpL L a sp b dp n9)) hD hq1a (fun x hx n t => by unfold ceX fvX arX; simp only [cpL_o x hx])
  rw [ha, ceX_arr (by omega)] at hq0
  rw [hb9, ceX_arr (by omega)] at hq1 hch
  have c1 : (iI sp).toNatClampNeg = sp.toNat := iI_clamp hsp.1 hsp.2
  have c2 : (iI dp).toNatClampNeg = dp.toNat := iI_clamp hdp.1 hdp.2
  have c3 : (iI n9).toNatClampNeg = n9.toNat := iI_clamp hn9.1 hn9.2
  have e64 : nativeFrameWords "java/lang/System" "arraycopy" 5 + 11 ≤ 56 := by decide
  refine va_copyl (ty := xAt 102) (rest := st.map toV) hx hb hl.1.symm hown (hts _ h1) (hts _ h2) (hts _ h3) (hts _ h4) hK hP hD hS q0 q1 (102 - 100) (102 - 100) hq0 hq1 (xTy_at X (t := 102) (by omega) (by omega)) (xTy_at X (t := 102) (by omega) (by omega)) rfl (iI_nn hsp) (iI_nn hdp) (iI_nn hn9) (by rw [c1, c3]; omega) (by rw [c2, c3]; omega) (fun i hi => rfl) hf (by omega) d (fun H1 locs1 hP1 hD1 hS1 => ?_)
  rw [c1, c2, c3, cp_funL hsp.1 hdp.1 hn9.1] at hP1 hD1
  have e8 : ((caX X (102 - 100), xlen T b, Sum.inr (Sum.inl (fun (j : Nat) => cpL L a sp b dp n9 b j))) : ClassId × vp_A) = (caX X (102 - 100), arX 102 I R (cpL L a sp b dp n9) b (xlen T b)) := rfl
  rw [e8, hch] at hP1 hD1
  exact h (hok.chL hdm (fun x hx => cpL_o x hx)) H1 locs1 ls zno hP1 hD1 hS1 hl
/-- bytes copied, out of our own or out of a text -/
theorem gx_copyB {E : GE} {X : XT} {own : String} {cc : ByteArray} {nL : Nat} {ret : Option FieldType} (hE : OkX E X own cc nL ret) {T : xT} {I : xI} {R : xR} {L : xL} {k n pc : Nat} {lv : List LV} {st : List AV} {rm : Room} (hR : RmE E rm) {a b idx : Nat} {sp dp n9 : Int} (h1 : Cond.methodLink own idx arraycopyName ∈ lw_all) (h2 : Cond.native arraycopyName ∈ lw_all) (h3 : Cond.static arraycopyName ∈ lw_all) (h4 : Cond.initialized "java/lang/System" ∈ lw_all) (ha : xtag T a = 101) (hb9 : xtag T b = 101) (hsp : 0 ≤ sp ∧ sp < 2147483648) (hdp : 0 ≤ dp ∧ dp < 2147483648) (hn9 : 0 ≤ n9 ∧ n9 < 2147483648) (hs1 : sp + n9 ≤ xlen T a) (hs2 : dp + n9 ≤ xlen T b) (hbb : bsX X ≤ b ∧ ∀ j : Int, fits .byte (.int (iI (I a j))) = true) (hf : 1 ≤ rm.frames) (hlo : 64 ≤ rm.locals) (h8 : acs st ≤ 8) (d : decode cc pc = .ok (.invokestatic idx, 3)) (h : GX E X T (cpI I a sp b dp n9) R L k n (pc + 3) lv st) : GX E X T I R L k n pc lv (aI n9 :: aI dp :: aR (some b) :: aI sp :: aR (some a) :: st) := by
  obtain ⟨p, l, e, Rm, s, m, args, below, meth, c, A, Q, D, cl, tys⟩ := E
  obtain ⟨⟨hx, hb, hml, hown, hts, hr, hlk, hK, hA⟩, ⟨rfl, rfl, rfl, rfl⟩, hAb, hbs, hEX⟩ := hE
  intro hok H locs ls hz hP hD hS hl
  have hRo : RoOk X H := hEX.2.2.2.2.2.1.kept fun q hq => hS.2.1 q (by omega) (fun h9 => by have := hAb q h9; omega)
  obtain rfl : Rm = rm := hR
  have hst := stk8_of st 8 h8
  have hdm := hok.domW hb9 (by omega) hbb.1
  obtain ⟨ws0, q0, hP0, hq0⟩ := xpicB hok hP hRo ha
  obtain ⟨q1, hq1a, hq1⟩ := wsX_at X T I R L hdm
  have hch := wsX_set (I' := cpI I a sp b dp n9) (R' := R) (L' := L) hD hq1a (fun x hx n t => by unfold ceX fvX arX; simp only [cpI_o x hx])
  rw [hb9, ceX_arr (by omega)] at hq1 hch
  have c1 : (iI sp).toNatClampNeg = sp.toNat := iI_clamp hsp.1 hsp.2
  have c2 : (iI dp).toNatClampNeg = dp.toNat := iI_clamp hdp.1 hdp.2
  have c3 : (iI n9).toNatClampNeg = n9.toNat := iI_clamp hn9.1 hn9.2
  have t1 : (iI sp).toInt = sp := iI_to ⟨by omega, hsp.2⟩
  have t2 : (iI dp).toInt = dp := iI_to ⟨by omega, hdp.2⟩
  have t3 : (iI n9).toInt = n9 := iI_to ⟨by omega, hn9.2⟩
  have ht0 := xTy_at X (t := 101) (by omega) (by omega)
  have hc0 : H[a]? = some (vp_cell (caX X 1) (xlen T a, .inl (fun (j : Nat) => iI (I a j)))) := hP0 q0 _ hq0
  have hc1 : H[b]? = some (vp_cell (caX X 1) (xlen T b, .inl (fun (j : Nat) => iI (I b j)))) := hP q1 _ hq1
  obtain ⟨-, k0, hk0, cm0, hkk0⟩ := (hK.2 1 _ ht0).1 0 (fun _ => .null)
  have e64 : nativeFrameWords "java/lang/System" "arraycopy" 5 + 11 ≤ 56 := by decide
  intro T0 hT X0
  obtain ⟨vm', X', step⟩ := X0.arraycopy hx hown (hts _ h1) (hts _ h2) (hts _ h3) (hts _ h4) (src := a) (dst := b) (cs := vp_cell (caX X 1) (xlen T a, .inl (fun (j : Nat) => iI (I a j)))) (cd := vp_cell (caX X 1) (xlen T b, .inl (fun (j : Nat) => iI (I b j)))) (srcPos := iI sp) (destPos := iI dp) (n := iI n9) (by rw [hT]; exact hc0) (by rw [hT]; exact hc1)
    (fun _ z => by cases z) (fun _ z => by cases z) (fun z => by cases z) (fun z => by cases z) hk0 hk0 hkk0 hkk0 rfl (iI_nn hsp) (iI_nn hdp) (iI_nn hn9)
    (by rw [t1, t3]; show ¬ _ > ((arrV (caX X 1) (xlen T a) _).slots.size : Int); rw [arrV_size]; omega)
    (by rw [t2, t3]; show ¬ _ > ((arrV (caX X 1) (xlen T b) _).slots.size : Int); rw [arrV_size]; omega)
    (fun vm₁ _ i hi => by
      rw [c3] at hi
      have e : (vp_cell (caX X 1) (xlen T a, .inl (fun (j : Nat) => iI (I a j)))).slots.getD ((iI sp).toNatClampNeg + i) .null = .int (iI (I a (((iI sp).toNatClampNeg + i : Nat) : Int))) := by
        show (arrV (caX X 1) (xlen T a) (fun (j : Nat) => .int (iI (I a j)))).slots.getD _ _ = _
        rw [Array.getD_eq_getD_getElem?, arrV_read _ _ (by rw [c1]; omega)]
        rfl
      rw [e]
      exact ⟨hbb.2 _, trivial⟩)
    (g := F0 m pc ls (.int (iI n9) :: .int (iI dp) :: .ref b :: .int (iI sp) :: .ref a :: st.map toV)) rfl (by rw [hl.1]) (rest := st.map toV) rfl (by rw [hb]; exact d) hf (by show 2 * 0 + (List.map (fun v => v.category) (st.map toV)).sum + (nativeFrameWords "java/lang/System" "arraycopy" 5 + 11) ≤ _; omega)
  have e1 : copied (vp_cell (caX X 1) (xlen T a, .inl (fun (j : Nat) => iI (I a j)))) (vp_cell (caX X 1) (xlen T b, .inl (fun (j : Nat) => iI (I b j)))) (iI sp) (iI dp) (iI n9) = vp_cell (caX X 1) (xlen T b, .inl (fun (j : Nat) => iI (cpI I a sp b dp n9 b j))) := by
    have e2 : copied (vp_cell (caX X 1) (xlen T a, .inl (fun (j : Nat) => iI (I a j)))) (vp_cell (caX X 1) (xlen T b, .inl (fun (j : Nat) => iI (I b j)))) (iI sp) (iI dp) (iI n9) = vp_cell (caX X 1) (xlen T b, .inl (va_cpy (fun (j : Nat) => iI (I a j)) (fun (j : Nat) => iI (I b j)) (iI sp).toNatClampNeg (iI dp).toNatClampNeg (iI n9).toNatClampNeg)) := va_copied (n1 := xlen T b) (dp := (iI dp).toNatClampNeg) (fun z => Value.int z) (caX X 1) (caX X 1) (fun (j : Nat) => iI (I a j)) (fun (j : Nat) => iI (I b j)) (show (iI sp).toNatClampNeg + (iI n9).toNatClampNeg ≤ xlen T a by rw [c1, c3]; omega)
    rw [e2, c1, c2, c3, cp_fun hsp.1 hdp.1 hn9.1]
  rw [e1] at X' step
  generalize hv9 : vp_cell (caX X 1) (xlen T b, .inl (fun (j : Nat) => iI (cpI I a sp b dp n9 b j))) = cv at X' step
  have hlt : b < H.size := (Array.getElem?_eq_some_iff.mp hc1).1
  have hheap : ((T0.setVm vm').setCell b cv).heap = H.setIfInBounds b cv := by rw [← hT]; rfl
  have oq : ∀ q : Nat, q ≠ b → (H.setIfInBounds b cv)[q]? = H[q]? := fun q hq => by simp [Array.getElem?_setIfInBounds, Ne.symm hq]
  have hset : (H.setIfInBounds b cv)[b]? = some cv := by simp [Array.getElem?_setIfInBounds, hlt]
  have e8 : ((caX X 1, xlen T b, .inl (fun (j : Nat) => iI (cpI I a sp b dp n9 b j))) : ClassId × vp_A) = (caX X (101 - 100), arX 101 (cpI I a sp b dp n9) R L b (xlen T b)) := rfl
  have hP1 := hP.set hD (e := .inl (caX X (101 - 100), arX 101 (cpI I a sp b dp n9) R L b (xlen T b))) hq1 (show va_at (dX X) xCl (b, .inl (caX X (101 - 100), arX 101 (cpI I a sp b dp n9) R L b (xlen T b))) (H.setIfInBounds b cv) from show (H.setIfInBounds b cv)[b]? = some (vp_cell (caX X 1) (xlen T b, .inl (fun (j : Nat) => iI (cpI I a sp b dp n9 b j)))) by rw [hset, hv9]) oq
  have hD1 := hD.set (e := .inl (caX X (101 - 100), arX 101 (cpI I a sp b dp n9) R L b (xlen T b))) hq1
  rw [hch] at hP1 hD1
  obtain ⟨t, a1, b1⟩ := h (hok.chI hdm (fun x hx => cpI_o x hx)) (H.setIfInBounds b cv) _ ls zno hP1 hD1 ⟨by simp; exact hS.1, fun q g1 g2 => by
      rw [oq q (fun e => g2 (by rw [e]; exact hD.2 q1 _ hq1))]
      exact hS.2.1 q g1 g2, fun q hq => by
      rcases List.mem_append.mp hq with z | z
      · exact hS.2.2 q z
      · obtain ⟨w, -, hw⟩ := List.mem_map.mp z
        rw [← hw]
        exact hD.2 q1 _ hq1⟩ hl _ hheap X'
  exact ⟨t, step t a1, b1⟩
def clI (I : xI) (a q : Nat) : xI := fun x j => if x = q then I a j else I x j
theorem clI_o {I : xI} {a q : Nat} (x : Nat) (hx : x ≠ q) : clI I a q x = I x := funext fun j => if_neg hx
theorem clI_at {I : xI} {a q : Nat} : clI I a q q = I a := funext fun j => if_pos rfl
theorem wsX_cl {X : XT} {T : xT} {I : xI} {R : xR} {L : xL} (h : xok X T I R L) {a q n : Nat} (hq : xtag T q = 0) : wsX X T I R L ++ [(q, Sum.inl (caX X 1, n, .inl (fun (j : Nat) => iI (I a j))))] = wsX X (xnew T q 101 n) (clI I a q) R L := by
  unfold wsX
  show _ = (T.1 ++ [q]).map _
  rw [List.map_append]
  congr 1
  · apply List.map_congr_left
    intro b hb
    have hne : b ≠ q := fun e => (h.1 b).mpr (Or.inl hb) (e ▸ hq)
    have e1 : xtag (xnew T q 101 n) b = xtag T b := if_neg hne
    have e2 : xlen (xnew T q 101 n) b = xlen T b := if_neg hne
    rw [e1, e2]
    unfold ceX fvX arX
    simp only [clI_o b hne]
  · have e1 : xtag (xnew T q 101 n) q = 101 := if_pos rfl
    have e2 : xlen (xnew T q 101 n) q = n := if_pos rfl
    show _ = [(q, ceX X (xtag (xnew T q 101 n) q) (xlen (xnew T q 101 n) q) (clI I a q) R L q)]
    rw [e1, e2, ceX_arr (by omega)]
    unfold arX
    rw [clI_at]
    rfl
theorem gx_cloneB {E : GE} {X : XT} {own : String} {cc : ByteArray} {nL : Nat} {ret : Option FieldType} (hE : OkX E X own cc nL ret) {T : xT} {I : xI} {R : xR} {L : xL} {k n pc : Nat} {lv : List LV} {st : List AV} {rm : Room} (hR : RmE E rm) {a idx : Nat} (h1 : Cond.methodLink own idx ⟨"[B", "clone", "()Ljava/lang/Object;"⟩ ∈ lw_all) (h2 : Cond.sameMethod "[B" "java/lang/Object" "clone" "()Ljava/lang/Object;" ∈ lw_all) (h3 : Cond.native ⟨"java/lang/Object", "clone", "()Ljava/lang/Object;"⟩ ∈ lw_all) (h4 : Cond.instanceMethod ⟨"java/lang/Object", "clone", "()Ljava/lang/Object;"⟩ ∈ lw_all) (h5 : Cond.selects "[B" ⟨"[B", "clone", "()Ljava/lang/Object;"⟩ ⟨"java/lang/Object", "clone", "()Ljava/lang/Object;"⟩ ∈ lw_all) (h6 : Cond.castable "[B" "java/lang/Cloneable" ∈ lw_tbl) (ht : xtag T a = 101) (hbb : bsX X ≤ a) (hfit : ∀ j : Int, fits .byte (.int (iI (I a j))) = true) (hf : 1 ≤ rm.frames) (hlo : 22 ≤ rm.locals) (hcs : k + 1 ≤ rm.cells) (hss : n + xlen T a ≤ rm.slots) (h8 : acs st ≤ 8) (d : decode cc pc = .ok (.invokevirtual idx, 3)) (h : ∀ q : Nat, xtag T q = 0 → bsX X ≤ q → GX E X (xnew T q 101 (xlen T a)) (clI I a q) R L (k + 1) (n + xlen T a) (pc + 3) lv (aR (some q) :: st)) : GX E X T I R L k n pc lv (aR (some a) :: st) := by
  obtain ⟨p, l, e, Rm, s, m, args, below, meth, c, A, Q, D, cl, tys⟩ := E
  obtain ⟨⟨hx, hb, hml, hown, hts, hr, hlk, hK, hA⟩, ⟨rfl, rfl, rfl, rfl⟩, hAb, hbs, hEX⟩ := hE
  intro hok H locs ls hz hP hD hS hl
  obtain rfl : Rm = rm := hR
  have hst := stk8_of st 8 h8
  obtain ⟨q0, -, hq0⟩ := wsX_at X T I R L (hok.domW ht (by omega) hbb)
  rw [ht, ceX_arr (by omega)] at hq0
  refine va_clone (rest := st.map toV) (ty := .byte) hx hb hl.1.symm hown (hts _ h1) (hts _ h2) (hts _ h3) (hts _ h4) (hts _ h5) (hEX.nw _ h6 rfl) hK hP hD hS hA q0 1 hq0 (xTy_at X (t := 101) (by omega) (by omega)) hEX.2.2.2.2.2.2.2.1 (fun i v hv => ?_) hf (by omega) hcs hss d (fun q H1 hK1 hP1 hD1 hS1 => ?_)
  · have hv2 : (arrV (caX X 1) (xlen T a) (fun (j : Nat) => Value.int (iI (I a j)))).slots[i]? = some v := hv
    by_cases hi : i < xlen T a
    · rw [arrV_read _ _ hi] at hv2
      cases hv2
      exact hfit i
    · rw [Array.getElem?_eq_none (by rw [arrV_size]; omega)] at hv2
      cases hv2
  · obtain ⟨hq, hbq⟩ := xfresh hok hAb hD1
    have e8 : (Sum.inl (caX X (101 - 100), arX 101 I R L a (xlen T a)) : va_E) = Sum.inl (caX X 1, xlen T a, .inl (fun (j : Nat) => iI (I a j))) := rfl
    rw [e8, wsX_cl hok hq] at hP1 hD1
    have hok2 := hok.new (n := xlen T a) hq (t := 101) (by omega) hbq
    refine h q hq hbq (hok2.chI (a := q) ?_ (fun x hx => clI_o x hx)) H1 locs ls zno hP1 hD1 hS1 hl
    exact List.mem_append_right _ List.mem_cons_self
/-- the default method that an Entry takes from its interface -/
theorem vz_runD {p : Program} {l : Launch} {e : Env} {R : Room} {s : State} {m : MethodId} {args : Array Value} {below : List Frame} {meth : Method} {c : Code} {H : Heap} {locs : List Loc} {cells slots : Nat} {bytes cc : ByteArray} {maxL nL mc ms n index count : Nat} {ret : Option FieldType} {ws : List Cond} {rm : Room} {Pc : Array Value → State → Prop} {Qc : Array Value → State → Outcome → State → Prop} {free : Addr → Prop} {Ts : List Cond} {own : String} {cC : ClassId} {b : Addr} {As rest : List Value} {g : JFrame}
    (hat : ClassAt s "WhalingLogs$Entry" cC) (S : CallFix p m c cc nL s args Ts own) (hM : Met l dfX ws rm Pc Qc mc ms free) (cb : rm.cells = mc ∧ rm.slots = ms ∧ rm.frames + 1 ≤ R.frames ∧ 8 + (maxL + 11) + rm.locals ≤ R.locals ∧ (∀ w ∈ ws, ∀ (a' : Array Value) (U : State), s.WarmedH U.vm → w.before a' U = true) ∧ Cond.code dfX bytes maxL ret ∈ ws) (hini : (Cond.initialized dfX.cls).before args s = true) (hinst : (Cond.instanceMethod dfX).before args s = true) (hlink : (Cond.methodLink own index dfX).before args s = true) (hdf : DfOk s) (hn9 : ∀ sig, parseMethodDescriptor dfX.desc = some sig → n = sig.parameters.length) (hp : PreV s H "WhalingLogs$Entry" b Pc As)
    (hg : g.method = m) (hn : As.length = n) (hsize : g.locals.size = nL) (hstack : g.stack = As.reverse ++ .ref b :: rest) (hW : 2 * g.monitorRoom + (rest.map fun v => v.category).sum ≤ 8) (hdg : decode cc g.pc = .ok (.invokeinterface index count, 5)) (hf : cells + mc ≤ R.cells ∧ slots + ms ≤ R.slots) :
    va_Run5 p l e R s m args below meth c H locs cells slots mc ms g rest (Qc (Value.ref b :: As).toArray) (free) := by
  obtain ⟨hrc, hrs, hfr, hlo, hws, hcw⟩ := cb
  have hK : Back l R p e below s args dfX 5 8 (PreOf R mc ms Pc) (PostOf Qc mc ms free) := back_of (bytes := bytes) (maxL := maxL) (ret := ret) hM hp.1 hrc hrs hfr hlo hws hcw (fun a' U hW => word_at hW (Or.inl (by first | rfl | simp [Cond.onTables, Cond.keeps, Cond.steady])) hini)
  obtain ⟨hx, hb, hml, ho, -⟩ := S
  obtain ⟨-, ⟨cellB, hcB, hoB, hclB⟩, hPc⟩ := hp
  obtain ⟨hfc, kB, hkB, -⟩ := hat
  cases hfc.symm.trans hclB
  obtain ⟨d1, d2, d3, d4, d5⟩ := hdf
  intro T hT X
  obtain ⟨v, vm₁, ⟨U', l2, c2, s2⟩, hW₁, X', ⟨g', mk, t, L, e1, e2, hq, h1, hL, h2, h3⟩, st⟩ := X.interfaceBackD hx (C := "WhalingLogs$Entry") (xi := dfX) (y := dfX) ho hlink (va_any rfl d4) (va_any rfl d2) d1 hinst (va_any rfl d3) (va_any rfl d5) (by decide +kernel) hK hfc hkB (b := b) ⟨cellB, by rw [hT]; exact hcB, rfl, hoB⟩ hg (hsize.trans hml.symm) (Steps.refl _) (argsL := As) (rest := rest) (fun sig h => hn.trans (hn9 sig h)) hstack hW (by rw [hb]; exact hdg)
    (fun vm₁ hW₁ => ⟨hf.1, hf.2, hPc (T.setVm vm₁) hT hW₁⟩)
  dsimp only [Pt.U, Pt.locs, Pt.cells, Pt.slots] at X' e1 e2 h1 h2 h3 st
  subst h1; subst h2; subst h3
  exact ⟨v, (T.setVm vm₁).calling g' mk (Value.ref b :: As).toArray, t, U', L, hT, X', hL, e1, e2, hq, fun tg h => st.trans h⟩
theorem gx_callDf {E : GE} {X : XT} {own : String} {cc : ByteArray} {nL : Nat} {ret : Option FieldType} (hE : OkX E X own cc nL ret) {rm : Room} (hR : RmE E rm) {T : xT} {I : xI} {R : xR} {L : xL} {k n pc idx na cnt : Nat} {lv : List LV} {st st0 As : List AV} {cc1 : ByteArray} {nL1 : Nat} {ret1 : Option FieldType} {rm1 : Room} {Φ : xPhi} {b : Nat} (ht : xtag T b = 12) (hd : (parseMethodDescriptor dfX.desc).map (fun d => d.parameters.length) = some na) (hM : CtX X dfX cc1 nL1 ret1 rm1 (aR (some b) :: As) T I R L Φ) (hg : GoodIn lw_all (ws_ dfX cc1 nL1 ret1)) (hl1 : Cond.methodLink own idx dfX ∈ lw_all) (hl2 : Cond.initialized dfX.cls ∈ lw_all) (hl3 : Cond.instanceMethod dfX ∈ lw_all) (hrm : rm1.frames + 1 ≤ rm.frames ∧ 8 + (nL1 + 11) + rm1.locals ≤ rm.locals) (hcs : k + rm1.cells ≤ rm.cells ∧ n + rm1.slots ≤ rm.slots) (hlen : As.length = na) (h8 : acs st ≤ 8) (d : decode cc pc = .ok (.invokeinterface idx cnt, 5)) (hst : st0 = As.reverse ++ aR (some b) :: st) (kk : ∀ (r : Option AV) (T2 : xT) (I2 : xI) (R2 : xR) (L2 : xL), Φ r T2 I2 R2 L2 → GX E X T2 I2 R2 L2 (k + rm1.cells) (n + rm1.slots) (pc + 5) lv (r.toList ++ st)) : GX E X T I R L k n pc lv st0 := by
  subst hst
  refine gx_after5 (mc := rm1.cells) (ms := rm1.slots) (a := ((aR (some b) :: As).map toV).toArray) hE ?_ kk
  obtain ⟨p, l, e, Rm, s, m, args, below, meth, c, A, Q, D, cl, tys⟩ := E
  obtain ⟨⟨hx, hb, hml, hown, hts, hrt, hlk, hK, hA⟩, ⟨rfl, rfl, rfl, rfl⟩, hAb, hbs, hEX⟩ := hE
  obtain rfl : Rm = rm := hR
  intro H locs ls hok hP hD hbz hU hsz
  refine vz_runD (n := na) (b := b) (As := As.map toV) (hK.1 11 _ rfl).2 ⟨hx, hb, hml, hown, hts⟩ (hM hok H.size) ⟨rfl, rfl, hrm.1, hrm.2, pay_in hts hg, List.mem_cons_self⟩ (hts _ hl2) (hts _ hl3) (hts _ hl1) hEX.2.2.2.2.2.2.2.2.1 (fun sig h => ?_) ⟨PcX.blind, xobjS hok hP hK (by have h9 := hU (s.withHeap H) rfl (State.WarmedH.refl s); exact h9.2.2.2.2.2.1) ht (by decide) (by decide) (r := (RX6, TX6, 4)) rfl, fun U hU2 hW => ⟨rfl, by rw [hU2], by rw [hU2]; exact hP, va_K.moved hW.alike hK, hD.all, hbz, hU U hU2 hW⟩⟩ rfl (by rw [List.length_map]; exact hlen) (hsz.trans hml) ?_ (lv_room (stk8_of st 8 h8)) d hcs
  · rw [h] at hd
    exact (Option.some.inj hd).symm
  · show ((As.reverse ++ aR (some b) :: st).map toV) = _
    simp [toV, va_rf]
