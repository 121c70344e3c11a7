/-! THE SYSTEM's WORLD: arrays, making, casts, contracts, returns, calls -/
set_option maxRecDepth 100000
def xAt (t : Nat) : FieldType := match t with
  | 100 => .int
  | 101 => .byte
  | 102 => .long
  | 103 => .object "java/lang/Object"
  | _ => .object "WhalingLogs$Entry"
theorem xTy_at (X : XT) {t : Nat} (h : 100 ≤ t) (h2 : t < 105) : (xTy X)[t - 100]? = some (caX X (t - 100), xAt t) := by
  rcases (show t = 100 ∨ t = 101 ∨ t = 102 ∨ t = 103 ∨ t = 104 by omega) with rfl | rfl | rfl | rfl | rfl <;> rfl

theorem gx_iald {E : GE} {X : XT} {own : String} {cc : ByteArray} {nL : Nat} {ret : Option FieldType} (hE : OkX E X own cc nL ret) {T : xT} {I : xI} {R : xR} {L : xL} {k n pc : Nat} {lv : List LV} {st : List AV} {a : Nat} {i : Int} (ht : xtag T a = 100) (hb2 : ib i (xlen T a)) (hlen : xlen T a < 2147483648) (d : decode cc pc = .ok (.iaload, 1)) (h : GX E X T I R L k n (pc + 1) lv (aI (I a i) :: st)) : GX E X T I R L k n pc lv (aI i :: aR (some a) :: st) := by
  obtain ⟨p, l, e, Rm, s, m, args, below, meth, c, A, Q, D, cl, tys⟩ := E
  obtain ⟨⟨hx, hb, hml, hown, hts, hr, hlk, hK, hA⟩, ⟨rfl, rfl, rfl, rfl⟩, hAb, hbs, hEX⟩ := hE
  intro hok H locs ls hz hP hD hS hl
  have hdm := hok.dom ht (by omega) (by omega) (by omega)
  obtain ⟨q, hq0, hq1⟩ := wsX_at X T I R L hdm
  rw [ht, ceX_arr (by omega)] at hq1
  have hl9 : xlen T a < 2147483648 := hlen
  have e9 := toN_int hb2.1
  refine va_iald hx hb hK hP q (100 - 100) hq1 (xTy_at X (t := 100) (by omega) (by omega)) (iI_in hb2.1 hb2.2 hl9) d ?_
  rw [iI_clamp hb2.1 (by have := hb2.2; omega)]
  have e8 : I a ((i.toNat : Nat) : Int) = I a i := by rw [e9]
  first | rw [e8] | (dsimp only; rw [e8]) | skip
  exact h hok H locs ls hz hP hD hS hl
theorem gx_lald {E : GE} {X : XT} {own : String} {cc : ByteArray} {nL : Nat} {ret : Option FieldType} (hE : OkX E X own cc nL ret) {T : xT} {I : xI} {R : xR} {L : xL} {k n pc : Nat} {lv : List LV} {st : List AV} {a : Nat} {i : Int} (ht : xtag T a = 102) (hb2 : ib i (xlen T a)) (hlen : xlen T a < 2147483648) (d : decode cc pc = .ok (.laload, 1)) (h : GX E X T I R L k n (pc + 1) lv (aL (L a i) :: st)) : GX E X T I R L k n pc lv (aI i :: aR (some a) :: st) := by
  obtain ⟨p, l, e, Rm, s, m, args, below, meth, c, A, Q, D, cl, tys⟩ := E
  obtain ⟨⟨hx, hb, hml, hown, hts, hr, hlk, hK, hA⟩, ⟨rfl, rfl, rfl, rfl⟩, hAb, hbs, hEX⟩ := hE
  intro hok H locs ls hz hP hD hS hl
  have hdm := hok.dom ht (by omega) (by omega) (by omega)
  obtain ⟨q, hq0, hq1⟩ := wsX_at X T I R L hdm
  rw [ht, ceX_arr (by omega)] at hq1
  have hl9 : xlen T a < 2147483648 := hlen
  have e9 := toN_int hb2.1
  refine va_lald hx hb hK hP q (102 - 100) hq1 (xTy_at X (t := 102) (by omega) (by omega)) (iI_in hb2.1 hb2.2 hl9) d ?_
  rw [iI_clamp hb2.1 (by have := hb2.2; omega)]
  have e8 : L a ((i.toNat : Nat) : Int) = L a i := by rw [e9]
  first | rw [e8] | (dsimp only; rw [e8]) | skip
  exact h hok H locs ls hz hP hD hS hl
theorem gx_aald {E : GE} {X : XT} {own : String} {cc : ByteArray} {nL : Nat} {ret : Option FieldType} (hE : OkX E X own cc nL ret) {T : xT} {I : xI} {R : xR} {L : xL} {k n pc : Nat} {lv : List LV} {st : List AV} {a t : Nat} {i : Int} (ht : xtag T a = t) (ht2 : t = 103 ∨ t = 104) (hb2 : ib i (xlen T a)) (hlen : xlen T a < 2147483648) (d : decode cc pc = .ok (.aaload, 1)) (h : GX E X T I R L k n (pc + 1) lv (aR (R a i) :: st)) : GX E X T I R L k n pc lv (aI i :: aR (some a) :: st) := by
  obtain ⟨p, l, e, Rm, s, m, args, below, meth, c, A, Q, D, cl, tys⟩ := E
  obtain ⟨⟨hx, hb, hml, hown, hts, hr, hlk, hK, hA⟩, ⟨rfl, rfl, rfl, rfl⟩, hAb, hbs, hEX⟩ := hE
  intro hok H locs ls hz hP hD hS hl
  have hdm := hok.dom ht (by omega) (by omega) (by omega)
  obtain ⟨q, hq0, hq1⟩ := wsX_at X T I R L hdm
  rw [ht, ceX_arr (by omega)] at hq1
  have hl9 : xlen T a < 2147483648 := hlen
  have e9 := toN_int hb2.1
  have ha9 : arX t I R L a (xlen T a) = (xlen T a, .inr (.inr (.inr (.inr (fun j => R a j))))) := by
    unfold arX
    rw [if_neg (by omega), if_neg (by omega)]
  rw [ha9] at hq1
  have ht9 := xTy_at X (t := t) (by omega) (by omega)
  have e8 : R a ((i.toNat : Nat) : Int) = R a i := by rw [e9]
  have h9 := h hok H locs ls hz hP hD hS hl
  rcases ht2 with rfl | rfl
  · refine va_aldq (C := "java/lang/Object") hx hb hK hP q 3 hq1 ht9 (iI_in hb2.1 hb2.2 hl9) d ?_
    rw [iI_clamp hb2.1 (by have := hb2.2; omega)]
    first | rw [e8] | (dsimp only; rw [e8])
    exact h9
  · refine va_aldq (C := "WhalingLogs$Entry") hx hb hK hP q 4 hq1 ht9 (iI_in hb2.1 hb2.2 hl9) d ?_
    rw [iI_clamp hb2.1 (by have := hb2.2; omega)]
    first | rw [e8] | (dsimp only; rw [e8])
    exact h9
theorem gx_alen {E : GE} {X : XT} {own : String} {cc : ByteArray} {nL : Nat} {ret : Option FieldType} (hE : OkX E X own cc nL ret) {T : xT} {I : xI} {R : xR} {L : xL} {k n pc : Nat} {lv : List LV} {st : List AV} {a t : Nat} (ht : xtag T a = t) (ht2 : 100 ≤ t ∧ t < 105 ∧ t ≠ 101) (d : decode cc pc = .ok (.arraylength, 1)) (h : GX E X T I R L k n (pc + 1) lv (aI (xlen T a) :: st)) : GX E X T I R L k n pc lv (aR (some a) :: st) := by
  obtain ⟨p, l, e, Rm, s, m, args, below, meth, c, A, Q, D, cl, tys⟩ := E
  obtain ⟨⟨hx, hb, hml, hown, hts, hr, hlk, hK, hA⟩, ⟨rfl, rfl, rfl, rfl⟩, hAb, hbs, hEX⟩ := hE
  intro hok H locs ls hz hP hD hS hl
  have hdm := hok.dom ht (by omega) (by omega) (by omega)
  obtain ⟨q, hq0, hq1⟩ := wsX_at X T I R L hdm
  rw [ht, ceX_arr (by omega)] at hq1
  exact va_alen hx hb hK hP q (t - 100) hq1 (xTy_at X (t := t) (by omega) (by omega)) (v := iI (xlen T a)) (by
    show Int32.ofNat (xlen T a) = Int32.ofInt ((xlen T a : Nat) : Int)
    rfl) d (h hok H locs ls hz hP hD hS hl)
theorem gx_iast {E : GE} {X : XT} {own : String} {cc : ByteArray} {nL : Nat} {ret : Option FieldType} (hE : OkX E X own cc nL ret) {T : xT} {I : xI} {R : xR} {L : xL} {k n pc : Nat} {lv : List LV} {st : List AV} {a : Nat} {i : Int} {x : Int} (ht : xtag T a = 100) (hb2 : ib i (xlen T a)) (hlen : xlen T a < 2147483648) (d : decode cc pc = .ok (.iastore, 1)) (h : GX E X T (uI I a i x) R L k n (pc + 1) lv st) : GX E X T I R L k n pc lv (aI x :: aI i :: aR (some a) :: st) := by
  obtain ⟨p, l, e, Rm, s, m, args, below, meth, c, A, Q, D, cl, tys⟩ := E
  obtain ⟨⟨hx, hb, hml, hown, hts, hr, hlk, hK, hA⟩, ⟨rfl, rfl, rfl, rfl⟩, hAb, hbs, hEX⟩ := hE
  intro hok H locs ls hz hP hD hS hl
  have hdm := hok.dom ht (by omega) (by omega) (by omega)
  obtain ⟨q, hq0, hq1⟩ := wsX_at X T I R L hdm
  have hst := wsX_set (I' := (uI I a i x)) (R' := R) (L' := L) hD hq0 (fun b hb n t => ceX_I b hb n t)
  rw [ht, ceX_arr (by omega)] at hq1 hst
  have hl9 : xlen T a < 2147483648 := hlen
  have e9 := toN_int hb2.1
  refine va_iast hx hb hK hP hD hS q (100 - 100) hq1 (xTy_at X (t := 100) (by omega) (by omega)) (x := iI x) (iI_in hb2.1 hb2.2 hl9) d (fun H1 locs1 hP1 hD1 hS1 => ?_)
  rw [iI_clamp hb2.1 (by have := hb2.2; omega)] at hP1 hD1
  have e8 : ((caX X (100 - 100), xlen T a, .inl (upd (fun (j : Nat) => iI (I a j)) i.toNat (iI x))) : ClassId × vp_A) = (caX X (100 - 100), arX 100 (uI I a i x) R L a (xlen T a)) := by
    refine congrArg (fun w => (caX X (100 - 100), xlen T a, Sum.inl w)) (funext fun j => ?_)
    unfold upd uI
    by_cases hj : j = i.toNat
    · subst hj
      rw [if_pos rfl, if_pos ⟨rfl, e9⟩]
    · have : ¬ ((j : Nat) : Int) = i := by omega
      simp only [hj, if_false, this, and_false]
  rw [e8, hst] at hP1 hD1
  exact h (hok.uI hdm i x) H1 locs1 ls zno hP1 hD1 hS1 hl
theorem gx_bast {E : GE} {X : XT} {own : String} {cc : ByteArray} {nL : Nat} {ret : Option FieldType} (hE : OkX E X own cc nL ret) {T : xT} {I : xI} {R : xR} {L : xL} {k n pc : Nat} {lv : List LV} {st : List AV} {a : Nat} {i : Int} {x : Int} (ht : xtag T a = 101) (hbb : bsX X ≤ a) (hb2 : ib i (xlen T a)) (hlen : xlen T a < 2147483648) (hby : vp_nar .byte (iI x) = iI x) (d : decode cc pc = .ok (.bastore, 1)) (h : GX E X T (uI I a i x) R L k n (pc + 1) lv st) : GX E X T I R L k n pc lv (aI x :: aI i :: aR (some a) :: st) := by
  obtain ⟨p, l, e, Rm, s, m, args, below, meth, c, A, Q, D, cl, tys⟩ := E
  obtain ⟨⟨hx, hb, hml, hown, hts, hr, hlk, hK, hA⟩, ⟨rfl, rfl, rfl, rfl⟩, hAb, hbs, hEX⟩ := hE
  intro hok H locs ls hz hP hD hS hl
  have hdm := hok.domW ht (by omega) hbb
  obtain ⟨q, hq0, hq1⟩ := wsX_at X T I R L hdm
  have hst := wsX_set (I' := (uI I a i x)) (R' := R) (L' := L) hD hq0 (fun b hb n t => ceX_I b hb n t)
  rw [ht, ceX_arr (by omega)] at hq1 hst
  have hl9 : xlen T a < 2147483648 := hlen
  have e9 := toN_int hb2.1
  refine va_bast hx hb hK hP hD hS q (101 - 100) hq1 (xTy_at X (t := 101) (by omega) (by omega)) (x := iI x) (iI_in hb2.1 hb2.2 hl9) d (fun H1 locs1 hP1 hD1 hS1 => ?_)
  rw [iI_clamp hb2.1 (by have := hb2.2; omega)] at hP1 hD1
  have e8 : ((caX X (101 - 100), xlen T a, .inl (upd (fun (j : Nat) => iI (I a j)) i.toNat (vp_nar .byte (iI x)))) : ClassId × vp_A) = (caX X (101 - 100), arX 101 (uI I a i x) R L a (xlen T a)) := by
    refine congrArg (fun w => (caX X (101 - 100), xlen T a, Sum.inl w)) (funext fun j => ?_)
    unfold upd uI
    by_cases hj : j = i.toNat
    · subst hj
      rw [if_pos rfl, if_pos ⟨rfl, e9⟩]
      rw [hby]
    · have : ¬ ((j : Nat) : Int) = i := by omega
      simp only [hj, if_false, this, and_false]
  rw [e8, hst] at hP1 hD1
  exact h (hok.uI hdm i x) H1 locs1 ls zno hP1 hD1 hS1 hl
theorem gx_last {E : GE} {X : XT} {own : String} {cc : ByteArray} {nL : Nat} {ret : Option FieldType} (hE : OkX E X own cc nL ret) {T : xT} {I : xI} {R : xR} {L : xL} {k n pc : Nat} {lv : List LV} {st : List AV} {a : Nat} {i : Int} {x : Int64} (ht : xtag T a = 102) (hb2 : ib i (xlen T a)) (hlen : xlen T a < 2147483648) (d : decode cc pc = .ok (.lastore, 1)) (h : GX E X T I R (uL L a i x) k n (pc + 1) lv st) : GX E X T I R L k n pc lv (aL x :: aI i :: aR (some a) :: st) := by
  obtain ⟨p, l, e, Rm, s, m, args, below, meth, c, A, Q, D, cl, tys⟩ := E
  obtain ⟨⟨hx, hb, hml, hown, hts, hr, hlk, hK, hA⟩, ⟨rfl, rfl, rfl, rfl⟩, hAb, hbs, hEX⟩ := hE
  intro hok H locs ls hz hP hD hS hl
  have hdm := hok.dom ht (by omega) (by omega) (by omega)
  obtain ⟨q, hq0, hq1⟩ := wsX_at X T I R L hdm
  have hst := wsX_set (I' := I) (R' := R) (L' := (uL L a i x)) hD hq0 (fun b hb n t => ceX_L b hb n t)
  rw [ht, ceX_arr (by omega)] at hq1 hst
  have hl9 : xlen T a < 2147483648 := hlen
  have e9 := toN_int hb2.1
  refine va_last hx hb hK hP hD hS q (102 - 100) hq1 (xTy_at X (t := 102) (by omega) (by omega)) (x := x) (iI_in hb2.1 hb2.2 hl9) d (fun H1 locs1 hP1 hD1 hS1 => ?_)
  rw [iI_clamp hb2.1 (by have := hb2.2; omega)] at hP1 hD1
  have e8 : ((caX X (102 - 100), xlen T a, .inr (.inl (vp_updL (fun (j : Nat) => L a j) i.toNat x))) : ClassId × vp_A) = (caX X (102 - 100), arX 102 I R (uL L a i x) a (xlen T a)) := by
    refine congrArg (fun w => (caX X (102 - 100), xlen T a, Sum.inr (Sum.inl w))) (funext fun j => ?_)
    unfold vp_updL uL
    by_cases hj : j = i.toNat
    · subst hj
      rw [if_pos rfl, if_pos ⟨rfl, e9⟩]
    · have : ¬ ((j : Nat) : Int) = i := by omega
      simp only [hj, if_false, this, and_false]
  rw [e8, hst] at hP1 hD1
  exact h (hok.uL hdm i x) H1 locs1 ls zno hP1 hD1 hS1 hl
theorem arX_q {t : Nat} {I : xI} {R : xR} {L : xL} {a n : Nat} (h : t = 103 ∨ t = 104) : arX t I R L a n = (n, .inr (.inr (.inr (.inr (fun j => R a j))))) := by
  unfold arX
  rw [if_neg (by omega), if_neg (by omega)]
theorem upR {R : xR} {a : Nat} {i : Int} {x : Option Nat} (hi : 0 ≤ i) : va_up (fun (j : Nat) => R a j) i.toNat x = fun (j : Nat) => uR R a i x a j := by
  funext j
  unfold va_up uR
  by_cases hj : j = i.toNat
  · have : ((j : Nat) : Int) = i := by omega
    rw [if_pos hj, if_pos ⟨rfl, this⟩]
  · have : ¬ ((j : Nat) : Int) = i := by omega
    rw [if_neg hj, if_neg (fun q => this q.2)]
theorem gx_aastN {E : GE} {X : XT} {own : String} {cc : ByteArray} {nL : Nat} {ret : Option FieldType} (hE : OkX E X own cc nL ret) {T : xT} {I : xI} {R : xR} {L : xL} {k n pc : Nat} {lv : List LV} {st : List AV} {a t : Nat} {i : Int} (ht : xtag T a = t) (ht2 : t = 103 ∨ t = 104) (hb2 : ib i (xlen T a)) (hlen : xlen T a < 2147483648) (d : decode cc pc = .ok (.aastore, 1)) (h : GX E X T I (uR R a i none) L k n (pc + 1) lv st) : GX E X T I R L k n pc lv (aR none :: aI i :: aR (some a) :: st) := by
  obtain ⟨p, l, e, Rm, s, m, args, below, meth, c, A, Q, D, cl, tys⟩ := E
  obtain ⟨⟨hx, hb, hml, hown, hts, hr, hlk, hK, hA⟩, ⟨rfl, rfl, rfl, rfl⟩, hAb, hbs, hEX⟩ := hE
  intro hok H locs ls hz hP hD hS hl
  have hdm := hok.dom ht (by omega) (by omega) (by omega)
  obtain ⟨q, hq0, hq1⟩ := wsX_at X T I R L hdm
  have hst := wsX_set (I' := I) (R' := uR R a i none) (L' := L) hD hq0 (fun b hb n t => ceX_R b hb n t)
  rw [ht, ceX_arr (by omega), arX_q ht2] at hq1 hst
  have ht9 := xTy_at X (t := t) (by omega) (by omega)
  have h9 : ∀ (H1 : Heap) (locs1 : List Loc), va_P (dX X) xCl ((wsX X T I R L).set q (a, .inl (caX X (t - 100), xlen T a, .inr (.inr (.inr (.inr (va_up (fun (j : Nat) => R a j) (iI i).toNatClampNeg none))))))) H1 → va_D A ((wsX X T I R L).set q (a, .inl (caX X (t - 100), xlen T a, .inr (.inr (.inr (.inr (va_up (fun (j : Nat) => R a j) (iI i).toNatClampNeg none))))))) → va_S A s.heap H1 locs1 → W p (lX X) e Rm s m args below meth c H1 locs1 k n Q (F0 m (pc + 1) ls (st.map toV)) := by
    intro H1 locs1 hP1 hD1 hS1
    rw [iI_clamp hb2.1 (by have := hb2.2; omega), upR hb2.1, hst] at hP1 hD1
    exact h (hok.uR hdm i none) H1 locs1 ls zno hP1 hD1 hS1 hl
  rcases ht2 with rfl | rfl
  · exact va_astqN (C := "java/lang/Object") hx hb hK hP hD hS q 3 hq1 ht9 (iI_in hb2.1 hb2.2 hlen) d h9
  · exact va_astqN (C := "WhalingLogs$Entry") hx hb hK hP hD hS q 4 hq1 ht9 (iI_in hb2.1 hb2.2 hlen) d h9
theorem xobj {X : XT} {T : xT} {I : xI} {R : xR} {L : xL} {H : Heap} {s : State} {tys : List (ClassId × FieldType)} (hok : xok X T I R L) (hP : va_P (dX X) xCl (wsX X T I R L) H) (hK : va_K (dX X) xCl tys s) {v tv : Nat} {r : vw_C} (hv : xtag T v = tv) (h0 : 0 < tv) (h1 : tv < 25 ∨ tv = 26) (hc : xCl[tv - 1]? = some r) : ∃ cell : Cell, H[v]? = some cell ∧ cell.vm.isStatics = false ∧ s.vm.findClass r.1 = some cell.cls := by
  obtain ⟨q, hq0, hq1⟩ := wsX_at X T I R L (hok.dom hv h0 (by omega) (by omega))
  rw [hv, ceX_obj (by omega)] at hq1
  exact va_recv hK hP hc hq1
theorem castable_use {C D : String} {s : State} (h : va_Nw (.castable C D) s) : ∀ comp c0 : ClassId, s.vm.findClass D = some comp → s.vm.findClass C = some c0 → s.vm.assignable c0 comp = true := by
  intro comp c0 h1 h2
  obtain ⟨c3, c4, hc3, hc4, hasg⟩ := Cond.castable_spec (va_Nw.use (A := #[]) rfl h)
  cases hc3.symm.trans h2
  cases hc4.symm.trans h1
  exact hasg
/-- an object of a class into an array of Objects, or of its own class -/
theorem gx_aastO {E : GE} {X : XT} {own : String} {cc : ByteArray} {nL : Nat} {ret : Option FieldType} (hE : OkX E X own cc nL ret) {T : xT} {I : xI} {R : xR} {L : xL} {k n pc : Nat} {lv : List LV} {st : List AV} {a v tv : Nat} {i : Int} {r : vw_C} (ht : xtag T a = 103) (hv : xtag T v = tv) (h0v : 0 < tv) (h1v : tv < 25 ∨ tv = 26) (hcv : xCl[tv - 1]? = some r) (hq : Cond.castable r.1 "java/lang/Object" ∈ lw_tbl) (hb2 : ib i (xlen T a)) (hlen : xlen T a < 2147483648) (d : decode cc pc = .ok (.aastore, 1)) (h : GX E X T I (uR R a i (some v)) L k n (pc + 1) lv st) : GX E X T I R L k n pc lv (aR (some v) :: aI i :: aR (some a) :: st) := by
  obtain ⟨p, l, e, Rm, s, m, args, below, meth, c, A, Q, D, cl, tys⟩ := E
  obtain ⟨⟨hx, hb, hml, hown, hts, hr, hlk, hK, hA⟩, ⟨rfl, rfl, rfl, rfl⟩, hAb, hbs, hEX⟩ := hE
  intro hok H locs ls hz hP hD hS hl
  have hdm := hok.dom ht (by omega) (by omega) (by omega)
  obtain ⟨q, hq0, hq1⟩ := wsX_at X T I R L hdm
  have hst := wsX_set (I' := I) (R' := uR R a i (some v)) (L' := L) hD hq0 (fun b hb n t => ceX_R b hb n t)
  rw [ht, ceX_arr (by omega), arX_q (Or.inl rfl)] at hq1 hst
  obtain ⟨cell, g1, g2, g3⟩ := xobj hok hP hK hv h0v h1v hcv
  obtain ⟨kC, hkC, -⟩ := Vm.findClass_spec g3
  refine va_astqM (E := "java/lang/Object") hx hb hK hP hD hS q 3 hq1 (xTy_at X (t := 103) (by omega) (by omega)) ⟨cell, g1, g2, ⟨kC, hkC⟩, fun comp h => castable_use (hEX.nw _ hq rfl) comp _ h g3⟩ (iI_in hb2.1 hb2.2 hlen) d (fun H1 locs1 hP1 hD1 hS1 => ?_)
  rw [iI_clamp hb2.1 (by have := hb2.2; omega), upR hb2.1, hst] at hP1 hD1
  exact h (hok.uR hdm i (some v)) H1 locs1 ls zno hP1 hD1 hS1 hl
theorem gx_aastE {E : GE} {X : XT} {own : String} {cc : ByteArray} {nL : Nat} {ret : Option FieldType} (hE : OkX E X own cc nL ret) {T : xT} {I : xI} {R : xR} {L : xL} {k n pc : Nat} {lv : List LV} {st : List AV} {a v : Nat} {i : Int} (ht : xtag T a = 104) (hv : xtag T v = 12) (hb2 : ib i (xlen T a)) (hlen : xlen T a < 2147483648) (d : decode cc pc = .ok (.aastore, 1)) (h : GX E X T I (uR R a i (some v)) L k n (pc + 1) lv st) : GX E X T I R L k n pc lv (aR (some v) :: aI i :: aR (some a) :: st) := by
  obtain ⟨p, l, e, Rm, s, m, args, below, meth, c, A, Q, D, cl, tys⟩ := E
  obtain ⟨⟨hx, hb, hml, hown, hts, hr, hlk, hK, hA⟩, ⟨rfl, rfl, rfl, rfl⟩, hAb, hbs, hEX⟩ := hE
  intro hok H locs ls hz hP hD hS hl
  have hdm := hok.dom ht (by omega) (by omega) (by omega)
  obtain ⟨q, hq0, hq1⟩ := wsX_at X T I R L hdm
  have hst := wsX_set (I' := I) (R' := uR R a i (some v)) (L' := L) hD hq0 (fun b hb n t => ceX_R b hb n t)
  rw [ht, ceX_arr (by omega), arX_q (Or.inr rfl)] at hq1 hst
  obtain ⟨q2, hq2, hq3⟩ := wsX_at X T I R L (hok.dom hv (by omega) (by omega) (by omega))
  rw [hv, ceX_obj (by omega)] at hq3
  refine va_astq hx hb hK hP hD hS q 4 q2 11 hq1 (r := (RX6, TX6, 4)) (xTy_at X (t := 104) (by omega) (by omega)) hq3 rfl (iI_in hb2.1 hb2.2 hlen) d (fun H1 locs1 hP1 hD1 hS1 => ?_)
  rw [iI_clamp hb2.1 (by have := hb2.2; omega), upR hb2.1, hst] at hP1 hD1
  exact h (hok.uR hdm i (some v)) H1 locs1 ls zno hP1 hD1 hS1 hl
/-- new: an address that was nothing before -/
theorem gx_new {E : GE} {X : XT} {own : String} {cc : ByteArray} {nL : Nat} {ret : Option FieldType} (hE : OkX E X own cc nL ret) {T : xT} {I : xI} {R : xR} {L : xL} {k n pc : Nat} {lv : List LV} {st : List AV} {rm : Room} (hR : RmE E rm) {C : String} {TT : u_T} {N t idx : Nat} (hin : ∀ w ∈ u_ws C TT N, w ∈ lw_all) (tyT : Nat → FieldType) (htyT : ∀ k, k < N → parseFieldDescriptor (TT k).2.2.1 = some (tyT k)) (hc : xCl[t - 1]? = some (C, TT, N)) (h0 : 0 < t) (ht1 : t < 100) (hnf : xnf t = N) (hdef : ∀ j, j < N → defaultValue (tyT j) = (if xkd t j = 1 then Value.null else if xkd t j = 2 then .long 0 else .int 0)) (h1 : Cond.classLink own idx C ∈ lw_all) (h2 : Cond.instantiable C N ∈ lw_all) (h3 : Cond.initialized C ∈ lw_all) (hcs : k + 1 ≤ rm.cells) (hss : n + N ≤ rm.slots) (d : decode cc pc = .ok (.new idx, 3)) (h : ∀ q : Nat, xtag T q = 0 → bsX X ≤ q → GX E X (xnew T q t 0) I R L (k + 1) (n + N) (pc + 3) lv (aR (some q) :: st)) : GX E X T I R L k n pc lv st := by
  obtain ⟨p, l, e, Rm, s, m, args, below, meth, c, A, Q, D, cl, tys⟩ := E
  obtain ⟨⟨hx, hb, hml, hown, hts, hr, hlk, hK, hA⟩, ⟨rfl, rfl, rfl, rfl⟩, hAb, hbs, hEX⟩ := hE
  intro hok H locs ls hz hP hD hS hl
  obtain rfl : Rm = rm := hR
  have hz9 : ∀ a : Nat, a ∉ T.1 → bsX X ≤ a → xtag T a = 0 := by
    intro a ha hb9
    rcases Nat.eq_zero_or_pos (xtag T a) with h9 | h9
    · exact h9
    · rcases (hok.1 a).mp (by omega) with h8 | h8
      · exact absurd h8 ha
      · have := hok.lo h8; omega
  have hfresh : ∀ (q : Nat) (e1 : va_E), va_D A (wsX X T I R L ++ [(q, e1)]) → xtag T q = 0 ∧ bsX X ≤ q := by
    intro q e1 hD1
    have hlast : (wsX X T I R L ++ [(q, e1)])[(wsX X T I R L).length]? = some (q, e1) := by simp
    have hbq : bsX X ≤ q := hAb q (hD1.2 _ (q, e1) hlast)
    refine ⟨hz9 q (fun hm => ?_) hbq, hbq⟩
    obtain ⟨i, hi0, hi1⟩ := wsX_at X T I R L hm
    have hlt := (List.getElem?_eq_some_iff.mp hi1).1
    have := hD1.1 i (wsX X T I R L).length (q, ceX X (xtag T q) (xlen T q) I R L q) (q, e1) (by rw [List.getElem?_append_left hlt]; exact hi1) hlast rfl
    omega
  refine va_new (ci := t - 1) (fs := (List.range N).map (fun j => if xkd t j = 1 then Value.null else if xkd t j = 2 then .long 0 else .int 0)) (C := C) (T := TT) (N := N) hx hb hts hin tyT htyT hown (hts _ h1) (hts _ h2) (hts _ h3) hK hP hD hS hA hc (fun j hj => by rw [hdef j hj]; simp [vp_V, hj]) hcs hss d (fun q H1 hP1 hD1 hS1 => ?_)
  obtain ⟨hq, hbq⟩ := hfresh q _ hD1
  have e9 : (Sum.inr (t - 1, (List.range N).map (fun j => if xkd t j = 1 then Value.null else if xkd t j = 2 then .long 0 else .int 0)) : va_E) = ceX X t 0 I R L q := by
    rw [ceX_obj ht1, hnf]
    refine congrArg (fun w => Sum.inr (t - 1, w)) (List.map_congr_left fun j _ => ?_)
    obtain ⟨z1, z2, z3⟩ := hok.2.1 q hq j
    unfold fvX
    rw [z1, z2, z3]
    rfl
  rw [e9, wsX_new hok hq] at hP1 hD1
  exact h q hq hbq (hok.new hq (by omega) hbq) H1 locs ls zno hP1 hD1 hS1 hl

theorem xfresh {X : XT} {T : xT} {I : xI} {R : xR} {L : xL} {A : Nat → Prop} (hok : xok X T I R L) (hAb : ∀ q : Nat, A q → bsX X ≤ q) {q : Nat} {e1 : va_E} (hD1 : va_D A (wsX X T I R L ++ [(q, e1)])) : xtag T q = 0 ∧ bsX X ≤ q := by
  have hlast : (wsX X T I R L ++ [(q, e1)])[(wsX X T I R L).length]? = some (q, e1) := by simp
  have hbq : bsX X ≤ q := hAb q (hD1.2 _ (q, e1) hlast)
  refine ⟨?_, hbq⟩
  rcases Nat.eq_zero_or_pos (xtag T q) with h9 | h9
  · exact h9
  · rcases (hok.1 q).mp (by omega) with h8 | h8
    · exfalso
      obtain ⟨i, hi0, hi1⟩ := wsX_at X T I R L h8
      have hlt := (List.getElem?_eq_some_iff.mp hi1).1
      have := hD1.1 i (wsX X T I R L).length (q, ceX X (xtag T q) (xlen T q) I R L q) (q, e1) (by rw [List.getElem?_append_left hlt]; exact hi1) hlast rfl
      omega
    · have := hok.lo h8; omega
theorem iI_nn {x : Int} (h : 0 ≤ x ∧ x < 2147483648) : ¬ iI x < 0 := by
  intro q
  have := (iI_lt ⟨by omega, by omega⟩ inR_0).mp q
  omega
/-- the class of a new array is the one that the tables have -/
theorem xTy_cls {X : XT} {tys : List (ClassId × FieldType)} {s : State} {t : Nat} {cA : ClassId} (ht : 100 ≤ t) (ht2 : t < 105) (hK : va_K (dX X) xCl (xTy X) s) (hK2 : va_K (dX X) xCl (xTy X ++ [(cA, xAt t)]) s) : cA = caX X (t - 100) := by
  have h1 := (hK.2 (t - 100) _ (xTy_at X ht ht2)).2
  have h2 := (hK2.2 (xTy X).length (cA, xAt t) (by simp)).2
  rcases (show t = 100 ∨ t = 101 ∨ t = 102 ∨ t = 103 ∨ t = 104 by omega) with rfl | rfl | rfl | rfl | rfl
  · exact Option.some.inj (h2.symm.trans h1)
  · exact Option.some.inj (h2.symm.trans h1)
  · exact Option.some.inj (h2.symm.trans h1)
  · obtain ⟨_, _, _, _, _, a4⟩ := h1
    obtain ⟨_, _, _, _, _, b4⟩ := h2
    exact Option.some.inj (b4.symm.trans a4)
  · obtain ⟨_, _, _, _, _, a4⟩ := h1
    obtain ⟨_, _, _, _, _, b4⟩ := h2
    exact Option.some.inj (b4.symm.trans a4)
theorem gx_newa_int {E : GE} {X : XT} {own : String} {cc : ByteArray} {nL : Nat} {ret : Option FieldType} (hE : OkX E X own cc nL ret) {T : xT} {I : xI} {R : xR} {L : xL} {k n pc : Nat} {lv : List LV} {st : List AV} {rm : Room} (hR : RmE E rm) {x : Int} {N : Nat} (h1 : Cond.arrayClass .int ∈ lw_all) (hx0 : x = N) (hx1 : N ≤ 1000000) (hcs : k + 1 ≤ rm.cells) (hss : n + N ≤ rm.slots) (d : decode cc pc = .ok (.newarray .int, 2)) (h : ∀ q : Nat, xtag T q = 0 → bsX X ≤ q → GX E X (xnew T q 100 N) I R L (k + 1) (n + N) (pc + 2) lv (aR (some q) :: st)) : GX E X T I R L k n pc lv (aI x :: st) := by
  obtain ⟨p, l, e, Rm, s, m, args, below, meth, c, A, Q, D, cl, tys⟩ := E
  obtain ⟨⟨hx, hb, hml, hown, hts, hr, hlk, hK, hA⟩, ⟨rfl, rfl, rfl, rfl⟩, hAb, hbs, hEX⟩ := hE
  intro hok H locs ls hz hP hD hS hl
  obtain rfl : Rm = rm := hR
  have hr9 : 0 ≤ x ∧ x < 2147483648 := by omega
  refine va_newa (atype := .int) hx hb (hts _ h1) (ty := .int) rfl hK hP hD hS hA (N' := N) (a0 := (N, .inl (fun _ => 0))) (fun cA => by first | rfl | (unfold vp_cell; rfl)) (iI_nn hr9) (by rw [iI_clamp hr9.1 hr9.2]; omega) (by show N * _ ≤ 536870912; first | (show N * 4 ≤ _; omega) | (show N * 1 ≤ _; omega) | (show N * 8 ≤ _; omega)) hcs hss d (fun q cA H1 hK1 hP1 hD1 hS1 => ?_)
  obtain ⟨hq, hbq⟩ := xfresh hok hAb hD1
  have hcA : cA = caX X (100 - 100) := xTy_cls (tys := []) (t := 100) (by omega) (by omega) hK hK1
  subst hcA
  have e9 : (Sum.inl (caX X (100 - 100), N, .inl (fun _ => 0)) : va_E) = ceX X 100 N I R L q := by
    rw [ceX_arr (by omega)]
    refine congrArg (fun w => Sum.inl (caX X (100 - 100), w)) ?_
    unfold arX
    first
      | (rw [if_pos rfl]; refine congrArg (fun w => (N, Sum.inr (Sum.inl w))) (funext fun j => ((hok.2.1 q hq j).2.2).symm))
      | (rw [if_neg (by omega), if_pos (by omega)]; refine congrArg (fun w => (N, Sum.inl w)) (funext fun j => ?_); rw [(hok.2.1 q hq j).1]; rfl)
  rw [e9, wsX_new hok hq] at hP1 hD1
  exact h q hq hbq (hok.new hq (by omega) hbq) H1 locs ls zno hP1 hD1 hS1 hl
theorem gx_newa_byte {E : GE} {X : XT} {own : String} {cc : ByteArray} {nL : Nat} {ret : Option FieldType} (hE : OkX E X own cc nL ret) {T : xT} {I : xI} {R : xR} {L : xL} {k n pc : Nat} {lv : List LV} {st : List AV} {rm : Room} (hR : RmE E rm) {x : Int} {N : Nat} (h1 : Cond.arrayClass .byte ∈ lw_all) (hx0 : x = N) (hx1 : N ≤ 1000000) (hcs : k + 1 ≤ rm.cells) (hss : n + N ≤ rm.slots) (d : decode cc pc = .ok (.newarray .byte, 2)) (h : ∀ q : Nat, xtag T q = 0 → bsX X ≤ q → GX E X (xnew T q 101 N) I R L (k + 1) (n + N) (pc + 2) lv (aR (some q) :: st)) : GX E X T I R L k n pc lv (aI x :: st) := by
  obtain ⟨p, l, e, Rm, s, m, args, below, meth, c, A, Q, D, cl, tys⟩ := E
  obtain ⟨⟨hx, hb, hml, hown, hts, hr, hlk, hK, hA⟩, ⟨rfl, rfl, rfl, rfl⟩, hAb, hbs, hEX⟩ := hE
  intro hok H locs ls hz hP hD hS hl
  obtain rfl : Rm = rm := hR
  have hr9 : 0 ≤ x ∧ x < 2147483648 := by omega
  refine va_newa (atype := .byte) hx hb (hts _ h1) (ty := .byte) rfl hK hP hD hS hA (N' := N) (a0 := (N, .inl (fun _ => 0))) (fun cA => by first | rfl | (unfold vp_cell; rfl)) (iI_nn hr9) (by rw [iI_clamp hr9.1 hr9.2]; omega) (by show N * _ ≤ 536870912; first | (show N * 4 ≤ _; omega) | (show N * 1 ≤ _; omega) | (show N * 8 ≤ _; omega)) hcs hss d (fun q cA H1 hK1 hP1 hD1 hS1 => ?_)
  obtain ⟨hq, hbq⟩ := xfresh hok hAb hD1
  have hcA : cA = caX X (101 - 100) := xTy_cls (tys := []) (t := 101) (by omega) (by omega) hK hK1
  subst hcA
  have e9 : (Sum.inl (caX X (101 - 100), N, .inl (fun _ => 0)) : va_E) = ceX X 101 N I R L q := by
    rw [ceX_arr (by omega)]
    refine congrArg (fun w => Sum.inl (caX X (101 - 100), w)) ?_
    unfold arX
    first
      | (rw [if_pos rfl]; refine congrArg (fun w => (N, Sum.inr (Sum.inl w))) (funext fun j => ((hok.2.1 q hq j).2.2).symm))
      | (rw [if_neg (by omega), if_pos (by omega)]; refine congrArg (fun w => (N, Sum.inl w)) (funext fun j => ?_); rw [(hok.2.1 q hq j).1]; rfl)
  rw [e9, wsX_new hok hq] at hP1 hD1
  exact h q hq hbq (hok.new hq (by omega) hbq) H1 locs ls zno hP1 hD1 hS1 hl
theorem gx_newa_long {E : GE} {X : XT} {own : String} {cc : ByteArray} {nL : Nat} {ret : Option FieldType} (hE : OkX E X own cc nL ret) {T : xT} {I : xI} {R : xR} {L : xL} {k n pc : Nat} {lv : List LV} {st : List AV} {rm : Room} (hR : RmE E rm) {x : Int} {N : Nat} (h1 : Cond.arrayClass .long ∈ lw_all) (hx0 : x = N) (hx1 : N ≤ 1000000) (hcs : k + 1 ≤ rm.cells) (hss : n + N ≤ rm.slots) (d : decode cc pc = .ok (.newarray .long, 2)) (h : ∀ q : Nat, xtag T q = 0 → bsX X ≤ q → GX E X (xnew T q 102 N) I R L (k + 1) (n + N) (pc + 2) lv (aR (some q) :: st)) : GX E X T I R L k n pc lv (aI x :: st) := by
  obtain ⟨p, l, e, Rm, s, m, args, below, meth, c, A, Q, D, cl, tys⟩ := E
  obtain ⟨⟨hx, hb, hml, hown, hts, hr, hlk, hK, hA⟩, ⟨rfl, rfl, rfl, rfl⟩, hAb, hbs, hEX⟩ := hE
  intro hok H locs ls hz hP hD hS hl
  obtain rfl : Rm = rm := hR
  have hr9 : 0 ≤ x ∧ x < 2147483648 := by omega
  refine va_newa (atype := .long) hx hb (hts _ h1) (ty := .long) rfl hK hP hD hS hA (N' := N) (a0 := (N, .inr (.inl (fun _ => 0)))) (fun cA => by first | rfl | (unfold vp_cell; rfl)) (iI_nn hr9) (by rw [iI_clamp hr9.1 hr9.2]; omega) (by show N * _ ≤ 536870912; first | (show N * 4 ≤ _; omega) | (show N * 1 ≤ _; omega) | (show N * 8 ≤ _; omega)) hcs hss d (fun q cA H1 hK1 hP1 hD1 hS1 => ?_)
  obtain ⟨hq, hbq⟩ := xfresh hok hAb hD1
  have hcA : cA = caX X (102 - 100) := xTy_cls (tys := []) (t := 102) (by omega) (by omega) hK hK1
  subst hcA
  have e9 : (Sum.inl (caX X (102 - 100), N, .inr (.inl (fun _ => 0))) : va_E) = ceX X 102 N I R L q := by
    rw [ceX_arr (by omega)]
    refine congrArg (fun w => Sum.inl (caX X (102 - 100), w)) ?_
    unfold arX
    first
      | (rw [if_pos rfl]; refine congrArg (fun w => (N, Sum.inr (Sum.inl w))) (funext fun j => ((hok.2.1 q hq j).2.2).symm))
      | (rw [if_neg (by omega), if_pos (by omega)]; refine congrArg (fun w => (N, Sum.inl w)) (funext fun j => ?_); rw [(hok.2.1 q hq j).1]; rfl)
  rw [e9, wsX_new hok hq] at hP1 hD1
  exact h q hq hbq (hok.new hq (by omega) hbq) H1 locs ls zno hP1 hD1 hS1 hl
theorem gx_newq_O {E : GE} {X : XT} {own : String} {cc : ByteArray} {nL : Nat} {ret : Option FieldType} (hE : OkX E X own cc nL ret) {T : xT} {I : xI} {R : xR} {L : xL} {k n pc : Nat} {lv : List LV} {st : List AV} {rm : Room} (hR : RmE E rm) {x : Int} {N idx : Nat} (h1 : Cond.classLink own idx "java/lang/Object" ∈ lw_all) (hx0 : x = N) (hx1 : N ≤ 1000000) (hcs : k + 1 ≤ rm.cells) (hss : n + N ≤ rm.slots) (d : decode cc pc = .ok (.anewarray idx, 3)) (h : ∀ q : Nat, xtag T q = 0 → bsX X ≤ q → GX E X (xnew T q 103 N) I R L (k + 1) (n + N) (pc + 3) lv (aR (some q) :: st)) : GX E X T I R L k n pc lv (aI x :: st) := by
  obtain ⟨p, l, e, Rm, s, m, args, below, meth, c, A, Q, D, cl, tys⟩ := E
  obtain ⟨⟨hx, hb, hml, hown, hts, hr, hlk, hK, hA⟩, ⟨rfl, rfl, rfl, rfl⟩, hAb, hbs, hEX⟩ := hE
  intro hok H locs ls hz hP hD hS hl
  obtain rfl : Rm = rm := hR
  have hr9 : 0 ≤ x ∧ x < 2147483648 := by omega
  refine va_newq (C := "java/lang/Object") hx hb hown (hts _ h1) hEX.2.1 hK hP hD hS hA (N' := N) (iI_nn hr9) (by rw [iI_clamp hr9.1 hr9.2]; omega) (by omega) hcs hss d (fun q cA H1 hK1 hP1 hD1 hS1 => ?_)
  obtain ⟨hq, hbq⟩ := xfresh hok hAb hD1
  have hcA : cA = caX X (103 - 100) := xTy_cls (tys := []) (t := 103) (by omega) (by omega) hK hK1
  subst hcA
  have e9 : (Sum.inl (caX X (103 - 100), N, .inr (.inr (.inr (.inr (fun _ => none))))) : va_E) = ceX X 103 N I R L q := by
    rw [ceX_arr (by omega), arX_q (by omega)]
    refine congrArg (fun w => Sum.inl (caX X (103 - 100), N, Sum.inr (Sum.inr (Sum.inr (Sum.inr w))))) (funext fun j => ((hok.2.1 q hq j).2.1).symm)
  rw [e9, wsX_new hok hq] at hP1 hD1
  exact h q hq hbq (hok.new hq (by omega) hbq) H1 locs ls zno hP1 hD1 hS1 hl
theorem gx_newq_E {E : GE} {X : XT} {own : String} {cc : ByteArray} {nL : Nat} {ret : Option FieldType} (hE : OkX E X own cc nL ret) {T : xT} {I : xI} {R : xR} {L : xL} {k n pc : Nat} {lv : List LV} {st : List AV} {rm : Room} (hR : RmE E rm) {x : Int} {N idx : Nat} (h1 : Cond.classLink own idx "WhalingLogs$Entry" ∈ lw_all) (hx0 : x = N) (hx1 : N ≤ 1000000) (hcs : k + 1 ≤ rm.cells) (hss : n + N ≤ rm.slots) (d : decode cc pc = .ok (.anewarray idx, 3)) (h : ∀ q : Nat, xtag T q = 0 → bsX X ≤ q → GX E X (xnew T q 104 N) I R L (k + 1) (n + N) (pc + 3) lv (aR (some q) :: st)) : GX E X T I R L k n pc lv (aI x :: st) := by
  obtain ⟨p, l, e, Rm, s, m, args, below, meth, c, A, Q, D, cl, tys⟩ := E
  obtain ⟨⟨hx, hb, hml, hown, hts, hr, hlk, hK, hA⟩, ⟨rfl, rfl, rfl, rfl⟩, hAb, hbs, hEX⟩ := hE
  intro hok H locs ls hz hP hD hS hl
  obtain rfl : Rm = rm := hR
  have hr9 : 0 ≤ x ∧ x < 2147483648 := by omega
  refine va_newq (C := "WhalingLogs$Entry") hx hb hown (hts _ h1) hEX.2.2.1 hK hP hD hS hA (N' := N) (iI_nn hr9) (by rw [iI_clamp hr9.1 hr9.2]; omega) (by omega) hcs hss d (fun q cA H1 hK1 hP1 hD1 hS1 => ?_)
  obtain ⟨hq, hbq⟩ := xfresh hok hAb hD1
  have hcA : cA = caX X (104 - 100) := xTy_cls (tys := []) (t := 104) (by omega) (by omega) hK hK1
  subst hcA
  have e9 : (Sum.inl (caX X (104 - 100), N, .inr (.inr (.inr (.inr (fun _ => none))))) : va_E) = ceX X 104 N I R L q := by
    rw [ceX_arr (by omega), arX_q (by omega)]
    refine congrArg (fun w => Sum.inl (caX X (104 - 100), N, Sum.inr (Sum.inr (Sum.inr (Sum.inr w))))) (funext fun j => ((hok.2.1 q hq j).2.1).symm)
  rw [e9, wsX_new hok hq] at hP1 hD1
  exact h q hq hbq (hok.new hq (by omega) hbq) H1 locs ls zno hP1 hD1 hS1 hl
/-- casts -/
theorem gx_castN {E : GE} {X : XT} {own : String} {cc : ByteArray} {nL : Nat} {ret : Option FieldType} (hE : OkX E X own cc nL ret) {T : xT} {I : xI} {R : xR} {L : xL} {k n pc : Nat} {lv : List LV} {st : List AV} {idx : Nat} (d : decode cc pc = .ok (.checkcast idx, 3)) (h : GX E X T I R L k n (pc + 3) lv (aR none :: st)) : GX E X T I R L k n pc lv (aR none :: st) := by
  obtain ⟨p, l, e, Rm, s, m, args, below, meth, c, A, Q, D, cl, tys⟩ := E
  obtain ⟨⟨hx, hb, hml, hown, hts, hr, hlk, hK, hA⟩, ⟨rfl, rfl, rfl, rfl⟩, hAb, hbs, hEX⟩ := hE
  intro hok H locs ls hz hP hD hS hl
  exact lv_castN hx hb d (h hok H locs ls hz hP hD hS hl)
/-- to an object's own class -/
theorem gx_castS {E : GE} {X : XT} {own : String} {cc : ByteArray} {nL : Nat} {ret : Option FieldType} (hE : OkX E X own cc nL ret) {T : xT} {I : xI} {R : xR} {L : xL} {k n pc : Nat} {lv : List LV} {st : List AV} {a t idx : Nat} {r : vw_C} (ht : xtag T a = t) (h0 : 0 < t) (h1 : t < 25 ∨ t = 26) (hc : xCl[t - 1]? = some r) (hq : Cond.classLink own idx r.1 ∈ lw_all) (d : decode cc pc = .ok (.checkcast idx, 3)) (h : GX E X T I R L k n (pc + 3) lv (aR (some a) :: st)) : GX E X T I R L k n pc lv (aR (some a) :: st) := by
  obtain ⟨p, l, e, Rm, s, m, args, below, meth, c, A, Q, D, cl, tys⟩ := E
  obtain ⟨⟨hx, hb, hml, hown, hts, hr, hlk, hK, hA⟩, ⟨rfl, rfl, rfl, rfl⟩, hAb, hbs, hEX⟩ := hE
  intro hok H locs ls hz hP hD hS hl
  exact va_castS hx hb hown (hts _ hq) (hK.1 (t - 1) r hc).2 (xobj hok hP hK ht h0 h1 hc) d (h hok H locs ls hz hP hD hS hl)
/-- to what it can be cast to -/
theorem gx_castY {E : GE} {X : XT} {own : String} {cc : ByteArray} {nL : Nat} {ret : Option FieldType} (hE : OkX E X own cc nL ret) {T : xT} {I : xI} {R : xR} {L : xL} {k n pc : Nat} {lv : List LV} {st : List AV} {a t idx : Nat} {nm : String} {r : vw_C} (ht : xtag T a = t) (h0 : 0 < t) (h1 : t < 25 ∨ t = 26) (hc : xCl[t - 1]? = some r) (hq : Cond.classLink own idx nm ∈ lw_all) (hq2 : Cond.castable r.1 nm ∈ lw_tbl) (d : decode cc pc = .ok (.checkcast idx, 3)) (h : GX E X T I R L k n (pc + 3) lv (aR (some a) :: st)) : GX E X T I R L k n pc lv (aR (some a) :: st) := by
  obtain ⟨p, l, e, Rm, s, m, args, below, meth, c, A, Q, D, cl, tys⟩ := E
  obtain ⟨⟨hx, hb, hml, hown, hts, hr, hlk, hK, hA⟩, ⟨rfl, rfl, rfl, rfl⟩, hAb, hbs, hEX⟩ := hE
  intro hok H locs ls hz hP hD hS hl
  exact va_castY hx hb hown (hts _ hq) (hEX.nw _ hq2 rfl) (xobj hok hP hK ht h0 h1 hc) d (h hok H locs ls hz hP hD hS hl)
/-- Math.abs, max, min -/
theorem gx_abs {E : GE} {X : XT} {own : String} {cc : ByteArray} {nL : Nat} {ret : Option FieldType} (hE : OkX E X own cc nL ret) {T : xT} {I : xI} {R : xR} {L : xL} {k n pc : Nat} {lv : List LV} {st : List AV} {rm : Room} (hR : RmE E rm) {x : Int} {idx : Nat} (hxr : -2147483648 < x ∧ x < 2147483648) (h1 : Cond.methodLink own idx Lib.Math.abs.name ∈ lw_all) (h2 : Cond.static Lib.Math.abs.name ∈ lw_all) (h3 : Cond.initialized "java/lang/Math" ∈ lw_all) (h4 : Cond.code Lib.Math.abs.name Lib.Math.abs.code 1 (some .int) ∈ lw_all) (hf : 1 ≤ rm.frames) (hlo : 21 ≤ rm.locals) (hkc : k ≤ rm.cells) (hkn : n ≤ rm.slots) (h8 : acs st ≤ 8) (d : decode cc pc = .ok (.invokestatic idx, 3)) (h : GX E X T I R L k n (pc + 3) lv (aI (if 0 ≤ x then x else -x) :: st)) : GX E X T I R L k n pc lv (aI x :: st) := by
  obtain ⟨p, l, e, Rm, s, m, args, below, meth, c, A, Q, D, cl, tys⟩ := E
  obtain ⟨⟨hx, hb, hml, hown, hts, hr, hlk, hK, hA⟩, ⟨rfl, rfl, rfl, rfl⟩, hAb, hbs, hEX⟩ := hE
  intro hok H locs ls hz hP hD hS hl
  obtain rfl : Rm = rm := hR
  have hst := stk8_of st 8 h8
  refine va_mabs hx hb hl.1.symm hown (hts _ h1) (hts _ h2) (hts _ h3) (hts _ h4) hf (by omega) hkc hkn d ?_
  have hc : (0 : Int32) ≤ iI x ↔ 0 ≤ x := iI_le (a := 0) (b := x) inR_0 ⟨by omega, by omega⟩
  have e9 : (if (0 : Int32) ≤ iI x then iI x else 0 - iI x) = iI (if 0 ≤ x then x else -x) := by
    by_cases h0 : 0 ≤ x
    · rw [if_pos (hc.mpr h0), if_pos h0]
    · rw [if_neg (fun q => h0 (hc.mp q)), if_neg h0]
      show iI 0 - iI x = _
      rw [iI_sub]; congr 1; omega
  rw [e9]
  exact h hok H locs ls hz hP hD hS hl
theorem gx_max {E : GE} {X : XT} {own : String} {cc : ByteArray} {nL : Nat} {ret : Option FieldType} (hE : OkX E X own cc nL ret) {T : xT} {I : xI} {R : xR} {L : xL} {k n pc : Nat} {lv : List LV} {st : List AV} {rm : Room} (hR : RmE E rm) {x y : Int} {idx : Nat} (hxr : inR x) (hyr : inR y) (h1 : Cond.methodLink own idx Lib.Math.max.name ∈ lw_all) (h2 : Cond.static Lib.Math.max.name ∈ lw_all) (h3 : Cond.initialized "java/lang/Math" ∈ lw_all) (h4 : Cond.code Lib.Math.max.name Lib.Math.max.code 2 (some .int) ∈ lw_all) (hf : 1 ≤ rm.frames) (hlo : 21 ≤ rm.locals) (hkc : k ≤ rm.cells) (hkn : n ≤ rm.slots) (h8 : acs st ≤ 8) (d : decode cc pc = .ok (.invokestatic idx, 3)) (h : GX E X T I R L k n (pc + 3) lv (aI (if x < y then y else x) :: st)) : GX E X T I R L k n pc lv (aI y :: aI x :: st) := by
  obtain ⟨p, l, e, Rm, s, m, args, below, meth, c, A, Q, D, cl, tys⟩ := E
  obtain ⟨⟨hx, hb, hml, hown, hts, hr, hlk, hK, hA⟩, ⟨rfl, rfl, rfl, rfl⟩, hAb, hbs, hEX⟩ := hE
  intro hok H locs ls hz hP hD hS hl
  obtain rfl : Rm = rm := hR
  have hst := stk8_of st 8 h8
  refine va_mmax hx hb hl.1.symm hown (hts _ h1) (hts _ h2) (hts _ h3) (hts _ h4) hf (by omega) hkc hkn d ?_
  have hc := iI_lt hxr hyr
  have e9 : (if iI x < iI y then iI y else iI x) = iI (if x < y then y else x) := by
    by_cases h0 : x < y
    · rw [if_pos (hc.mpr h0), if_pos h0]
    · rw [if_neg (fun q => h0 (hc.mp q)), if_neg h0]
  rw [e9]
  exact h hok H locs ls hz hP hD hS hl
theorem gx_min {E : GE} {X : XT} {own : String} {cc : ByteArray} {nL : Nat} {ret : Option FieldType} (hE : OkX E X own cc nL ret) {T : xT} {I : xI} {R : xR} {L : xL} {k n pc : Nat} {lv : List LV} {st : List AV} {rm : Room} (hR : RmE E rm) {x y : Int} {idx : Nat} (hxr : inR x) (hyr : inR y) (h1 : Cond.methodLink own idx Lib.Math.min.name ∈ lw_all) (h2 : Cond.static Lib.Math.min.name ∈ lw_all) (h3 : Cond.initialized "java/lang/Math" ∈ lw_all) (h4 : Cond.code Lib.Math.min.name Lib.Math.min.code 2 (some .int) ∈ lw_all) (hf : 1 ≤ rm.frames) (hlo : 21 ≤ rm.locals) (hkc : k ≤ rm.cells) (hkn : n ≤ rm.slots) (h8 : acs st ≤ 8) (d : decode cc pc = .ok (.invokestatic idx, 3)) (h : GX E X T I R L k n (pc + 3) lv (aI (if y < x then y else x) :: st)) : GX E X T I R L k n pc lv (aI y :: aI x :: st) := by
  obtain ⟨p, l, e, Rm, s, m, args, below, meth, c, A, Q, D, cl, tys⟩ := E
  obtain ⟨⟨hx, hb, hml, hown, hts, hr, hlk, hK, hA⟩, ⟨rfl, rfl, rfl, rfl⟩, hAb, hbs, hEX⟩ := hE
  intro hok H locs ls hz hP hD hS hl
  obtain rfl : Rm = rm := hR
  have hst := stk8_of st 8 h8
  refine va_mmin hx hb hl.1.symm hown (hts _ h1) (hts _ h2) (hts _ h3) (hts _ h4) hf (by omega) hkc hkn d ?_
  have hc := iI_lt hyr hxr
  have e9 : (if iI y < iI x then iI y else iI x) = iI (if y < x then y else x) := by
    by_cases h0 : y < x
    · rw [if_pos (hc.mpr h0), if_pos h0]
    · rw [if_neg (fun q => h0 (hc.mp q)), if_neg h0]
  rw [e9]
  exact h hok H locs ls hz hP hD hS hl
/-- statics -/
theorem gx_gets_i {E : GE} {X : XT} {own : String} {cc : ByteArray} {nL : Nat} {ret : Option FieldType} (hE : OkX E X own cc nL ret) {T : xT} {I : xI} {R : xR} {L : xL} {k n pc : Nat} {lv : List LV} {st : List AV} {C nm ds : String} {i : Int} {idx : Nat} (hm : (C, nm, ds, Sum.inl i) ∈ stL) (hq : Cond.fieldLink own idx C nm ds ∈ lw_all) (d : decode cc pc = .ok (.getstatic idx, 3)) (h : GX E X T I R L k n (pc + 3) lv (aI i :: st)) : GX E X T I R L k n pc lv st := by
  obtain ⟨p, l, e, Rm, s, m, args, below, meth, c, A, Q, D, cl, tys⟩ := E
  obtain ⟨⟨hx, hb, hml, hown, hts, hr, hlk, hK, hA⟩, ⟨rfl, rfl, rfl, rfl⟩, hAb, hbs, hEX⟩ := hE
  intro hok H locs ls hz hP hD hS hl
  exact va_gets hx hb ((hEX.2.2.2.2.1 _ hm).narrow hAb) hS hown (hts _ hq) (fun _ h9 => h9) d (h hok H locs ls hz hP hD hS hl)
theorem gx_gets_r {E : GE} {X : XT} {own : String} {cc : ByteArray} {nL : Nat} {ret : Option FieldType} (hE : OkX E X own cc nL ret) {T : xT} {I : xI} {R : xR} {L : xL} {k n pc : Nat} {lv : List LV} {st : List AV} {C nm ds : String} {i idx : Nat} (hm : (C, nm, ds, Sum.inr i) ∈ stL) (hq : Cond.fieldLink own idx C nm ds ∈ lw_all) (d : decode cc pc = .ok (.getstatic idx, 3)) (h : GX E X T I R L k n (pc + 3) lv (aR (srX X i) :: st)) : GX E X T I R L k n pc lv st := by
  obtain ⟨p, l, e, Rm, s, m, args, below, meth, c, A, Q, D, cl, tys⟩ := E
  obtain ⟨⟨hx, hb, hml, hown, hts, hr, hlk, hK, hA⟩, ⟨rfl, rfl, rfl, rfl⟩, hAb, hbs, hEX⟩ := hE
  intro hok H locs ls hz hP hD hS hl
  exact va_gets hx hb ((hEX.2.2.2.2.1 _ hm).narrow hAb) hS hown (hts _ hq) (fun _ h9 => h9) d (h hok H locs ls hz hP hD hS hl)
theorem nar_o {nm : String} {x : Option Nat} : narrow (.object nm) (va_rf x) = va_rf x := by cases x <;> rfl
theorem nar_a {t : FieldType} {x : Option Nat} : narrow (.array t) (va_rf x) = va_rf x := by cases x <;> rfl
theorem fit_o {nm : String} {x : Option Nat} : fits (.object nm) (va_rf x) = true := by cases x <;> rfl
theorem fit_a {t : FieldType} {x : Option Nat} : fits (.array t) (va_rf x) = true := by cases x <;> rfl
theorem narrow_by {x : Int} (h : bl x) : narrow .byte (.int (iI x)) = .int (iI x) := by
  rcases h with rfl | rfl <;> decide
theorem fits_by {x : Int} (h : bl x) : fits .byte (.int (iI x)) = true := by
  rcases h with rfl | rfl <;> decide
theorem narrow_ch {x : Int} (h : 0 ≤ x ∧ x < 65536) : narrow .char (.int (iI x)) = .int (iI x) := by
  have e : iI x = nI x.toNat := by
    unfold iI nI
    rw [show x = ((x.toNat : Nat) : Int) by omega]
    rfl
  rw [e]
  exact (pk_charN (q := x.toNat) (by omega)).1
def lcI (x y : Int64) : Int := (lg_cmp x y).toInt
theorem lcI_in {x y : Int64} : inR (lcI x y) := inR_to _
theorem lcI_0 {x y : Int64} : lcI x y = 0 ↔ x = y := by
  unfold lcI lg_cmp
  by_cases h1 : x > y
  · rw [if_pos h1]
    constructor
    · intro q; cases q
    · intro q; subst q; exact absurd h1 (by simp)
  · rw [if_neg h1]
    by_cases h2 : x = y
    · rw [if_pos h2]; simp [h2]
    · rw [if_neg h2]
      constructor
      · intro q; cases q
      · intro q; exact absurd q h2
theorem gx_lcmp {E : GE} {X : XT} {own : String} {cc : ByteArray} {nL : Nat} {ret : Option FieldType} (hE : OkX E X own cc nL ret) {T : xT} {I : xI} {R : xR} {L : xL} {k n pc : Nat} {lv : List LV} {st : List AV} {x y : Int64} (d : decode cc pc = .ok (.lcmp, 1)) (h : GX E X T I R L k n (pc + 1) lv (aI (lcI x y) :: st)) : GX E X T I R L k n pc lv (aL y :: aL x :: st) := by
  obtain ⟨p, l, e, Rm, s, m, args, below, meth, c, A, Q, D, cl, tys⟩ := E
  obtain ⟨⟨hx, hb, hml, hown, hts, hr, hlk, hK, hA⟩, ⟨rfl, rfl, rfl, rfl⟩, hAb, hbs, hEX⟩ := hE
  intro hok H locs ls hz hP hD hS hl
  have h9 := h hok H locs ls hz hP hD hS hl
  have e9 : toV (aI (lcI x y)) = .int (lg_cmp x y) := congrArg Value.int (iI_of _)
  refine W.lcmp hx hb d ?_
  exact e9 ▸ h9
