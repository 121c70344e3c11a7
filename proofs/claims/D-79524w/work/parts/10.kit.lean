/-! THE JUDGEMENT G: the kit's W with its context in one tuple, typed values, Int for int -/
set_option maxRecDepth 100000
/-- machine int of an integer -/
def iI (z : Int) : Int32 := Int32.ofInt z
theorem iI_add (a b : Int) : iI a + iI b = iI (a + b) := (Int32.ofInt_add a b).symm
theorem iI_sub (a b : Int) : iI a - iI b = iI (a - b) := (Int32.ofInt_sub a b).symm
theorem iI_mul (a b : Int) : iI a * iI b = iI (a * b) := (Int32.ofInt_mul a b).symm
theorem iI_neg (a : Int) : -iI a = iI (-a) := (Int32.ofInt_neg a).symm
theorem iI_of (x : Int32) : iI x.toInt = x := Int32.ofInt_toInt x
abbrev inR (z : Int) : Prop := -2147483648 ≤ z ∧ z < 2147483648
theorem iI_to {z : Int} (h : inR z) : (iI z).toInt = z := Int32.toInt_ofInt_of_le (by have := h.1; omega) (by have := h.2; omega)
theorem inR_to (x : Int32) : inR x.toInt := by
  have h1 := Int32.toInt_lt x
  have h2 := Int32.le_toInt x
  constructor <;> omega
theorem iI_lt {a b : Int} (ha : inR a) (hb : inR b) : iI a < iI b ↔ a < b := by rw [Int32.lt_iff_toInt_lt, iI_to ha, iI_to hb]
theorem iI_le {a b : Int} (ha : inR a) (hb : inR b) : iI a ≤ iI b ↔ a ≤ b := by rw [Int32.le_iff_toInt_le, iI_to ha, iI_to hb]
theorem iI_eq {a b : Int} (ha : inR a) (hb : inR b) : iI a = iI b ↔ a = b := by
  constructor
  · intro h
    have := congrArg Int32.toInt h
    rwa [iI_to ha, iI_to hb] at this
  · intro h; rw [h]
theorem iI_0 : iI 0 = 0 := rfl
theorem inR_0 : inR 0 := by constructor <;> omega
theorem iI_clamp {z : Int} (h0 : 0 ≤ z) (h : z < 2147483648) : (iI z).toNatClampNeg = z.toNat := by
  show (iI z).toInt.toNat = _
  rw [iI_to ⟨by omega, h⟩]
theorem iI_in {z : Int} {n : Nat} (h0 : 0 ≤ z) (h : z < n) (hn : n < 2147483648) : vp_in (iI z) n := by
  rw [vp_in_iff, iI_to ⟨by omega, by omega⟩]
  exact ⟨h0, h⟩
theorem iI_div {a b : Int} (ha : 0 ≤ a ∧ a < 2147483648) (hb : 0 < b ∧ b < 2147483648) : iI a / iI b = iI (a / b) := by
  have ra : inR a := ⟨by omega, by omega⟩
  have rb : inR b := ⟨by omega, by omega⟩
  have hq : 0 ≤ a / b := Int.ediv_nonneg ha.1 (by omega)
  have hq2 : a / b ≤ a := Int.ediv_le_self _ ha.1
  apply Int32.toInt_inj.mp
  rw [Int32.toInt_div_of_ne_right, iI_to ra, iI_to rb, iI_to ⟨by omega, by omega⟩, Int.tdiv_eq_ediv_of_nonneg ha.1]
  intro h
  have := congrArg Int32.toInt h
  rw [iI_to rb] at this
  have h1 : (-1 : Int32).toInt = -1 := by decide
  omega
theorem iI_rem {a b : Int} (ha : 0 ≤ a ∧ a < 2147483648) (hb : 0 < b ∧ b < 2147483648) : iI a - iI a / iI b * iI b = iI (a % b) := by
  rw [iI_div ha hb, iI_mul, iI_sub]
  have : a - a / b * b = a % b := by rw [Int.emod_def, Int.mul_comm]
  rw [this]
theorem iI_ne0 {b : Int} (hb : 0 < b ∧ b < 2147483648) : ¬ iI b = 0 := by
  intro h
  have h2 := (iI_eq ⟨by omega, by omega⟩ inR_0).mp (h.trans iI_0.symm)
  omega
def bAnd (x y : Int) : Int := (iI x &&& iI y).toInt
def bOr (x y : Int) : Int := (iI x ||| iI y).toInt
def bXor (x y : Int) : Int := (iI x ^^^ iI y).toInt
def bShl (x y : Int) : Int := (iI x <<< (iI y &&& 31)).toInt
def bShr (x y : Int) : Int := (iI x >>> (iI y &&& 31)).toInt
def bUshr (x y : Int) : Int := ((iI x).toUInt32 >>> ((iI y).toUInt32 &&& Int32.toUInt32 31)).toInt32.toInt
def bB (x : Int) : Int := (iI x).toInt8.toInt32.toInt
def bC (x : Int) : Int := ((iI x).toUInt32 % 65536).toInt32.toInt
abbrev bl (x : Int) : Prop := x = 0 ∨ x = 1
/-- 1 or 0 -/
def bI (p : Prop) [Decidable p] : Int := if p then 1 else 0
/-- typed values -/
abbrev AV : Type := Int ⊕ (Option Nat ⊕ Int64)
abbrev LV : Type := Option AV
abbrev aI (x : Int) : AV := Sum.inl x
abbrev aR (r : Option Nat) : AV := Sum.inr (Sum.inl r)
abbrev aL (x : Int64) : AV := Sum.inr (Sum.inr x)
def toV (v : AV) : Value := match v with
  | .inl x => .int (iI x)
  | .inr (.inl r) => va_rf r
  | .inr (.inr x) => .long x
def isL (v : LV) : Bool := match v with
  | some (.inr (.inr _)) => true
  | _ => false
theorem toV_cat1 {v : AV} (h : isL (some v) = false) : (toV v).category = 1 := by
  rcases v with x | r | x
  · rfl
  · cases r <;> rfl
  · cases h
/-- the locals as a list of pairs -/
def prs : Nat → List LV → List (Nat × Value)
  | _, [] => []
  | i, none :: r => prs (i + 1) r
  | i, some v :: r => (i, toV v) :: prs (i + 1) r
theorem prs_mem : ∀ (l : List LV) (b : Nat) (q : Nat × Value), q ∈ prs b l ↔ ∃ (i : Nat) (v : AV), l[i]? = some (some v) ∧ q = (b + i, toV v)
  | [], b, q => by simp [prs]
  | none :: r, b, q => by
    rw [prs, prs_mem r (b + 1) q]
    constructor
    · rintro ⟨i, v, h1, h2⟩
      exact ⟨i + 1, v, by simpa using h1, by rw [h2]; congr 1; omega⟩
    · rintro ⟨i, v, h1, h2⟩
      cases i with
      | zero => simp at h1
      | succ i => exact ⟨i, v, by simpa using h1, by rw [h2]; congr 1; omega⟩
  | some w :: r, b, q => by
    rw [prs, List.mem_cons, prs_mem r (b + 1) q]
    constructor
    · rintro (h | ⟨i, v, h1, h2⟩)
      · exact ⟨0, w, by simp, by simpa using h⟩
      · exact ⟨i + 1, v, by simpa using h1, by rw [h2]; congr 1; omega⟩
    · rintro ⟨i, v, h1, h2⟩
      cases i with
      | zero =>
        simp at h1
        left; rw [h2, h1]; rfl
      | succ i => exact Or.inr ⟨i, v, by simpa using h1, by rw [h2]; congr 1; omega⟩
def LH (ls : Array Slot) (nL : Nat) (lv : List LV) : Prop := lv_has ls nL (prs 0 lv)
theorem LH.at {ls : Array Slot} {nL : Nat} {lv : List LV} (h : LH ls nL lv) {i : Nat} {v : AV} (hi : lv[i]? = some (some v)) : ls[i]? = some (.val (toV v)) := by
  have := h.2.2 (i, toV v) ((prs_mem lv 0 _).mpr ⟨i, v, hi, by simp⟩)
  exact this
theorem LH.weak {ls : Array Slot} {nL : Nat} {lv lv' : List LV} (h : LH ls nL lv) (hw : ∀ (i : Nat) (v : AV), lv'[i]? = some (some v) → lv[i]? = some (some v)) : LH ls nL lv' := by
  refine ⟨h.1, h.2.1, fun q hq => h.2.2 q ?_⟩
  obtain ⟨i, v, h1, h2⟩ := (prs_mem lv' 0 q).mp hq
  exact (prs_mem lv 0 q).mpr ⟨i, v, hw i v h1, h2⟩
/-- what a store of one slot needs: no long's first half just ahead -/
def okst (lv : List LV) (i : Nat) : Bool := match i with
  | 0 => true
  | j + 1 => match lv[j]? with
    | some (some (.inr (.inr _))) => false
    | _ => true
theorem okst_use {lv : List LV} {i j : Nat} {v : AV} (h : okst lv i = true) (hj : lv[j]? = some (some v)) (hi : j + 1 = i) : (toV v).category = 1 := by
  subst hi
  unfold okst at h
  simp only [hj] at h
  rcases v with x | r | x
  · rfl
  · cases r <;> rfl
  · cases h
theorem LH.set1 {ls : Array Slot} {nL : Nat} {lv : List LV} {i : Nat} {v : AV} (ok : okst lv i = true) (h : lv_has ls nL ((i, toV v) :: (prs 0 lv).filter (fun q => !(q.1 == i) && !(q.1 + 1 == i && q.2.category == 2)))) : LH ls nL (lv.set i (some v)) := by
  refine ⟨h.1, h.2.1, fun q hq => h.2.2 q ?_⟩
  obtain ⟨j, w, h1, h2⟩ := (prs_mem _ 0 q).mp hq
  rw [Nat.zero_add] at h2
  by_cases hj : j = i
  · subst hj
    have hlt : j < (lv.set j (some v)).length := (List.getElem?_eq_some_iff.mp h1).1
    rw [List.length_set] at hlt
    rw [List.getElem?_set_self hlt] at h1
    cases h1
    rw [h2]
    exact List.mem_cons_self
  · rw [List.getElem?_set_ne (Ne.symm hj)] at h1
    refine List.mem_cons_of_mem _ (List.mem_filter.mpr ⟨(prs_mem lv 0 q).mpr ⟨j, w, h1, by rw [h2, Nat.zero_add]⟩, ?_⟩)
    rw [h2]
    simp only [Bool.and_eq_true, Bool.not_eq_true', beq_eq_false_iff_ne, ne_eq, Bool.and_eq_false_iff]
    refine ⟨hj, ?_⟩
    by_cases hi : j + 1 = i
    · right
      rw [okst_use ok h1 hi]
      decide
    · exact Or.inl hi
theorem LH.set2 {ls : Array Slot} {nL : Nat} {lv : List LV} {i : Nat} {v : AV} (ok : okst lv i = true) (h : lv_has ls nL ((i, toV v) :: (prs 0 lv).filter (fun q => !(q.1 == i) && (!(q.1 == i + 1) && !(q.1 + 1 == i && q.2.category == 2))))) : LH ls nL ((lv.set i (some v)).set (i + 1) none) := by
  refine ⟨h.1, h.2.1, fun q hq => h.2.2 q ?_⟩
  obtain ⟨j, w, h1, h2⟩ := (prs_mem _ 0 q).mp hq
  rw [Nat.zero_add] at h2
  by_cases hj1 : j = i + 1
  · subst hj1
    have hlt := (List.getElem?_eq_some_iff.mp h1).1
    rw [List.length_set] at hlt
    rw [List.getElem?_set_self hlt] at h1
    cases h1
  rw [List.getElem?_set_ne (Ne.symm hj1)] at h1
  by_cases hj : j = i
  · subst hj
    have hlt : j < (lv.set j (some v)).length := (List.getElem?_eq_some_iff.mp h1).1
    rw [List.length_set] at hlt
    rw [List.getElem?_set_self hlt] at h1
    cases h1
    rw [h2]
    exact List.mem_cons_self
  · rw [List.getElem?_set_ne (Ne.symm hj)] at h1
    refine List.mem_cons_of_mem _ (List.mem_filter.mpr ⟨(prs_mem lv 0 q).mpr ⟨j, w, h1, by rw [h2, Nat.zero_add]⟩, ?_⟩)
    rw [h2]
    simp only [Bool.and_eq_true, Bool.not_eq_true', beq_eq_false_iff_ne, ne_eq, Bool.and_eq_false_iff]
    refine ⟨hj, hj1, ?_⟩
    by_cases hi : j + 1 = i
    · right
      rw [okst_use ok h1 hi]
      decide
    · exact Or.inl hi
/-- the context of a walk -/
abbrev GE : Type := Program × Launch × Env × Room × State × MethodId × Array Value × List Frame × Method × Code × (Nat → Prop) × (State → Prop) × va_G × List vw_C × List (ClassId × FieldType)
abbrev zok (z : Option Nat) (H : Heap) : Prop := ∀ q : Nat, z = some q → H.size = q
def G (E : GE) (ws : va_W) (z : Option Nat) (k n pc : Nat) (lv : List LV) (st : List AV) : Prop := match E with
  | (p, l, e, R, s, m, args, below, meth, c, A, Q, D, cl, tys) => ∀ (H : Heap) (locs : List Loc) (ls : Array Slot), zok z H → va_P D cl ws H → va_D A ws → va_S A s.heap H locs → LH ls c.maxLocals lv → W p l e R s m args below meth c H locs k n Q (F0 m pc ls (st.map toV))
/-- what holds in a method's body: own class, code, locals, answer's type -/
def OkE (E : GE) (own : String) (cc : ByteArray) (nL : Nat) (ret : Option FieldType) : Prop := match E with
  | (p, l, e, R, s, m, args, below, meth, c, A, Q, D, cl, tys) => p.tables.exec = Jvm.exec ∧ c.code = cc ∧ c.maxLocals = nL ∧ s.vm.findClass own = some m.cls ∧ (∀ w ∈ lw_all, w.before args s = true) ∧ meth.sig.returnType = ret ∧ meth.locks = false ∧ va_K D cl tys s ∧ (∀ q : Nat, s.heap.size ≤ q → A q)

theorem g_iconst {E : GE} {own : String} {cc : ByteArray} {nL : Nat} {ret : Option FieldType} (hE : OkE E own cc nL ret) {ws : va_W} {z : Option Nat} {k n pc : Nat} {st : List AV} {lv : List LV} {v : Int} (d : decode cc pc = .ok (.iconst v, 1)) (h : G E ws z k n (pc + 1) lv (aI v :: st)) : G E ws z k n pc lv st := by
  obtain ⟨p, l, e, R, s, m, args, below, meth, c, A, Q, D, cl, tys⟩ := E
  obtain ⟨hx, hb, hml, hown, hts, hr, hlk, hK, hA⟩ := hE
  intro H locs ls hz hP hD hS hl
  show W p l e R s m args below meth c H locs k n Q (F0 m pc ls (st.map toV))
  exact lv_iconst hx hb d rfl (h H locs ls hz hP hD hS hl)
theorem g_bipush {E : GE} {own : String} {cc : ByteArray} {nL : Nat} {ret : Option FieldType} (hE : OkE E own cc nL ret) {ws : va_W} {z : Option Nat} {k n pc : Nat} {st : List AV} {lv : List LV} {v : Int} (d : decode cc pc = .ok (.bipush v, 2)) (hv : (Int8.ofInt v).toInt32 = iI v) (h : G E ws z k n (pc + 2) lv (aI v :: st)) : G E ws z k n pc lv st := by
  obtain ⟨p, l, e, R, s, m, args, below, meth, c, A, Q, D, cl, tys⟩ := E
  obtain ⟨hx, hb, hml, hown, hts, hr, hlk, hK, hA⟩ := hE
  intro H locs ls hz hP hD hS hl
  show W p l e R s m args below meth c H locs k n Q (F0 m pc ls (st.map toV))
  exact lv_bipush hx hb d hv (h H locs ls hz hP hD hS hl)
theorem g_sipush {E : GE} {own : String} {cc : ByteArray} {nL : Nat} {ret : Option FieldType} (hE : OkE E own cc nL ret) {ws : va_W} {z : Option Nat} {k n pc : Nat} {st : List AV} {lv : List LV} {v : Int} (d : decode cc pc = .ok (.sipush v, 3)) (hv : (Int16.ofInt v).toInt32 = iI v) (h : G E ws z k n (pc + 3) lv (aI v :: st)) : G E ws z k n pc lv st := by
  obtain ⟨p, l, e, R, s, m, args, below, meth, c, A, Q, D, cl, tys⟩ := E
  obtain ⟨hx, hb, hml, hown, hts, hr, hlk, hK, hA⟩ := hE
  intro H locs ls hz hP hD hS hl
  show W p l e R s m args below meth c H locs k n Q (F0 m pc ls (st.map toV))
  exact lv_sipush hx hb d hv (h H locs ls hz hP hD hS hl)
theorem g_ldc {E : GE} {own : String} {cc : ByteArray} {nL : Nat} {ret : Option FieldType} (hE : OkE E own cc nL ret) {ws : va_W} {z : Option Nat} {k n pc : Nat} {st : List AV} {lv : List LV} {i : Nat} {v : Int} {c0 : Int32} (d : decode cc pc = .ok (.ldc i, 2)) (hq : Cond.constant own i c0 ∈ lw_all) (hv : c0 = iI v) (h : G E ws z k n (pc + 2) lv (aI v :: st)) : G E ws z k n pc lv st := by
  obtain ⟨p, l, e, R, s, m, args, below, meth, c, A, Q, D, cl, tys⟩ := E
  obtain ⟨hx, hb, hml, hown, hts, hr, hlk, hK, hA⟩ := hE
  intro H locs ls hz hP hD hS hl
  show W p l e R s m args below meth c H locs k n Q (F0 m pc ls (st.map toV))
  exact lv_ldc hx hb hown (hts _ hq) d (hv ▸ h H locs ls hz hP hD hS hl)
theorem g_lconst {E : GE} {own : String} {cc : ByteArray} {nL : Nat} {ret : Option FieldType} (hE : OkE E own cc nL ret) {ws : va_W} {z : Option Nat} {k n pc : Nat} {st : List AV} {lv : List LV} {i : Fin 2} {v : Int64} (d : decode cc pc = .ok (.lconst i, 1)) (hv : Int64.ofNat (i : Nat) = v) (h : G E ws z k n (pc + 1) lv (aL v :: st)) : G E ws z k n pc lv st := by
  obtain ⟨p, l, e, R, s, m, args, below, meth, c, A, Q, D, cl, tys⟩ := E
  obtain ⟨hx, hb, hml, hown, hts, hr, hlk, hK, hA⟩ := hE
  intro H locs ls hz hP hD hS hl
  show W p l e R s m args below meth c H locs k n Q (F0 m pc ls (st.map toV))
  exact lv_lconst hx hb d hv (h H locs ls hz hP hD hS hl)
theorem g_ldc2 {E : GE} {own : String} {cc : ByteArray} {nL : Nat} {ret : Option FieldType} (hE : OkE E own cc nL ret) {ws : va_W} {z : Option Nat} {k n pc : Nat} {st : List AV} {lv : List LV} {i : Nat} {v : Int64} (d : decode cc pc = .ok (.ldc2_w i, 3)) (hq : Cond.constantLong own i v ∈ lw_all) (h : G E ws z k n (pc + 3) lv (aL v :: st)) : G E ws z k n pc lv st := by
  obtain ⟨p, l, e, R, s, m, args, below, meth, c, A, Q, D, cl, tys⟩ := E
  obtain ⟨hx, hb, hml, hown, hts, hr, hlk, hK, hA⟩ := hE
  intro H locs ls hz hP hD hS hl
  show W p l e R s m args below meth c H locs k n Q (F0 m pc ls (st.map toV))
  exact lv_ldc2 hx hb hown (hts _ hq) d (h H locs ls hz hP hD hS hl)
theorem g_null {E : GE} {own : String} {cc : ByteArray} {nL : Nat} {ret : Option FieldType} (hE : OkE E own cc nL ret) {ws : va_W} {z : Option Nat} {k n pc : Nat} {st : List AV} {lv : List LV} (d : decode cc pc = .ok (.aconst_null, 1)) (h : G E ws z k n (pc + 1) lv (aR none :: st)) : G E ws z k n pc lv st := by
  obtain ⟨p, l, e, R, s, m, args, below, meth, c, A, Q, D, cl, tys⟩ := E
  obtain ⟨hx, hb, hml, hown, hts, hr, hlk, hK, hA⟩ := hE
  intro H locs ls hz hP hD hS hl
  show W p l e R s m args below meth c H locs k n Q (F0 m pc ls (st.map toV))
  exact lv_null hx hb d (h H locs ls hz hP hD hS hl)
theorem g_iload_n_ {E : GE} {own : String} {cc : ByteArray} {nL : Nat} {ret : Option FieldType} (hE : OkE E own cc nL ret) {ws : va_W} {z : Option Nat} {k n pc : Nat} {st : List AV} {lv : List LV} {i : Fin 4} {j : Nat} {x : Int} (d : decode cc pc = .ok (.iload_n i, 1)) (hi : (i : Nat) = j) (hj : lv[j]? = some (some (aI x))) (h : G E ws z k n (pc + 1) lv (aI x :: st)) : G E ws z k n pc lv st := by
  obtain ⟨p, l, e, R, s, m, args, below, meth, c, A, Q, D, cl, tys⟩ := E
  obtain ⟨hx, hb, hml, hown, hts, hr, hlk, hK, hA⟩ := hE
  intro H locs ls hz hP hD hS hl
  show W p l e R s m args below meth c H locs k n Q (F0 m pc ls (st.map toV))
  exact lv_iload_n hx hb d hi (hl.at hj) (h H locs ls hz hP hD hS hl)
theorem g_iload_ {E : GE} {own : String} {cc : ByteArray} {nL : Nat} {ret : Option FieldType} (hE : OkE E own cc nL ret) {ws : va_W} {z : Option Nat} {k n pc : Nat} {st : List AV} {lv : List LV} {j : Nat} {x : Int} (d : decode cc pc = .ok (.iload j, 2)) (hj : lv[j]? = some (some (aI x))) (h : G E ws z k n (pc + 2) lv (aI x :: st)) : G E ws z k n pc lv st := by
  obtain ⟨p, l, e, R, s, m, args, below, meth, c, A, Q, D, cl, tys⟩ := E
  obtain ⟨hx, hb, hml, hown, hts, hr, hlk, hK, hA⟩ := hE
  intro H locs ls hz hP hD hS hl
  show W p l e R s m args below meth c H locs k n Q (F0 m pc ls (st.map toV))
  exact lv_iload hx hb d (hl.at hj) (h H locs ls hz hP hD hS hl)
theorem g_lload_n_ {E : GE} {own : String} {cc : ByteArray} {nL : Nat} {ret : Option FieldType} (hE : OkE E own cc nL ret) {ws : va_W} {z : Option Nat} {k n pc : Nat} {st : List AV} {lv : List LV} {i : Fin 4} {j : Nat} {x : Int64} (d : decode cc pc = .ok (.lload_n i, 1)) (hi : (i : Nat) = j) (hj : lv[j]? = some (some (aL x))) (h : G E ws z k n (pc + 1) lv (aL x :: st)) : G E ws z k n pc lv st := by
  obtain ⟨p, l, e, R, s, m, args, below, meth, c, A, Q, D, cl, tys⟩ := E
  obtain ⟨hx, hb, hml, hown, hts, hr, hlk, hK, hA⟩ := hE
  intro H locs ls hz hP hD hS hl
  show W p l e R s m args below meth c H locs k n Q (F0 m pc ls (st.map toV))
  exact lv_lload_n hx hb d hi (hl.at hj) (h H locs ls hz hP hD hS hl)
theorem g_lload_ {E : GE} {own : String} {cc : ByteArray} {nL : Nat} {ret : Option FieldType} (hE : OkE E own cc nL ret) {ws : va_W} {z : Option Nat} {k n pc : Nat} {st : List AV} {lv : List LV} {j : Nat} {x : Int64} (d : decode cc pc = .ok (.lload j, 2)) (hj : lv[j]? = some (some (aL x))) (h : G E ws z k n (pc + 2) lv (aL x :: st)) : G E ws z k n pc lv st := by
  obtain ⟨p, l, e, R, s, m, args, below, meth, c, A, Q, D, cl, tys⟩ := E
  obtain ⟨hx, hb, hml, hown, hts, hr, hlk, hK, hA⟩ := hE
  intro H locs ls hz hP hD hS hl
  show W p l e R s m args below meth c H locs k n Q (F0 m pc ls (st.map toV))
  exact lv_lload hx hb d (hl.at hj) (h H locs ls hz hP hD hS hl)
theorem g_aload_n_ {E : GE} {own : String} {cc : ByteArray} {nL : Nat} {ret : Option FieldType} (hE : OkE E own cc nL ret) {ws : va_W} {z : Option Nat} {k n pc : Nat} {st : List AV} {lv : List LV} {i : Fin 4} {j : Nat} {x : Option Nat} (d : decode cc pc = .ok (.aload_n i, 1)) (hi : (i : Nat) = j) (hj : lv[j]? = some (some (aR x))) (h : G E ws z k n (pc + 1) lv (aR x :: st)) : G E ws z k n pc lv st := by
  obtain ⟨p, l, e, R, s, m, args, below, meth, c, A, Q, D, cl, tys⟩ := E
  obtain ⟨hx, hb, hml, hown, hts, hr, hlk, hK, hA⟩ := hE
  intro H locs ls hz hP hD hS hl
  show W p l e R s m args below meth c H locs k n Q (F0 m pc ls (st.map toV))
  have h1 := hl.at hj
  cases x with
  | none => exact lv_aload_nN hx hb d hi h1 (h H locs ls hz hP hD hS hl)
  | some a => exact lv_aload_n hx hb d hi h1 (h H locs ls hz hP hD hS hl)
theorem g_aload_ {E : GE} {own : String} {cc : ByteArray} {nL : Nat} {ret : Option FieldType} (hE : OkE E own cc nL ret) {ws : va_W} {z : Option Nat} {k n pc : Nat} {st : List AV} {lv : List LV} {j : Nat} {x : Option Nat} (d : decode cc pc = .ok (.aload j, 2)) (hj : lv[j]? = some (some (aR x))) (h : G E ws z k n (pc + 2) lv (aR x :: st)) : G E ws z k n pc lv st := by
  obtain ⟨p, l, e, R, s, m, args, below, meth, c, A, Q, D, cl, tys⟩ := E
  obtain ⟨hx, hb, hml, hown, hts, hr, hlk, hK, hA⟩ := hE
  intro H locs ls hz hP hD hS hl
  show W p l e R s m args below meth c H locs k n Q (F0 m pc ls (st.map toV))
  have h1 := hl.at hj
  cases x with
  | none => exact lv_aloadN hx hb d h1 (h H locs ls hz hP hD hS hl)
  | some a => exact lv_aload hx hb d h1 (h H locs ls hz hP hD hS hl)
theorem g_istore_n_ {E : GE} {own : String} {cc : ByteArray} {nL : Nat} {ret : Option FieldType} (hE : OkE E own cc nL ret) {ws : va_W} {z : Option Nat} {k n pc : Nat} {st : List AV} {lv : List LV} {i : Fin 4} {j : Nat} {x : Int} (d : decode cc pc = .ok (.istore_n i, 1)) (hi : (i : Nat) = j) (hn : j < nL) (ok : okst lv j = true) (h : G E ws z k n (pc + 1) (lv.set j (some (aI x))) st) : G E ws z k n pc lv (aI x :: st) := by
  obtain ⟨p, l, e, R, s, m, args, below, meth, c, A, Q, D, cl, tys⟩ := E
  obtain ⟨hx, hb, hml, hown, hts, hr, hlk, hK, hA⟩ := hE
  intro H locs ls hz hP hD hS hl
  show W p l e R s m args below meth c H locs k n Q (F0 m pc ls (toV (aI x) :: st.map toV))
  exact lv_istore_n hx hb d hi hl (by rw [hml]; exact hn) rfl (fun ls2 hl2 => h H locs ls2 hz hP hD hS (LH.set1 (v := aI x) ok hl2))
theorem g_istore_ {E : GE} {own : String} {cc : ByteArray} {nL : Nat} {ret : Option FieldType} (hE : OkE E own cc nL ret) {ws : va_W} {z : Option Nat} {k n pc : Nat} {st : List AV} {lv : List LV} {j : Nat} {x : Int} (d : decode cc pc = .ok (.istore j, 2)) (hn : j < nL) (ok : okst lv j = true) (h : G E ws z k n (pc + 2) (lv.set j (some (aI x))) st) : G E ws z k n pc lv (aI x :: st) := by
  obtain ⟨p, l, e, R, s, m, args, below, meth, c, A, Q, D, cl, tys⟩ := E
  obtain ⟨hx, hb, hml, hown, hts, hr, hlk, hK, hA⟩ := hE
  intro H locs ls hz hP hD hS hl
  show W p l e R s m args below meth c H locs k n Q (F0 m pc ls (toV (aI x) :: st.map toV))
  exact lv_istore hx hb d hl (by rw [hml]; exact hn) rfl (fun ls2 hl2 => h H locs ls2 hz hP hD hS (LH.set1 (v := aI x) ok hl2))
theorem g_lstore_n_ {E : GE} {own : String} {cc : ByteArray} {nL : Nat} {ret : Option FieldType} (hE : OkE E own cc nL ret) {ws : va_W} {z : Option Nat} {k n pc : Nat} {st : List AV} {lv : List LV} {i : Fin 4} {j : Nat} {x : Int64} (d : decode cc pc = .ok (.lstore_n i, 1)) (hi : (i : Nat) = j) (hn : j + 1 < nL) (ok : okst lv j = true) (h : G E ws z k n (pc + 1) ((lv.set j (some (aL x))).set (j + 1) none) st) : G E ws z k n pc lv (aL x :: st) := by
  obtain ⟨p, l, e, R, s, m, args, below, meth, c, A, Q, D, cl, tys⟩ := E
  obtain ⟨hx, hb, hml, hown, hts, hr, hlk, hK, hA⟩ := hE
  intro H locs ls hz hP hD hS hl
  show W p l e R s m args below meth c H locs k n Q (F0 m pc ls (toV (aL x) :: st.map toV))
  exact lv_lstore_n hx hb d hi hl (by rw [hml]; exact hn) rfl (fun ls2 hl2 => h H locs ls2 hz hP hD hS (LH.set2 (v := aL x) ok hl2))
theorem g_lstore_ {E : GE} {own : String} {cc : ByteArray} {nL : Nat} {ret : Option FieldType} (hE : OkE E own cc nL ret) {ws : va_W} {z : Option Nat} {k n pc : Nat} {st : List AV} {lv : List LV} {j : Nat} {x : Int64} (d : decode cc pc = .ok (.lstore j, 2)) (hn : j + 1 < nL) (ok : okst lv j = true) (h : G E ws z k n (pc + 2) ((lv.set j (some (aL x))).set (j + 1) none) st) : G E ws z k n pc lv (aL x :: st) := by
  obtain ⟨p, l, e, R, s, m, args, below, meth, c, A, Q, D, cl, tys⟩ := E
  obtain ⟨hx, hb, hml, hown, hts, hr, hlk, hK, hA⟩ := hE
  intro H locs ls hz hP hD hS hl
  show W p l e R s m args below meth c H locs k n Q (F0 m pc ls (toV (aL x) :: st.map toV))
  exact lv_lstore hx hb d hl (by rw [hml]; exact hn) rfl (fun ls2 hl2 => h H locs ls2 hz hP hD hS (LH.set2 (v := aL x) ok hl2))
theorem g_astore_n_ {E : GE} {own : String} {cc : ByteArray} {nL : Nat} {ret : Option FieldType} (hE : OkE E own cc nL ret) {ws : va_W} {z : Option Nat} {k n pc : Nat} {st : List AV} {lv : List LV} {i : Fin 4} {j : Nat} {x : Option Nat} (d : decode cc pc = .ok (.astore_n i, 1)) (hi : (i : Nat) = j) (hn : j < nL) (ok : okst lv j = true) (h : G E ws z k n (pc + 1) (lv.set j (some (aR x))) st) : G E ws z k n pc lv (aR x :: st) := by
  obtain ⟨p, l, e, R, s, m, args, below, meth, c, A, Q, D, cl, tys⟩ := E
  obtain ⟨hx, hb, hml, hown, hts, hr, hlk, hK, hA⟩ := hE
  intro H locs ls hz hP hD hS hl
  show W p l e R s m args below meth c H locs k n Q (F0 m pc ls (toV (aR x) :: st.map toV))
  cases x with
  | none => exact lv_astore_nN hx hb d hi hl (by rw [hml]; exact hn) rfl (fun ls2 hl2 => h H locs ls2 hz hP hD hS (LH.set1 (v := aR none) ok hl2))
  | some a => exact lv_astore_n hx hb d hi hl (by rw [hml]; exact hn) rfl (fun ls2 hl2 => h H locs ls2 hz hP hD hS (LH.set1 (v := aR (some a)) ok hl2))
theorem g_astore_ {E : GE} {own : String} {cc : ByteArray} {nL : Nat} {ret : Option FieldType} (hE : OkE E own cc nL ret) {ws : va_W} {z : Option Nat} {k n pc : Nat} {st : List AV} {lv : List LV} {j : Nat} {x : Option Nat} (d : decode cc pc = .ok (.astore j, 2)) (hn : j < nL) (ok : okst lv j = true) (h : G E ws z k n (pc + 2) (lv.set j (some (aR x))) st) : G E ws z k n pc lv (aR x :: st) := by
  obtain ⟨p, l, e, R, s, m, args, below, meth, c, A, Q, D, cl, tys⟩ := E
  obtain ⟨hx, hb, hml, hown, hts, hr, hlk, hK, hA⟩ := hE
  intro H locs ls hz hP hD hS hl
  show W p l e R s m args below meth c H locs k n Q (F0 m pc ls (toV (aR x) :: st.map toV))
  cases x with
  | none => exact lv_astoreN hx hb d hl (by rw [hml]; exact hn) rfl (fun ls2 hl2 => h H locs ls2 hz hP hD hS (LH.set1 (v := aR none) ok hl2))
  | some a => exact lv_astore hx hb d hl (by rw [hml]; exact hn) rfl (fun ls2 hl2 => h H locs ls2 hz hP hD hS (LH.set1 (v := aR (some a)) ok hl2))
theorem prs_at {lv : List LV} {j : Nat} {x : AV} (h : lv[j]? = some (some x)) : ∃ i : Nat, (prs 0 lv)[i]? = some (j, toV x) := by
  have := (prs_mem lv 0 (j, toV x)).mpr ⟨j, x, h, by simp⟩
  exact List.getElem?_of_mem this
theorem g_iinc_ {E : GE} {own : String} {cc : ByteArray} {nL : Nat} {ret : Option FieldType} (hE : OkE E own cc nL ret) {ws : va_W} {z : Option Nat} {k n pc : Nat} {st : List AV} {lv : List LV} {j : Nat} {x v : Int} (d : decode cc pc = .ok (.iinc j v, 3)) (hj : lv[j]? = some (some (aI x))) (hn : j < nL) (ok : okst lv j = true) (h : G E ws z k n (pc + 3) (lv.set j (some (aI (x + v)))) st) : G E ws z k n pc lv st := by
  obtain ⟨p, l, e, R, s, m, args, below, meth, c, A, Q, D, cl, tys⟩ := E
  obtain ⟨hx, hb, hml, hown, hts, hr, hlk, hK, hA⟩ := hE
  intro H locs ls hz hP hD hS hl
  show W p l e R s m args below meth c H locs k n Q (F0 m pc ls (st.map toV))
  obtain ⟨i, hi⟩ := prs_at hj
  have e : iI x + Int32.ofInt v = iI (x + v) := iI_add x v
  exact lv_iinc hx hb d hl hi e (by rw [hml]; exact hn) rfl (fun ls2 hl2 => h H locs ls2 hz hP hD hS (LH.set1 (v := aI (x + v)) ok hl2))
theorem g_ildn0 {E : GE} {own : String} {cc : ByteArray} {nL : Nat} {ret : Option FieldType} (hE : OkE E own cc nL ret) {ws : va_W} {z : Option Nat} {k n pc : Nat} {st : List AV}  {r : List LV} {x : Int} (d : decode cc pc = .ok (.iload_n 0, 1)) (h : G E ws z k n (pc + 1) (some (aI x) :: r) (aI x :: st)) : G E ws z k n pc (some (aI x) :: r) st := g_iload_n_ hE (j := 0) d rfl rfl h
theorem g_ild0 {E : GE} {own : String} {cc : ByteArray} {nL : Nat} {ret : Option FieldType} (hE : OkE E own cc nL ret) {ws : va_W} {z : Option Nat} {k n pc : Nat} {st : List AV}  {r : List LV} {x : Int} (d : decode cc pc = .ok (.iload 0, 2)) (h : G E ws z k n (pc + 2) (some (aI x) :: r) (aI x :: st)) : G E ws z k n pc (some (aI x) :: r) st := g_iload_ hE (j := 0) d rfl h
theorem g_istn0 {E : GE} {own : String} {cc : ByteArray} {nL : Nat} {ret : Option FieldType} (hE : OkE E own cc nL ret) {ws : va_W} {z : Option Nat} {k n pc : Nat} {st : List AV}  {w : LV} {r : List LV} {x : Int} (d : decode cc pc = .ok (.istore_n 0, 1)) (hn : 0 < nL) (ok : okst (w :: r) 0 = true) (h : G E ws z k n (pc + 1) (some (aI x) :: r) st) : G E ws z k n pc (w :: r) (aI x :: st) := g_istore_n_ hE (j := 0) d rfl hn ok h
theorem g_ist0 {E : GE} {own : String} {cc : ByteArray} {nL : Nat} {ret : Option FieldType} (hE : OkE E own cc nL ret) {ws : va_W} {z : Option Nat} {k n pc : Nat} {st : List AV}  {w : LV} {r : List LV} {x : Int} (d : decode cc pc = .ok (.istore 0, 2)) (hn : 0 < nL) (ok : okst (w :: r) 0 = true) (h : G E ws z k n (pc + 2) (some (aI x) :: r) st) : G E ws z k n pc (w :: r) (aI x :: st) := g_istore_ hE (j := 0) d hn ok h
theorem g_aldn0 {E : GE} {own : String} {cc : ByteArray} {nL : Nat} {ret : Option FieldType} (hE : OkE E own cc nL ret) {ws : va_W} {z : Option Nat} {k n pc : Nat} {st : List AV}  {r : List LV} {x : Option Nat} (d : decode cc pc = .ok (.aload_n 0, 1)) (h : G E ws z k n (pc + 1) (some (aR x) :: r) (aR x :: st)) : G E ws z k n pc (some (aR x) :: r) st := g_aload_n_ hE (j := 0) d rfl rfl h
theorem g_ald0 {E : GE} {own : String} {cc : ByteArray} {nL : Nat} {ret : Option FieldType} (hE : OkE E own cc nL ret) {ws : va_W} {z : Option Nat} {k n pc : Nat} {st : List AV}  {r : List LV} {x : Option Nat} (d : decode cc pc = .ok (.aload 0, 2)) (h : G E ws z k n (pc + 2) (some (aR x) :: r) (aR x :: st)) : G E ws z k n pc (some (aR x) :: r) st := g_aload_ hE (j := 0) d rfl h
theorem g_astn0 {E : GE} {own : String} {cc : ByteArray} {nL : Nat} {ret : Option FieldType} (hE : OkE E own cc nL ret) {ws : va_W} {z : Option Nat} {k n pc : Nat} {st : List AV}  {w : LV} {r : List LV} {x : Option Nat} (d : decode cc pc = .ok (.astore_n 0, 1)) (hn : 0 < nL) (ok : okst (w :: r) 0 = true) (h : G E ws z k n (pc + 1) (some (aR x) :: r) st) : G E ws z k n pc (w :: r) (aR x :: st) := g_astore_n_ hE (j := 0) d rfl hn ok h
theorem g_ast0 {E : GE} {own : String} {cc : ByteArray} {nL : Nat} {ret : Option FieldType} (hE : OkE E own cc nL ret) {ws : va_W} {z : Option Nat} {k n pc : Nat} {st : List AV}  {w : LV} {r : List LV} {x : Option Nat} (d : decode cc pc = .ok (.astore 0, 2)) (hn : 0 < nL) (ok : okst (w :: r) 0 = true) (h : G E ws z k n (pc + 2) (some (aR x) :: r) st) : G E ws z k n pc (w :: r) (aR x :: st) := g_astore_ hE (j := 0) d hn ok h
theorem g_lldn0 {E : GE} {own : String} {cc : ByteArray} {nL : Nat} {ret : Option FieldType} (hE : OkE E own cc nL ret) {ws : va_W} {z : Option Nat} {k n pc : Nat} {st : List AV}  {r : List LV} {x : Int64} (d : decode cc pc = .ok (.lload_n 0, 1)) (h : G E ws z k n (pc + 1) (some (aL x) :: r) (aL x :: st)) : G E ws z k n pc (some (aL x) :: r) st := g_lload_n_ hE (j := 0) d rfl rfl h
theorem g_lld0 {E : GE} {own : String} {cc : ByteArray} {nL : Nat} {ret : Option FieldType} (hE : OkE E own cc nL ret) {ws : va_W} {z : Option Nat} {k n pc : Nat} {st : List AV}  {r : List LV} {x : Int64} (d : decode cc pc = .ok (.lload 0, 2)) (h : G E ws z k n (pc + 2) (some (aL x) :: r) (aL x :: st)) : G E ws z k n pc (some (aL x) :: r) st := g_lload_ hE (j := 0) d rfl h
theorem g_lstn0 {E : GE} {own : String} {cc : ByteArray} {nL : Nat} {ret : Option FieldType} (hE : OkE E own cc nL ret) {ws : va_W} {z : Option Nat} {k n pc : Nat} {st : List AV}  {w w2 : LV} {r : List LV} {x : Int64} (d : decode cc pc = .ok (.lstore_n 0, 1)) (hn : 0 + 1 < nL) (ok : okst (w :: w2 :: r) 0 = true) (h : G E ws z k n (pc + 1) (some (aL x) :: none :: r) st) : G E ws z k n pc (w :: w2 :: r) (aL x :: st) := g_lstore_n_ hE (j := 0) d rfl hn ok h
theorem g_lst0 {E : GE} {own : String} {cc : ByteArray} {nL : Nat} {ret : Option FieldType} (hE : OkE E own cc nL ret) {ws : va_W} {z : Option Nat} {k n pc : Nat} {st : List AV}  {w w2 : LV} {r : List LV} {x : Int64} (d : decode cc pc = .ok (.lstore 0, 2)) (hn : 0 + 1 < nL) (ok : okst (w :: w2 :: r) 0 = true) (h : G E ws z k n (pc + 2) (some (aL x) :: none :: r) st) : G E ws z k n pc (w :: w2 :: r) (aL x :: st) := g_lstore_ hE (j := 0) d hn ok h
theorem g_iinc0 {E : GE} {own : String} {cc : ByteArray} {nL : Nat} {ret : Option FieldType} (hE : OkE E own cc nL ret) {ws : va_W} {z : Option Nat} {k n pc : Nat} {st : List AV}  {r : List LV} {x v : Int} (d : decode cc pc = .ok (.iinc 0 v, 3)) (hn : 0 < nL) (ok : okst (some (aI x) :: r) 0 = true) (h : G E ws z k n (pc + 3) (some (aI (x + v)) :: r) st) : G E ws z k n pc (some (aI x) :: r) st := g_iinc_ hE (j := 0) d rfl hn ok h
theorem g_kl0 {E : GE} {ws : va_W} {z : Option Nat} {k n pc : Nat} {st : List AV}  {w : LV} {r : List LV} (h : G E ws z k n pc (none :: r) st) : G E ws z k n pc (w :: r) st := by
  obtain ⟨p, l, e, R, s, m, args, below, meth, c, A, Q, D, cl, tys⟩ := E
  intro H locs ls hz hP hD hS hl
  refine h H locs ls hz hP hD hS (LH.weak hl fun i v hi => ?_)
  by_cases e : i = 0
  · subst e
    simp at hi
  · have : (none :: r) = ((w :: r)).set 0 none := rfl
    rw [this, List.getElem?_set_ne (Ne.symm e)] at hi
    exact hi
theorem g_ildn1 {E : GE} {own : String} {cc : ByteArray} {nL : Nat} {ret : Option FieldType} (hE : OkE E own cc nL ret) {ws : va_W} {z : Option Nat} {k n pc : Nat} {st : List AV} {l0 : LV} {r : List LV} {x : Int} (d : decode cc pc = .ok (.iload_n 1, 1)) (h : G E ws z k n (pc + 1) (l0 :: some (aI x) :: r) (aI x :: st)) : G E ws z k n pc (l0 :: some (aI x) :: r) st := g_iload_n_ hE (j := 1) d rfl rfl h
theorem g_ild1 {E : GE} {own : String} {cc : ByteArray} {nL : Nat} {ret : Option FieldType} (hE : OkE E own cc nL ret) {ws : va_W} {z : Option Nat} {k n pc : Nat} {st : List AV} {l0 : LV} {r : List LV} {x : Int} (d : decode cc pc = .ok (.iload 1, 2)) (h : G E ws z k n (pc + 2) (l0 :: some (aI x) :: r) (aI x :: st)) : G E ws z k n pc (l0 :: some (aI x) :: r) st := g_iload_ hE (j := 1) d rfl h
theorem g_istn1 {E : GE} {own : String} {cc : ByteArray} {nL : Nat} {ret : Option FieldType} (hE : OkE E own cc nL ret) {ws : va_W} {z : Option Nat} {k n pc : Nat} {st : List AV} {l0 : LV} {w : LV} {r : List LV} {x : Int} (d : decode cc pc = .ok (.istore_n 1, 1)) (hn : 1 < nL) (ok : okst (l0 :: w :: r) 1 = true) (h : G E ws z k n (pc + 1) (l0 :: some (aI x) :: r) st) : G E ws z k n pc (l0 :: w :: r) (aI x :: st) := g_istore_n_ hE (j := 1) d rfl hn ok h
theorem g_ist1 {E : GE} {own : String} {cc : ByteArray} {nL : Nat} {ret : Option FieldType} (hE : OkE E own cc nL ret) {ws : va_W} {z : Option Nat} {k n pc : Nat} {st : List AV} {l0 : LV} {w : LV} {r : List LV} {x : Int} (d : decode cc pc = .ok (.istore 1, 2)) (hn : 1 < nL) (ok : okst (l0 :: w :: r) 1 = true) (h : G E ws z k n (pc + 2) (l0 :: some (aI x) :: r) st) : G E ws z k n pc (l0 :: w :: r) (aI x :: st) := g_istore_ hE (j := 1) d hn ok h
theorem g_aldn1 {E : GE} {own : String} {cc : ByteArray} {nL : Nat} {ret : Option FieldType} (hE : OkE E own cc nL ret) {ws : va_W} {z : Option Nat} {k n pc : Nat} {st : List AV} {l0 : LV} {r : List LV} {x : Option Nat} (d : decode cc pc = .ok (.aload_n 1, 1)) (h : G E ws z k n (pc + 1) (l0 :: some (aR x) :: r) (aR x :: st)) : G E ws z k n pc (l0 :: some (aR x) :: r) st := g_aload_n_ hE (j := 1) d rfl rfl h
theorem g_ald1 {E : GE} {own : String} {cc : ByteArray} {nL : Nat} {ret : Option FieldType} (hE : OkE E own cc nL ret) {ws : va_W} {z : Option Nat} {k n pc : Nat} {st : List AV} {l0 : LV} {r : List LV} {x : Option Nat} (d : decode cc pc = .ok (.aload 1, 2)) (h : G E ws z k n (pc + 2) (l0 :: some (aR x) :: r) (aR x :: st)) : G E ws z k n pc (l0 :: some (aR x) :: r) st := g_aload_ hE (j := 1) d rfl h
theorem g_astn1 {E : GE} {own : String} {cc : ByteArray} {nL : Nat} {ret : Option FieldType} (hE : OkE E own cc nL ret) {ws : va_W} {z : Option Nat} {k n pc : Nat} {st : List AV} {l0 : LV} {w : LV} {r : List LV} {x : Option Nat} (d : decode cc pc = .ok (.astore_n 1, 1)) (hn : 1 < nL) (ok : okst (l0 :: w :: r) 1 = true) (h : G E ws z k n (pc + 1) (l0 :: some (aR x) :: r) st) : G E ws z k n pc (l0 :: w :: r) (aR x :: st) := g_astore_n_ hE (j := 1) d rfl hn ok h
theorem g_ast1 {E : GE} {own : String} {cc : ByteArray} {nL : Nat} {ret : Option FieldType} (hE : OkE E own cc nL ret) {ws : va_W} {z : Option Nat} {k n pc : Nat} {st : List AV} {l0 : LV} {w : LV} {r : List LV} {x : Option Nat} (d : decode cc pc = .ok (.astore 1, 2)) (hn : 1 < nL) (ok : okst (l0 :: w :: r) 1 = true) (h : G E ws z k n (pc + 2) (l0 :: some (aR x) :: r) st) : G E ws z k n pc (l0 :: w :: r) (aR x :: st) := g_astore_ hE (j := 1) d hn ok h
theorem g_lldn1 {E : GE} {own : String} {cc : ByteArray} {nL : Nat} {ret : Option FieldType} (hE : OkE E own cc nL ret) {ws : va_W} {z : Option Nat} {k n pc : Nat} {st : List AV} {l0 : LV} {r : List LV} {x : Int64} (d : decode cc pc = .ok (.lload_n 1, 1)) (h : G E ws z k n (pc + 1) (l0 :: some (aL x) :: r) (aL x :: st)) : G E ws z k n pc (l0 :: some (aL x) :: r) st := g_lload_n_ hE (j := 1) d rfl rfl h
theorem g_lld1 {E : GE} {own : String} {cc : ByteArray} {nL : Nat} {ret : Option FieldType} (hE : OkE E own cc nL ret) {ws : va_W} {z : Option Nat} {k n pc : Nat} {st : List AV} {l0 : LV} {r : List LV} {x : Int64} (d : decode cc pc = .ok (.lload 1, 2)) (h : G E ws z k n (pc + 2) (l0 :: some (aL x) :: r) (aL x :: st)) : G E ws z k n pc (l0 :: some (aL x) :: r) st := g_lload_ hE (j := 1) d rfl h
theorem g_lstn1 {E : GE} {own : String} {cc : ByteArray} {nL : Nat} {ret : Option FieldType} (hE : OkE E own cc nL ret) {ws : va_W} {z : Option Nat} {k n pc : Nat} {st : List AV} {l0 : LV} {w w2 : LV} {r : List LV} {x : Int64} (d : decode cc pc = .ok (.lstore_n 1, 1)) (hn : 1 + 1 < nL) (ok : okst (l0 :: w :: w2 :: r) 1 = true) (h : G E ws z k n (pc + 1) (l0 :: some (aL x) :: none :: r) st) : G E ws z k n pc (l0 :: w :: w2 :: r) (aL x :: st) := g_lstore_n_ hE (j := 1) d rfl hn ok h
theorem g_lst1 {E : GE} {own : String} {cc : ByteArray} {nL : Nat} {ret : Option FieldType} (hE : OkE E own cc nL ret) {ws : va_W} {z : Option Nat} {k n pc : Nat} {st : List AV} {l0 : LV} {w w2 : LV} {r : List LV} {x : Int64} (d : decode cc pc = .ok (.lstore 1, 2)) (hn : 1 + 1 < nL) (ok : okst (l0 :: w :: w2 :: r) 1 = true) (h : G E ws z k n (pc + 2) (l0 :: some (aL x) :: none :: r) st) : G E ws z k n pc (l0 :: w :: w2 :: r) (aL x :: st) := g_lstore_ hE (j := 1) d hn ok h
theorem g_iinc1 {E : GE} {own : String} {cc : ByteArray} {nL : Nat} {ret : Option FieldType} (hE : OkE E own cc nL ret) {ws : va_W} {z : Option Nat} {k n pc : Nat} {st : List AV} {l0 : LV} {r : List LV} {x v : Int} (d : decode cc pc = .ok (.iinc 1 v, 3)) (hn : 1 < nL) (ok : okst (l0 :: some (aI x) :: r) 1 = true) (h : G E ws z k n (pc + 3) (l0 :: some (aI (x + v)) :: r) st) : G E ws z k n pc (l0 :: some (aI x) :: r) st := g_iinc_ hE (j := 1) d rfl hn ok h
theorem g_kl1 {E : GE} {ws : va_W} {z : Option Nat} {k n pc : Nat} {st : List AV} {l0 : LV} {w : LV} {r : List LV} (h : G E ws z k n pc (l0 :: none :: r) st) : G E ws z k n pc (l0 :: w :: r) st := by
  obtain ⟨p, l, e, R, s, m, args, below, meth, c, A, Q, D, cl, tys⟩ := E
  intro H locs ls hz hP hD hS hl
  refine h H locs ls hz hP hD hS (LH.weak hl fun i v hi => ?_)
  by_cases e : i = 1
  · subst e
    simp at hi
  · have : (l0 :: none :: r) = ((l0 :: w :: r)).set 1 none := rfl
    rw [this, List.getElem?_set_ne (Ne.symm e)] at hi
    exact hi
theorem g_ildn2 {E : GE} {own : String} {cc : ByteArray} {nL : Nat} {ret : Option FieldType} (hE : OkE E own cc nL ret) {ws : va_W} {z : Option Nat} {k n pc : Nat} {st : List AV} {l0 : LV} {l1 : LV} {r : List LV} {x : Int} (d : decode cc pc = .ok (.iload_n 2, 1)) (h : G E ws z k n (pc + 1) (l0 :: l1 :: some (aI x) :: r) (aI x :: st)) : G E ws z k n pc (l0 :: l1 :: some (aI x) :: r) st := g_iload_n_ hE (j := 2) d rfl rfl h
theorem g_ild2 {E : GE} {own : String} {cc : ByteArray} {nL : Nat} {ret : Option FieldType} (hE : OkE E own cc nL ret) {ws : va_W} {z : Option Nat} {k n pc : Nat} {st : List AV} {l0 : LV} {l1 : LV} {r : List LV} {x : Int} (d : decode cc pc = .ok (.iload 2, 2)) (h : G E ws z k n (pc + 2) (l0 :: l1 :: some (aI x) :: r) (aI x :: st)) : G E ws z k n pc (l0 :: l1 :: some (aI x) :: r) st := g_iload_ hE (j := 2) d rfl h
theorem g_istn2 {E : GE} {own : String} {cc : ByteArray} {nL : Nat} {ret : Option FieldType} (hE : OkE E own cc nL ret) {ws : va_W} {z : Option Nat} {k n pc : Nat} {st : List AV} {l0 : LV} {l1 : LV} {w : LV} {r : List LV} {x : Int} (d : decode cc pc = .ok (.istore_n 2, 1)) (hn : 2 < nL) (ok : okst (l0 :: l1 :: w :: r) 2 = true) (h : G E ws z k n (pc + 1) (l0 :: l1 :: some (aI x) :: r) st) : G E ws z k n pc (l0 :: l1 :: w :: r) (aI x :: st) := g_istore_n_ hE (j := 2) d rfl hn ok h
theorem g_ist2 {E : GE} {own : String} {cc : ByteArray} {nL : Nat} {ret : Option FieldType} (hE : OkE E own cc nL ret) {ws : va_W} {z : Option Nat} {k n pc : Nat} {st : List AV} {l0 : LV} {l1 : LV} {w : LV} {r : List LV} {x : Int} (d : decode cc pc = .ok (.istore 2, 2)) (hn : 2 < nL) (ok : okst (l0 :: l1 :: w :: r) 2 = true) (h : G E ws z k n (pc + 2) (l0 :: l1 :: some (aI x) :: r) st) : G E ws z k n pc (l0 :: l1 :: w :: r) (aI x :: st) := g_istore_ hE (j := 2) d hn ok h
theorem g_aldn2 {E : GE} {own : String} {cc : ByteArray} {nL : Nat} {ret : Option FieldType} (hE : OkE E own cc nL ret) {ws : va_W} {z : Option Nat} {k n pc : Nat} {st : List AV} {l0 : LV} {l1 : LV} {r : List LV} {x : Option Nat} (d : decode cc pc = .ok (.aload_n 2, 1)) (h : G E ws z k n (pc + 1) (l0 :: l1 :: some (aR x) :: r) (aR x :: st)) : G E ws z k n pc (l0 :: l1 :: some (aR x) :: r) st := g_aload_n_ hE (j := 2) d rfl rfl h
theorem g_ald2 {E : GE} {own : String} {cc : ByteArray} {nL : Nat} {ret : Option FieldType} (hE : OkE E own cc nL ret) {ws : va_W} {z : Option Nat} {k n pc : Nat} {st : List AV} {l0 : LV} {l1 : LV} {r : List LV} {x : Option Nat} (d : decode cc pc = .ok (.aload 2, 2)) (h : G E ws z k n (pc + 2) (l0 :: l1 :: some (aR x) :: r) (aR x :: st)) : G E ws z k n pc (l0 :: l1 :: some (aR x) :: r) st := g_aload_ hE (j := 2) d rfl h
theorem g_astn2 {E : GE} {own : String} {cc : ByteArray} {nL : Nat} {ret : Option FieldType} (hE : OkE E own cc nL ret) {ws : va_W} {z : Option Nat} {k n pc : Nat} {st : List AV} {l0 : LV} {l1 : LV} {w : LV} {r : List LV} {x : Option Nat} (d : decode cc pc = .ok (.astore_n 2, 1)) (hn : 2 < nL) (ok : okst (l0 :: l1 :: w :: r) 2 = true) (h : G E ws z k n (pc + 1) (l0 :: l1 :: some (aR x) :: r) st) : G E ws z k n pc (l0 :: l1 :: w :: r) (aR x :: st) := g_astore_n_ hE (j := 2) d rfl hn ok h
theorem g_ast2 {E : GE} {own : String} {cc : ByteArray} {nL : Nat} {ret : Option FieldType} (hE : OkE E own cc nL ret) {ws : va_W} {z : Option Nat} {k n pc : Nat} {st : List AV} {l0 : LV} {l1 : LV} {w : LV} {r : List LV} {x : Option Nat} (d : decode cc pc = .ok (.astore 2, 2)) (hn : 2 < nL) (ok : okst (l0 :: l1 :: w :: r) 2 = true) (h : G E ws z k n (pc + 2) (l0 :: l1 :: some (aR x) :: r) st) : G E ws z k n pc (l0 :: l1 :: w :: r) (aR x :: st) := g_astore_ hE (j := 2) d hn ok h
theorem g_lldn2 {E : GE} {own : String} {cc : ByteArray} {nL : Nat} {ret : Option FieldType} (hE : OkE E own cc nL ret) {ws : va_W} {z : Option Nat} {k n pc : Nat} {st : List AV} {l0 : LV} {l1 : LV} {r : List LV} {x : Int64} (d : decode cc pc = .ok (.lload_n 2, 1)) (h : G E ws z k n (pc + 1) (l0 :: l1 :: some (aL x) :: r) (aL x :: st)) : G E ws z k n pc (l0 :: l1 :: some (aL x) :: r) st := g_lload_n_ hE (j := 2) d rfl rfl h
theorem g_lld2 {E : GE} {own : String} {cc : ByteArray} {nL : Nat} {ret : Option FieldType} (hE : OkE E own cc nL ret) {ws : va_W} {z : Option Nat} {k n pc : Nat} {st : List AV} {l0 : LV} {l1 : LV} {r : List LV} {x : Int64} (d : decode cc pc = .ok (.lload 2, 2)) (h : G E ws z k n (pc + 2) (l0 :: l1 :: some (aL x) :: r) (aL x :: st)) : G E ws z k n pc (l0 :: l1 :: some (aL x) :: r) st := g_lload_ hE (j := 2) d rfl h
theorem g_lstn2 {E : GE} {own : String} {cc : ByteArray} {nL : Nat} {ret : Option FieldType} (hE : OkE E own cc nL ret) {ws : va_W} {z : Option Nat} {k n pc : Nat} {st : List AV} {l0 : LV} {l1 : LV} {w w2 : LV} {r : List LV} {x : Int64} (d : decode cc pc = .ok (.lstore_n 2, 1)) (hn : 2 + 1 < nL) (ok : okst (l0 :: l1 :: w :: w2 :: r) 2 = true) (h : G E ws z k n (pc + 1) (l0 :: l1 :: some (aL x) :: none :: r) st) : G E ws z k n pc (l0 :: l1 :: w :: w2 :: r) (aL x :: st) := g_lstore_n_ hE (j := 2) d rfl hn ok h
theorem g_lst2 {E : GE} {own : String} {cc : ByteArray} {nL : Nat} {ret : Option FieldType} (hE : OkE E own cc nL ret) {ws : va_W} {z : Option Nat} {k n pc : Nat} {st : List AV} {l0 : LV} {l1 : LV} {w w2 : LV} {r : List LV} {x : Int64} (d : decode cc pc = .ok (.lstore 2, 2)) (hn : 2 + 1 < nL) (ok : okst (l0 :: l1 :: w :: w2 :: r) 2 = true) (h : G E ws z k n (pc + 2) (l0 :: l1 :: some (aL x) :: none :: r) st) : G E ws z k n pc (l0 :: l1 :: w :: w2 :: r) (aL x :: st) := g_lstore_ hE (j := 2) d hn ok h
theorem g_iinc2 {E : GE} {own : String} {cc : ByteArray} {nL : Nat} {ret : Option FieldType} (hE : OkE E own cc nL ret) {ws : va_W} {z : Option Nat} {k n pc : Nat} {st : List AV} {l0 : LV} {l1 : LV} {r : List LV} {x v : Int} (d : decode cc pc = .ok (.iinc 2 v, 3)) (hn : 2 < nL) (ok : okst (l0 :: l1 :: some (aI x) :: r) 2 = true) (h : G E ws z k n (pc + 3) (l0 :: l1 :: some (aI (x + v)) :: r) st) : G E ws z k n pc (l0 :: l1 :: some (aI x) :: r) st := g_iinc_ hE (j := 2) d rfl hn ok h
theorem g_kl2 {E : GE} {ws : va_W} {z : Option Nat} {k n pc : Nat} {st : List AV} {l0 : LV} {l1 : LV} {w : LV} {r : List LV} (h : G E ws z k n pc (l0 :: l1 :: none :: r) st) : G E ws z k n pc (l0 :: l1 :: w :: r) st := by
  obtain ⟨p, l, e, R, s, m, args, below, meth, c, A, Q, D, cl, tys⟩ := E
  intro H locs ls hz hP hD hS hl
  refine h H locs ls hz hP hD hS (LH.weak hl fun i v hi => ?_)
  by_cases e : i = 2
  · subst e
    simp at hi
  · have : (l0 :: l1 :: none :: r) = ((l0 :: l1 :: w :: r)).set 2 none := rfl
    rw [this, List.getElem?_set_ne (Ne.symm e)] at hi
    exact hi
theorem g_ildn3 {E : GE} {own : String} {cc : ByteArray} {nL : Nat} {ret : Option FieldType} (hE : OkE E own cc nL ret) {ws : va_W} {z : Option Nat} {k n pc : Nat} {st : List AV} {l0 : LV} {l1 : LV} {l2 : LV} {r : List LV} {x : Int} (d : decode cc pc = .ok (.iload_n 3, 1)) (h : G E ws z k n (pc + 1) (l0 :: l1 :: l2 :: some (aI x) :: r) (aI x :: st)) : G E ws z k n pc (l0 :: l1 :: l2 :: some (aI x) :: r) st := g_iload_n_ hE (j := 3) d rfl rfl h
theorem g_ild3 {E : GE} {own : String} {cc : ByteArray} {nL : Nat} {ret : Option FieldType} (hE : OkE E own cc nL ret) {ws : va_W} {z : Option Nat} {k n pc : Nat} {st : List AV} {l0 : LV} {l1 : LV} {l2 : LV} {r : List LV} {x : Int} (d : decode cc pc = .ok (.iload 3, 2)) (h : G E ws z k n (pc + 2) (l0 :: l1 :: l2 :: some (aI x) :: r) (aI x :: st)) : G E ws z k n pc (l0 :: l1 :: l2 :: some (aI x) :: r) st := g_iload_ hE (j := 3) d rfl h
theorem g_istn3 {E : GE} {own : String} {cc : ByteArray} {nL : Nat} {ret : Option FieldType} (hE : OkE E own cc nL ret) {ws : va_W} {z : Option Nat} {k n pc : Nat} {st : List AV} {l0 : LV} {l1 : LV} {l2 : LV} {w : LV} {r : List LV} {x : Int} (d : decode cc pc = .ok (.istore_n 3, 1)) (hn : 3 < nL) (ok : okst (l0 :: l1 :: l2 :: w :: r) 3 = true) (h : G E ws z k n (pc + 1) (l0 :: l1 :: l2 :: some (aI x) :: r) st) : G E ws z k n pc (l0 :: l1 :: l2 :: w :: r) (aI x :: st) := g_istore_n_ hE (j := 3) d rfl hn ok h
theorem g_ist3 {E : GE} {own : String} {cc : ByteArray} {nL : Nat} {ret : Option FieldType} (hE : OkE E own cc nL ret) {ws : va_W} {z : Option Nat} {k n pc : Nat} {st : List AV} {l0 : LV} {l1 : LV} {l2 : LV} {w : LV} {r : List LV} {x : Int} (d : decode cc pc = .ok (.istore 3, 2)) (hn : 3 < nL) (ok : okst (l0 :: l1 :: l2 :: w :: r) 3 = true) (h : G E ws z k n (pc + 2) (l0 :: l1 :: l2 :: some (aI x) :: r) st) : G E ws z k n pc (l0 :: l1 :: l2 :: w :: r) (aI x :: st) := g_istore_ hE (j := 3) d hn ok h
theorem g_aldn3 {E : GE} {own : String} {cc : ByteArray} {nL : Nat} {ret : Option FieldType} (hE : OkE E own cc nL ret) {ws : va_W} {z : Option Nat} {k n pc : Nat} {st : List AV} {l0 : LV} {l1 : LV} {l2 : LV} {r : List LV} {x : Option Nat} (d : decode cc pc = .ok (.aload_n 3, 1)) (h : G E ws z k n (pc + 1) (l0 :: l1 :: l2 :: some (aR x) :: r) (aR x :: st)) : G E ws z k n pc (l0 :: l1 :: l2 :: some (aR x) :: r) st := g_aload_n_ hE (j := 3) d rfl rfl h
theorem g_ald3 {E : GE} {own : String} {cc : ByteArray} {nL : Nat} {ret : Option FieldType} (hE : OkE E own cc nL ret) {ws : va_W} {z : Option Nat} {k n pc : Nat} {st : List AV} {l0 : LV} {l1 : LV} {l2 : LV} {r : List LV} {x : Option Nat} (d : decode cc pc = .ok (.aload 3, 2)) (h : G E ws z k n (pc + 2) (l0 :: l1 :: l2 :: some (aR x) :: r) (aR x :: st)) : G E ws z k n pc (l0 :: l1 :: l2 :: some (aR x) :: r) st := g_aload_ hE (j := 3) d rfl h
theorem g_astn3 {E : GE} {own : String} {cc : ByteArray} {nL : Nat} {ret : Option FieldType} (hE : OkE E own cc nL ret) {ws : va_W} {z : Option Nat} {k n pc : Nat} {st : List AV} {l0 : LV} {l1 : LV} {l2 : LV} {w : LV} {r : List LV} {x : Option Nat} (d : decode cc pc = .ok (.astore_n 3, 1)) (hn : 3 < nL) (ok : okst (l0 :: l1 :: l2 :: w :: r) 3 = true) (h : G E ws z k n (pc + 1) (l0 :: l1 :: l2 :: some (aR x) :: r) st) : G E ws z k n pc (l0 :: l1 :: l2 :: w :: r) (aR x :: st) := g_astore_n_ hE (j := 3) d rfl hn ok h
theorem g_ast3 {E : GE} {own : String} {cc : ByteArray} {nL : Nat} {ret : Option FieldType} (hE : OkE E own cc nL ret) {ws : va_W} {z : Option Nat} {k n pc : Nat} {st : List AV} {l0 : LV} {l1 : LV} {l2 : LV} {w : LV} {r : List LV} {x : Option Nat} (d : decode cc pc = .ok (.astore 3, 2)) (hn : 3 < nL) (ok : okst (l0 :: l1 :: l2 :: w :: r) 3 = true) (h : G E ws z k n (pc + 2) (l0 :: l1 :: l2 :: some (aR x) :: r) st) : G E ws z k n pc (l0 :: l1 :: l2 :: w :: r) (aR x :: st) := g_astore_ hE (j := 3) d hn ok h
theorem g_lldn3 {E : GE} {own : String} {cc : ByteArray} {nL : Nat} {ret : Option FieldType} (hE : OkE E own cc nL ret) {ws : va_W} {z : Option Nat} {k n pc : Nat} {st : List AV} {l0 : LV} {l1 : LV} {l2 : LV} {r : List LV} {x : Int64} (d : decode cc pc = .ok (.lload_n 3, 1)) (h : G E ws z k n (pc + 1) (l0 :: l1 :: l2 :: some (aL x) :: r) (aL x :: st)) : G E ws z k n pc (l0 :: l1 :: l2 :: some (aL x) :: r) st := g_lload_n_ hE (j := 3) d rfl rfl h
theorem g_lld3 {E : GE} {own : String} {cc : ByteArray} {nL : Nat} {ret : Option FieldType} (hE : OkE E own cc nL ret) {ws : va_W} {z : Option Nat} {k n pc : Nat} {st : List AV} {l0 : LV} {l1 : LV} {l2 : LV} {r : List LV} {x : Int64} (d : decode cc pc = .ok (.lload 3, 2)) (h : G E ws z k n (pc + 2) (l0 :: l1 :: l2 :: some (aL x) :: r) (aL x :: st)) : G E ws z k n pc (l0 :: l1 :: l2 :: some (aL x) :: r) st := g_lload_ hE (j := 3) d rfl h
theorem g_lstn3 {E : GE} {own : String} {cc : ByteArray} {nL : Nat} {ret : Option FieldType} (hE : OkE E own cc nL ret) {ws : va_W} {z : Option Nat} {k n pc : Nat} {st : List AV} {l0 : LV} {l1 : LV} {l2 : LV} {w w2 : LV} {r : List LV} {x : Int64} (d : decode cc pc = .ok (.lstore_n 3, 1)) (hn : 3 + 1 < nL) (ok : okst (l0 :: l1 :: l2 :: w :: w2 :: r) 3 = true) (h : G E ws z k n (pc + 1) (l0 :: l1 :: l2 :: some (aL x) :: none :: r) st) : G E ws z k n pc (l0 :: l1 :: l2 :: w :: w2 :: r) (aL x :: st) := g_lstore_n_ hE (j := 3) d rfl hn ok h
theorem g_lst3 {E : GE} {own : String} {cc : ByteArray} {nL : Nat} {ret : Option FieldType} (hE : OkE E own cc nL ret) {ws : va_W} {z : Option Nat} {k n pc : Nat} {st : List AV} {l0 : LV} {l1 : LV} {l2 : LV} {w w2 : LV} {r : List LV} {x : Int64} (d : decode cc pc = .ok (.lstore 3, 2)) (hn : 3 + 1 < nL) (ok : okst (l0 :: l1 :: l2 :: w :: w2 :: r) 3 = true) (h : G E ws z k n (pc + 2) (l0 :: l1 :: l2 :: some (aL x) :: none :: r) st) : G E ws z k n pc (l0 :: l1 :: l2 :: w :: w2 :: r) (aL x :: st) := g_lstore_ hE (j := 3) d hn ok h
theorem g_iinc3 {E : GE} {own : String} {cc : ByteArray} {nL : Nat} {ret : Option FieldType} (hE : OkE E own cc nL ret) {ws : va_W} {z : Option Nat} {k n pc : Nat} {st : List AV} {l0 : LV} {l1 : LV} {l2 : LV} {r : List LV} {x v : Int} (d : decode cc pc = .ok (.iinc 3 v, 3)) (hn : 3 < nL) (ok : okst (l0 :: l1 :: l2 :: some (aI x) :: r) 3 = true) (h : G E ws z k n (pc + 3) (l0 :: l1 :: l2 :: some (aI (x + v)) :: r) st) : G E ws z k n pc (l0 :: l1 :: l2 :: some (aI x) :: r) st := g_iinc_ hE (j := 3) d rfl hn ok h
theorem g_kl3 {E : GE} {ws : va_W} {z : Option Nat} {k n pc : Nat} {st : List AV} {l0 : LV} {l1 : LV} {l2 : LV} {w : LV} {r : List LV} (h : G E ws z k n pc (l0 :: l1 :: l2 :: none :: r) st) : G E ws z k n pc (l0 :: l1 :: l2 :: w :: r) st := by
  obtain ⟨p, l, e, R, s, m, args, below, meth, c, A, Q, D, cl, tys⟩ := E
  intro H locs ls hz hP hD hS hl
  refine h H locs ls hz hP hD hS (LH.weak hl fun i v hi => ?_)
  by_cases e : i = 3
  · subst e
    simp at hi
  · have : (l0 :: l1 :: l2 :: none :: r) = ((l0 :: l1 :: l2 :: w :: r)).set 3 none := rfl
    rw [this, List.getElem?_set_ne (Ne.symm e)] at hi
    exact hi
theorem g_ild4 {E : GE} {own : String} {cc : ByteArray} {nL : Nat} {ret : Option FieldType} (hE : OkE E own cc nL ret) {ws : va_W} {z : Option Nat} {k n pc : Nat} {st : List AV} {l0 : LV} {l1 : LV} {l2 : LV} {l3 : LV} {r : List LV} {x : Int} (d : decode cc pc = .ok (.iload 4, 2)) (h : G E ws z k n (pc + 2) (l0 :: l1 :: l2 :: l3 :: some (aI x) :: r) (aI x :: st)) : G E ws z k n pc (l0 :: l1 :: l2 :: l3 :: some (aI x) :: r) st := g_iload_ hE (j := 4) d rfl h
theorem g_ist4 {E : GE} {own : String} {cc : ByteArray} {nL : Nat} {ret : Option FieldType} (hE : OkE E own cc nL ret) {ws : va_W} {z : Option Nat} {k n pc : Nat} {st : List AV} {l0 : LV} {l1 : LV} {l2 : LV} {l3 : LV} {w : LV} {r : List LV} {x : Int} (d : decode cc pc = .ok (.istore 4, 2)) (hn : 4 < nL) (ok : okst (l0 :: l1 :: l2 :: l3 :: w :: r) 4 = true) (h : G E ws z k n (pc + 2) (l0 :: l1 :: l2 :: l3 :: some (aI x) :: r) st) : G E ws z k n pc (l0 :: l1 :: l2 :: l3 :: w :: r) (aI x :: st) := g_istore_ hE (j := 4) d hn ok h
theorem g_ald4 {E : GE} {own : String} {cc : ByteArray} {nL : Nat} {ret : Option FieldType} (hE : OkE E own cc nL ret) {ws : va_W} {z : Option Nat} {k n pc : Nat} {st : List AV} {l0 : LV} {l1 : LV} {l2 : LV} {l3 : LV} {r : List LV} {x : Option Nat} (d : decode cc pc = .ok (.aload 4, 2)) (h : G E ws z k n (pc + 2) (l0 :: l1 :: l2 :: l3 :: some (aR x) :: r) (aR x :: st)) : G E ws z k n pc (l0 :: l1 :: l2 :: l3 :: some (aR x) :: r) st := g_aload_ hE (j := 4) d rfl h
theorem g_ast4 {E : GE} {own : String} {cc : ByteArray} {nL : Nat} {ret : Option FieldType} (hE : OkE E own cc nL ret) {ws : va_W} {z : Option Nat} {k n pc : Nat} {st : List AV} {l0 : LV} {l1 : LV} {l2 : LV} {l3 : LV} {w : LV} {r : List LV} {x : Option Nat} (d : decode cc pc = .ok (.astore 4, 2)) (hn : 4 < nL) (ok : okst (l0 :: l1 :: l2 :: l3 :: w :: r) 4 = true) (h : G E ws z k n (pc + 2) (l0 :: l1 :: l2 :: l3 :: some (aR x) :: r) st) : G E ws z k n pc (l0 :: l1 :: l2 :: l3 :: w :: r) (aR x :: st) := g_astore_ hE (j := 4) d hn ok h
theorem g_lld4 {E : GE} {own : String} {cc : ByteArray} {nL : Nat} {ret : Option FieldType} (hE : OkE E own cc nL ret) {ws : va_W} {z : Option Nat} {k n pc : Nat} {st : List AV} {l0 : LV} {l1 : LV} {l2 : LV} {l3 : LV} {r : List LV} {x : Int64} (d : decode cc pc = .ok (.lload 4, 2)) (h : G E ws z k n (pc + 2) (l0 :: l1 :: l2 :: l3 :: some (aL x) :: r) (aL x :: st)) : G E ws z k n pc (l0 :: l1 :: l2 :: l3 :: some (aL x) :: r) st := g_lload_ hE (j := 4) d rfl h
theorem g_lst4 {E : GE} {own : String} {cc : ByteArray} {nL : Nat} {ret : Option FieldType} (hE : OkE E own cc nL ret) {ws : va_W} {z : Option Nat} {k n pc : Nat} {st : List AV} {l0 : LV} {l1 : LV} {l2 : LV} {l3 : LV} {w w2 : LV} {r : List LV} {x : Int64} (d : decode cc pc = .ok (.lstore 4, 2)) (hn : 4 + 1 < nL) (ok : okst (l0 :: l1 :: l2 :: l3 :: w :: w2 :: r) 4 = true) (h : G E ws z k n (pc + 2) (l0 :: l1 :: l2 :: l3 :: some (aL x) :: none :: r) st) : G E ws z k n pc (l0 :: l1 :: l2 :: l3 :: w :: w2 :: r) (aL x :: st) := g_lstore_ hE (j := 4) d hn ok h
theorem g_iinc4 {E : GE} {own : String} {cc : ByteArray} {nL : Nat} {ret : Option FieldType} (hE : OkE E own cc nL ret) {ws : va_W} {z : Option Nat} {k n pc : Nat} {st : List AV} {l0 : LV} {l1 : LV} {l2 : LV} {l3 : LV} {r : List LV} {x v : Int} (d : decode cc pc = .ok (.iinc 4 v, 3)) (hn : 4 < nL) (ok : okst (l0 :: l1 :: l2 :: l3 :: some (aI x) :: r) 4 = true) (h : G E ws z k n (pc + 3) (l0 :: l1 :: l2 :: l3 :: some (aI (x + v)) :: r) st) : G E ws z k n pc (l0 :: l1 :: l2 :: l3 :: some (aI x) :: r) st := g_iinc_ hE (j := 4) d rfl hn ok h
theorem g_kl4 {E : GE} {ws : va_W} {z : Option Nat} {k n pc : Nat} {st : List AV} {l0 : LV} {l1 : LV} {l2 : LV} {l3 : LV} {w : LV} {r : List LV} (h : G E ws z k n pc (l0 :: l1 :: l2 :: l3 :: none :: r) st) : G E ws z k n pc (l0 :: l1 :: l2 :: l3 :: w :: r) st := by
  obtain ⟨p, l, e, R, s, m, args, below, meth, c, A, Q, D, cl, tys⟩ := E
  intro H locs ls hz hP hD hS hl
  refine h H locs ls hz hP hD hS (LH.weak hl fun i v hi => ?_)
  by_cases e : i = 4
  · subst e
    simp at hi
  · have : (l0 :: l1 :: l2 :: l3 :: none :: r) = ((l0 :: l1 :: l2 :: l3 :: w :: r)).set 4 none := rfl
    rw [this, List.getElem?_set_ne (Ne.symm e)] at hi
    exact hi
theorem g_ild5 {E : GE} {own : String} {cc : ByteArray} {nL : Nat} {ret : Option FieldType} (hE : OkE E own cc nL ret) {ws : va_W} {z : Option Nat} {k n pc : Nat} {st : List AV} {l0 : LV} {l1 : LV} {l2 : LV} {l3 : LV} {l4 : LV} {r : List LV} {x : Int} (d : decode cc pc = .ok (.iload 5, 2)) (h : G E ws z k n (pc + 2) (l0 :: l1 :: l2 :: l3 :: l4 :: some (aI x) :: r) (aI x :: st)) : G E ws z k n pc (l0 :: l1 :: l2 :: l3 :: l4 :: some (aI x) :: r) st := g_iload_ hE (j := 5) d rfl h
theorem g_ist5 {E : GE} {own : String} {cc : ByteArray} {nL : Nat} {ret : Option FieldType} (hE : OkE E own cc nL ret) {ws : va_W} {z : Option Nat} {k n pc : Nat} {st : List AV} {l0 : LV} {l1 : LV} {l2 : LV} {l3 : LV} {l4 : LV} {w : LV} {r : List LV} {x : Int} (d : decode cc pc = .ok (.istore 5, 2)) (hn : 5 < nL) (ok : okst (l0 :: l1 :: l2 :: l3 :: l4 :: w :: r) 5 = true) (h : G E ws z k n (pc + 2) (l0 :: l1 :: l2 :: l3 :: l4 :: some (aI x) :: r) st) : G E ws z k n pc (l0 :: l1 :: l2 :: l3 :: l4 :: w :: r) (aI x :: st) := g_istore_ hE (j := 5) d hn ok h
theorem g_ald5 {E : GE} {own : String} {cc : ByteArray} {nL : Nat} {ret : Option FieldType} (hE : OkE E own cc nL ret) {ws : va_W} {z : Option Nat} {k n pc : Nat} {st : List AV} {l0 : LV} {l1 : LV} {l2 : LV} {l3 : LV} {l4 : LV} {r : List LV} {x : Option Nat} (d : decode cc pc = .ok (.aload 5, 2)) (h : G E ws z k n (pc + 2) (l0 :: l1 :: l2 :: l3 :: l4 :: some (aR x) :: r) (aR x :: st)) : G E ws z k n pc (l0 :: l1 :: l2 :: l3 :: l4 :: some (aR x) :: r) st := g_aload_ hE (j := 5) d rfl h
theorem g_ast5 {E : GE} {own : String} {cc : ByteArray} {nL : Nat} {ret : Option FieldType} (hE : OkE E own cc nL ret) {ws : va_W} {z : Option Nat} {k n pc : Nat} {st : List AV} {l0 : LV} {l1 : LV} {l2 : LV} {l3 : LV} {l4 : LV} {w : LV} {r : List LV} {x : Option Nat} (d : decode cc pc = .ok (.astore 5, 2)) (hn : 5 < nL) (ok : okst (l0 :: l1 :: l2 :: l3 :: l4 :: w :: r) 5 = true) (h : G E ws z k n (pc + 2) (l0 :: l1 :: l2 :: l3 :: l4 :: some (aR x) :: r) st) : G E ws z k n pc (l0 :: l1 :: l2 :: l3 :: l4 :: w :: r) (aR x :: st) := g_astore_ hE (j := 5) d hn ok h
theorem g_lld5 {E : GE} {own : String} {cc : ByteArray} {nL : Nat} {ret : Option FieldType} (hE : OkE E own cc nL ret) {ws : va_W} {z : Option Nat} {k n pc : Nat} {st : List AV} {l0 : LV} {l1 : LV} {l2 : LV} {l3 : LV} {l4 : LV} {r : List LV} {x : Int64} (d : decode cc pc = .ok (.lload 5, 2)) (h : G E ws z k n (pc + 2) (l0 :: l1 :: l2 :: l3 :: l4 :: some (aL x) :: r) (aL x :: st)) : G E ws z k n pc (l0 :: l1 :: l2 :: l3 :: l4 :: some (aL x) :: r) st := g_lload_ hE (j := 5) d rfl h
theorem g_lst5 {E : GE} {own : String} {cc : ByteArray} {nL : Nat} {ret : Option FieldType} (hE : OkE E own cc nL ret) {ws : va_W} {z : Option Nat} {k n pc : Nat} {st : List AV} {l0 : LV} {l1 : LV} {l2 : LV} {l3 : LV} {l4 : LV} {w w2 : LV} {r : List LV} {x : Int64} (d : decode cc pc = .ok (.lstore 5, 2)) (hn : 5 + 1 < nL) (ok : okst (l0 :: l1 :: l2 :: l3 :: l4 :: w :: w2 :: r) 5 = true) (h : G E ws z k n (pc + 2) (l0 :: l1 :: l2 :: l3 :: l4 :: some (aL x) :: none :: r) st) : G E ws z k n pc (l0 :: l1 :: l2 :: l3 :: l4 :: w :: w2 :: r) (aL x :: st) := g_lstore_ hE (j := 5) d hn ok h
theorem g_iinc5 {E : GE} {own : String} {cc : ByteArray} {nL : Nat} {ret : Option FieldType} (hE : OkE E own cc nL ret) {ws : va_W} {z : Option Nat} {k n pc : Nat} {st : List AV} {l0 : LV} {l1 : LV} {l2 : LV} {l3 : LV} {l4 : LV} {r : List LV} {x v : Int} (d : decode cc pc = .ok (.iinc 5 v, 3)) (hn : 5 < nL) (ok : okst (l0 :: l1 :: l2 :: l3 :: l4 :: some (aI x) :: r) 5 = true) (h : G E ws z k n (pc + 3) (l0 :: l1 :: l2 :: l3 :: l4 :: some (aI (x + v)) :: r) st) : G E ws z k n pc (l0 :: l1 :: l2 :: l3 :: l4 :: some (aI x) :: r) st := g_iinc_ hE (j := 5) d rfl hn ok h
theorem g_kl5 {E : GE} {ws : va_W} {z : Option Nat} {k n pc : Nat} {st : List AV} {l0 : LV} {l1 : LV} {l2 : LV} {l3 : LV} {l4 : LV} {w : LV} {r : List LV} (h : G E ws z k n pc (l0 :: l1 :: l2 :: l3 :: l4 :: none :: r) st) : G E ws z k n pc (l0 :: l1 :: l2 :: l3 :: l4 :: w :: r) st := by
  obtain ⟨p, l, e, R, s, m, args, below, meth, c, A, Q, D, cl, tys⟩ := E
  intro H locs ls hz hP hD hS hl
  refine h H locs ls hz hP hD hS (LH.weak hl fun i v hi => ?_)
  by_cases e : i = 5
  · subst e
    simp at hi
  · have : (l0 :: l1 :: l2 :: l3 :: l4 :: none :: r) = ((l0 :: l1 :: l2 :: l3 :: l4 :: w :: r)).set 5 none := rfl
    rw [this, List.getElem?_set_ne (Ne.symm e)] at hi
    exact hi
theorem g_ild6 {E : GE} {own : String} {cc : ByteArray} {nL : Nat} {ret : Option FieldType} (hE : OkE E own cc nL ret) {ws : va_W} {z : Option Nat} {k n pc : Nat} {st : List AV} {l0 : LV} {l1 : LV} {l2 : LV} {l3 : LV} {l4 : LV} {l5 : LV} {r : List LV} {x : Int} (d : decode cc pc = .ok (.iload 6, 2)) (h : G E ws z k n (pc + 2) (l0 :: l1 :: l2 :: l3 :: l4 :: l5 :: some (aI x) :: r) (aI x :: st)) : G E ws z k n pc (l0 :: l1 :: l2 :: l3 :: l4 :: l5 :: some (aI x) :: r) st := g_iload_ hE (j := 6) d rfl h
theorem g_ist6 {E : GE} {own : String} {cc : ByteArray} {nL : Nat} {ret : Option FieldType} (hE : OkE E own cc nL ret) {ws : va_W} {z : Option Nat} {k n pc : Nat} {st : List AV} {l0 : LV} {l1 : LV} {l2 : LV} {l3 : LV} {l4 : LV} {l5 : LV} {w : LV} {r : List LV} {x : Int} (d : decode cc pc = .ok (.istore 6, 2)) (hn : 6 < nL) (ok : okst (l0 :: l1 :: l2 :: l3 :: l4 :: l5 :: w :: r) 6 = true) (h : G E ws z k n (pc + 2) (l0 :: l1 :: l2 :: l3 :: l4 :: l5 :: some (aI x) :: r) st) : G E ws z k n pc (l0 :: l1 :: l2 :: l3 :: l4 :: l5 :: w :: r) (aI x :: st) := g_istore_ hE (j := 6) d hn ok h
theorem g_ald6 {E : GE} {own : String} {cc : ByteArray} {nL : Nat} {ret : Option FieldType} (hE : OkE E own cc nL ret) {ws : va_W} {z : Option Nat} {k n pc : Nat} {st : List AV} {l0 : LV} {l1 : LV} {l2 : LV} {l3 : LV} {l4 : LV} {l5 : LV} {r : List LV} {x : Option Nat} (d : decode cc pc = .ok (.aload 6, 2)) (h : G E ws z k n (pc + 2) (l0 :: l1 :: l2 :: l3 :: l4 :: l5 :: some (aR x) :: r) (aR x :: st)) : G E ws z k n pc (l0 :: l1 :: l2 :: l3 :: l4 :: l5 :: some (aR x) :: r) st := g_aload_ hE (j := 6) d rfl h
theorem g_ast6 {E : GE} {own : String} {cc : ByteArray} {nL : Nat} {ret : Option FieldType} (hE : OkE E own cc nL ret) {ws : va_W} {z : Option Nat} {k n pc : Nat} {st : List AV} {l0 : LV} {l1 : LV} {l2 : LV} {l3 : LV} {l4 : LV} {l5 : LV} {w : LV} {r : List LV} {x : Option Nat} (d : decode cc pc = .ok (.astore 6, 2)) (hn : 6 < nL) (ok : okst (l0 :: l1 :: l2 :: l3 :: l4 :: l5 :: w :: r) 6 = true) (h : G E ws z k n (pc + 2) (l0 :: l1 :: l2 :: l3 :: l4 :: l5 :: some (aR x) :: r) st) : G E ws z k n pc (l0 :: l1 :: l2 :: l3 :: l4 :: l5 :: w :: r) (aR x :: st) := g_astore_ hE (j := 6) d hn ok h
theorem g_lld6 {E : GE} {own : String} {cc : ByteArray} {nL : Nat} {ret : Option FieldType} (hE : OkE E own cc nL ret) {ws : va_W} {z : Option Nat} {k n pc : Nat} {st : List AV} {l0 : LV} {l1 : LV} {l2 : LV} {l3 : LV} {l4 : LV} {l5 : LV} {r : List LV} {x : Int64} (d : decode cc pc = .ok (.lload 6, 2)) (h : G E ws z k n (pc + 2) (l0 :: l1 :: l2 :: l3 :: l4 :: l5 :: some (aL x) :: r) (aL x :: st)) : G E ws z k n pc (l0 :: l1 :: l2 :: l3 :: l4 :: l5 :: some (aL x) :: r) st := g_lload_ hE (j := 6) d rfl h
theorem g_lst6 {E : GE} {own : String} {cc : ByteArray} {nL : Nat} {ret : Option FieldType} (hE : OkE E own cc nL ret) {ws : va_W} {z : Option Nat} {k n pc : Nat} {st : List AV} {l0 : LV} {l1 : LV} {l2 : LV} {l3 : LV} {l4 : LV} {l5 : LV} {w w2 : LV} {r : List LV} {x : Int64} (d : decode cc pc = .ok (.lstore 6, 2)) (hn : 6 + 1 < nL) (ok : okst (l0 :: l1 :: l2 :: l3 :: l4 :: l5 :: w :: w2 :: r) 6 = true) (h : G E ws z k n (pc + 2) (l0 :: l1 :: l2 :: l3 :: l4 :: l5 :: some (aL x) :: none :: r) st) : G E ws z k n pc (l0 :: l1 :: l2 :: l3 :: l4 :: l5 :: w :: w2 :: r) (aL x :: st) := g_lstore_ hE (j := 6) d hn ok h
theorem g_iinc6 {E : GE} {own : String} {cc : ByteArray} {nL : Nat} {ret : Option FieldType} (hE : OkE E own cc nL ret) {ws : va_W} {z : Option Nat} {k n pc : Nat} {st : List AV} {l0 : LV} {l1 : LV} {l2 : LV} {l3 : LV} {l4 : LV} {l5 : LV} {r : List LV} {x v : Int} (d : decode cc pc = .ok (.iinc 6 v, 3)) (hn : 6 < nL) (ok : okst (l0 :: l1 :: l2 :: l3 :: l4 :: l5 :: some (aI x) :: r) 6 = true) (h : G E ws z k n (pc + 3) (l0 :: l1 :: l2 :: l3 :: l4 :: l5 :: some (aI (x + v)) :: r) st) : G E ws z k n pc (l0 :: l1 :: l2 :: l3 :: l4 :: l5 :: some (aI x) :: r) st := g_iinc_ hE (j := 6) d rfl hn ok h
theorem g_kl6 {E : GE} {ws : va_W} {z : Option Nat} {k n pc : Nat} {st : List AV} {l0 : LV} {l1 : LV} {l2 : LV} {l3 : LV} {l4 : LV} {l5 : LV} {w : LV} {r : List LV} (h : G E ws z k n pc (l0 :: l1 :: l2 :: l3 :: l4 :: l5 :: none :: r) st) : G E ws z k n pc (l0 :: l1 :: l2 :: l3 :: l4 :: l5 :: w :: r) st := by
  obtain ⟨p, l, e, R, s, m, args, below, meth, c, A, Q, D, cl, tys⟩ := E
  intro H locs ls hz hP hD hS hl
  refine h H locs ls hz hP hD hS (LH.weak hl fun i v hi => ?_)
  by_cases e : i = 6
  · subst e
    simp at hi
  · have : (l0 :: l1 :: l2 :: l3 :: l4 :: l5 :: none :: r) = ((l0 :: l1 :: l2 :: l3 :: l4 :: l5 :: w :: r)).set 6 none := rfl
    rw [this, List.getElem?_set_ne (Ne.symm e)] at hi
    exact hi
theorem g_ild7 {E : GE} {own : String} {cc : ByteArray} {nL : Nat} {ret : Option FieldType} (hE : OkE E own cc nL ret) {ws : va_W} {z : Option Nat} {k n pc : Nat} {st : List AV} {l0 : LV} {l1 : LV} {l2 : LV} {l3 : LV} {l4 : LV} {l5 : LV} {l6 : LV} {r : List LV} {x : Int} (d : decode cc pc = .ok (.iload 7, 2)) (h : G E ws z k n (pc + 2) (l0 :: l1 :: l2 :: l3 :: l4 :: l5 :: l6 :: some (aI x) :: r) (aI x :: st)) : G E ws z k n pc (l0 :: l1 :: l2 :: l3 :: l4 :: l5 :: l6 :: some (aI x) :: r) st := g_iload_ hE (j := 7) d rfl h
theorem g_ist7 {E : GE} {own : String} {cc : ByteArray} {nL : Nat} {ret : Option FieldType} (hE : OkE E own cc nL ret) {ws : va_W} {z : Option Nat} {k n pc : Nat} {st : List AV} {l0 : LV} {l1 : LV} {l2 : LV} {l3 : LV} {l4 : LV} {l5 : LV} {l6 : LV} {w : LV} {r : List LV} {x : Int} (d : decode cc pc = .ok (.istore 7, 2)) (hn : 7 < nL) (ok : okst (l0 :: l1 :: l2 :: l3 :: l4 :: l5 :: l6 :: w :: r) 7 = true) (h : G E ws z k n (pc + 2) (l0 :: l1 :: l2 :: l3 :: l4 :: l5 :: l6 :: some (aI x) :: r) st) : G E ws z k n pc (l0 :: l1 :: l2 :: l3 :: l4 :: l5 :: l6 :: w :: r) (aI x :: st) := g_istore_ hE (j := 7) d hn ok h
theorem g_ald7 {E : GE} {own : String} {cc : ByteArray} {nL : Nat} {ret : Option FieldType} (hE : OkE E own cc nL ret) {ws : va_W} {z : Option Nat} {k n pc : Nat} {st : List AV} {l0 : LV} {l1 : LV} {l2 : LV} {l3 : LV} {l4 : LV} {l5 : LV} {l6 : LV} {r : List LV} {x : Option Nat} (d : decode cc pc = .ok (.aload 7, 2)) (h : G E ws z k n (pc + 2) (l0 :: l1 :: l2 :: l3 :: l4 :: l5 :: l6 :: some (aR x) :: r) (aR x :: st)) : G E ws z k n pc (l0 :: l1 :: l2 :: l3 :: l4 :: l5 :: l6 :: some (aR x) :: r) st := g_aload_ hE (j := 7) d rfl h
theorem g_ast7 {E : GE} {own : String} {cc : ByteArray} {nL : Nat} {ret : Option FieldType} (hE : OkE E own cc nL ret) {ws : va_W} {z : Option Nat} {k n pc : Nat} {st : List AV} {l0 : LV} {l1 : LV} {l2 : LV} {l3 : LV} {l4 : LV} {l5 : LV} {l6 : LV} {w : LV} {r : List LV} {x : Option Nat} (d : decode cc pc = .ok (.astore 7, 2)) (hn : 7 < nL) (ok : okst (l0 :: l1 :: l2 :: l3 :: l4 :: l5 :: l6 :: w :: r) 7 = true) (h : G E ws z k n (pc + 2) (l0 :: l1 :: l2 :: l3 :: l4 :: l5 :: l6 :: some (aR x) :: r) st) : G E ws z k n pc (l0 :: l1 :: l2 :: l3 :: l4 :: l5 :: l6 :: w :: r) (aR x :: st) := g_astore_ hE (j := 7) d hn ok h
theorem g_lld7 {E : GE} {own : String} {cc : ByteArray} {nL : Nat} {ret : Option FieldType} (hE : OkE E own cc nL ret) {ws : va_W} {z : Option Nat} {k n pc : Nat} {st : List AV} {l0 : LV} {l1 : LV} {l2 : LV} {l3 : LV} {l4 : LV} {l5 : LV} {l6 : LV} {r : List LV} {x : Int64} (d : decode cc pc = .ok (.lload 7, 2)) (h : G E ws z k n (pc + 2) (l0 :: l1 :: l2 :: l3 :: l4 :: l5 :: l6 :: some (aL x) :: r) (aL x :: st)) : G E ws z k n pc (l0 :: l1 :: l2 :: l3 :: l4 :: l5 :: l6 :: some (aL x) :: r) st := g_lload_ hE (j := 7) d rfl h
theorem g_lst7 {E : GE} {own : String} {cc : ByteArray} {nL : Nat} {ret : Option FieldType} (hE : OkE E own cc nL ret) {ws : va_W} {z : Option Nat} {k n pc : Nat} {st : List AV} {l0 : LV} {l1 : LV} {l2 : LV} {l3 : LV} {l4 : LV} {l5 : LV} {l6 : LV} {w w2 : LV} {r : List LV} {x : Int64} (d : decode cc pc = .ok (.lstore 7, 2)) (hn : 7 + 1 < nL) (ok : okst (l0 :: l1 :: l2 :: l3 :: l4 :: l5 :: l6 :: w :: w2 :: r) 7 = true) (h : G E ws z k n (pc + 2) (l0 :: l1 :: l2 :: l3 :: l4 :: l5 :: l6 :: some (aL x) :: none :: r) st) : G E ws z k n pc (l0 :: l1 :: l2 :: l3 :: l4 :: l5 :: l6 :: w :: w2 :: r) (aL x :: st) := g_lstore_ hE (j := 7) d hn ok h
theorem g_iinc7 {E : GE} {own : String} {cc : ByteArray} {nL : Nat} {ret : Option FieldType} (hE : OkE E own cc nL ret) {ws : va_W} {z : Option Nat} {k n pc : Nat} {st : List AV} {l0 : LV} {l1 : LV} {l2 : LV} {l3 : LV} {l4 : LV} {l5 : LV} {l6 : LV} {r : List LV} {x v : Int} (d : decode cc pc = .ok (.iinc 7 v, 3)) (hn : 7 < nL) (ok : okst (l0 :: l1 :: l2 :: l3 :: l4 :: l5 :: l6 :: some (aI x) :: r) 7 = true) (h : G E ws z k n (pc + 3) (l0 :: l1 :: l2 :: l3 :: l4 :: l5 :: l6 :: some (aI (x + v)) :: r) st) : G E ws z k n pc (l0 :: l1 :: l2 :: l3 :: l4 :: l5 :: l6 :: some (aI x) :: r) st := g_iinc_ hE (j := 7) d rfl hn ok h
theorem g_kl7 {E : GE} {ws : va_W} {z : Option Nat} {k n pc : Nat} {st : List AV} {l0 : LV} {l1 : LV} {l2 : LV} {l3 : LV} {l4 : LV} {l5 : LV} {l6 : LV} {w : LV} {r : List LV} (h : G E ws z k n pc (l0 :: l1 :: l2 :: l3 :: l4 :: l5 :: l6 :: none :: r) st) : G E ws z k n pc (l0 :: l1 :: l2 :: l3 :: l4 :: l5 :: l6 :: w :: r) st := by
  obtain ⟨p, l, e, R, s, m, args, below, meth, c, A, Q, D, cl, tys⟩ := E
  intro H locs ls hz hP hD hS hl
  refine h H locs ls hz hP hD hS (LH.weak hl fun i v hi => ?_)
  by_cases e : i = 7
  · subst e
    simp at hi
  · have : (l0 :: l1 :: l2 :: l3 :: l4 :: l5 :: l6 :: none :: r) = ((l0 :: l1 :: l2 :: l3 :: l4 :: l5 :: l6 :: w :: r)).set 7 none := rfl
    rw [this, List.getElem?_set_ne (Ne.symm e)] at hi
    exact hi
theorem g_ild8 {E : GE} {own : String} {cc : ByteArray} {nL : Nat} {ret : Option FieldType} (hE : OkE E own cc nL ret) {ws : va_W} {z : Option Nat} {k n pc : Nat} {st : List AV} {l0 : LV} {l1 : LV} {l2 : LV} {l3 : LV} {l4 : LV} {l5 : LV} {l6 : LV} {l7 : LV} {r : List LV} {x : Int} (d : decode cc pc = .ok (.iload 8, 2)) (h : G E ws z k n (pc + 2) (l0 :: l1 :: l2 :: l3 :: l4 :: l5 :: l6 :: l7 :: some (aI x) :: r) (aI x :: st)) : G E ws z k n pc (l0 :: l1 :: l2 :: l3 :: l4 :: l5 :: l6 :: l7 :: some (aI x) :: r) st := g_iload_ hE (j := 8) d rfl h
theorem g_ist8 {E : GE} {own : String} {cc : ByteArray} {nL : Nat} {ret : Option FieldType} (hE : OkE E own cc nL ret) {ws : va_W} {z : Option Nat} {k n pc : Nat} {st : List AV} {l0 : LV} {l1 : LV} {l2 : LV} {l3 : LV} {l4 : LV} {l5 : LV} {l6 : LV} {l7 : LV} {w : LV} {r : List LV} {x : Int} (d : decode cc pc = .ok (.istore 8, 2)) (hn : 8 < nL) (ok : okst (l0 :: l1 :: l2 :: l3 :: l4 :: l5 :: l6 :: l7 :: w :: r) 8 = true) (h : G E ws z k n (pc + 2) (l0 :: l1 :: l2 :: l3 :: l4 :: l5 :: l6 :: l7 :: some (aI x) :: r) st) : G E ws z k n pc (l0 :: l1 :: l2 :: l3 :: l4 :: l5 :: l6 :: l7 :: w :: r) (aI x :: st) := g_istore_ hE (j := 8) d hn ok h
theorem g_ald8 {E : GE} {own : String} {cc : ByteArray} {nL : Nat} {ret : Option FieldType} (hE : OkE E own cc nL ret) {ws : va_W} {z : Option Nat} {k n pc : Nat} {st : List AV} {l0 : LV} {l1 : LV} {l2 : LV} {l3 : LV} {l4 : LV} {l5 : LV} {l6 : LV} {l7 : LV} {r : List LV} {x : Option Nat} (d : decode cc pc = .ok (.aload 8, 2)) (h : G E ws z k n (pc + 2) (l0 :: l1 :: l2 :: l3 :: l4 :: l5 :: l6 :: l7 :: some (aR x) :: r) (aR x :: st)) : G E ws z k n pc (l0 :: l1 :: l2 :: l3 :: l4 :: l5 :: l6 :: l7 :: some (aR x) :: r) st := g_aload_ hE (j := 8) d rfl h
theorem g_ast8 {E : GE} {own : String} {cc : ByteArray} {nL : Nat} {ret : Option FieldType} (hE : OkE E own cc nL ret) {ws : va_W} {z : Option Nat} {k n pc : Nat} {st : List AV} {l0 : LV} {l1 : LV} {l2 : LV} {l3 : LV} {l4 : LV} {l5 : LV} {l6 : LV} {l7 : LV} {w : LV} {r : List LV} {x : Option Nat} (d : decode cc pc = .ok (.astore 8, 2)) (hn : 8 < nL) (ok : okst (l0 :: l1 :: l2 :: l3 :: l4 :: l5 :: l6 :: l7 :: w :: r) 8 = true) (h : G E ws z k n (pc + 2) (l0 :: l1 :: l2 :: l3 :: l4 :: l5 :: l6 :: l7 :: some (aR x) :: r) st) : G E ws z k n pc (l0 :: l1 :: l2 :: l3 :: l4 :: l5 :: l6 :: l7 :: w :: r) (aR x :: st) := g_astore_ hE (j := 8) d hn ok h
theorem g_lld8 {E : GE} {own : String} {cc : ByteArray} {nL : Nat} {ret : Option FieldType} (hE : OkE E own cc nL ret) {ws : va_W} {z : Option Nat} {k n pc : Nat} {st : List AV} {l0 : LV} {l1 : LV} {l2 : LV} {l3 : LV} {l4 : LV} {l5 : LV} {l6 : LV} {l7 : LV} {r : List LV} {x : Int64} (d : decode cc pc = .ok (.lload 8, 2)) (h : G E ws z k n (pc + 2) (l0 :: l1 :: l2 :: l3 :: l4 :: l5 :: l6 :: l7 :: some (aL x) :: r) (aL x :: st)) : G E ws z k n pc (l0 :: l1 :: l2 :: l3 :: l4 :: l5 :: l6 :: l7 :: some (aL x) :: r) st := g_lload_ hE (j := 8) d rfl h
theorem g_lst8 {E : GE} {own : String} {cc : ByteArray} {nL : Nat} {ret : Option FieldType} (hE : OkE E own cc nL ret) {ws : va_W} {z : Option Nat} {k n pc : Nat} {st : List AV} {l0 : LV} {l1 : LV} {l2 : LV} {l3 : LV} {l4 : LV} {l5 : LV} {l6 : LV} {l7 : LV} {w w2 : LV} {r : List LV} {x : Int64} (d : decode cc pc = .ok (.lstore 8, 2)) (hn : 8 + 1 < nL) (ok : okst (l0 :: l1 :: l2 :: l3 :: l4 :: l5 :: l6 :: l7 :: w :: w2 :: r) 8 = true) (h : G E ws z k n (pc + 2) (l0 :: l1 :: l2 :: l3 :: l4 :: l5 :: l6 :: l7 :: some (aL x) :: none :: r) st) : G E ws z k n pc (l0 :: l1 :: l2 :: l3 :: l4 :: l5 :: l6 :: l7 :: w :: w2 :: r) (aL x :: st) := g_lstore_ hE (j := 8) d hn ok h
theorem g_iinc8 {E : GE} {own : String} {cc : ByteArray} {nL : Nat} {ret : Option FieldType} (hE : OkE E own cc nL ret) {ws : va_W} {z : Option Nat} {k n pc : Nat} {st : List AV} {l0 : LV} {l1 : LV} {l2 : LV} {l3 : LV} {l4 : LV} {l5 : LV} {l6 : LV} {l7 : LV} {r : List LV} {x v : Int} (d : decode cc pc = .ok (.iinc 8 v, 3)) (hn : 8 < nL) (ok : okst (l0 :: l1 :: l2 :: l3 :: l4 :: l5 :: l6 :: l7 :: some (aI x) :: r) 8 = true) (h : G E ws z k n (pc + 3) (l0 :: l1 :: l2 :: l3 :: l4 :: l5 :: l6 :: l7 :: some (aI (x + v)) :: r) st) : G E ws z k n pc (l0 :: l1 :: l2 :: l3 :: l4 :: l5 :: l6 :: l7 :: some (aI x) :: r) st := g_iinc_ hE (j := 8) d rfl hn ok h
theorem g_kl8 {E : GE} {ws : va_W} {z : Option Nat} {k n pc : Nat} {st : List AV} {l0 : LV} {l1 : LV} {l2 : LV} {l3 : LV} {l4 : LV} {l5 : LV} {l6 : LV} {l7 : LV} {w : LV} {r : List LV} (h : G E ws z k n pc (l0 :: l1 :: l2 :: l3 :: l4 :: l5 :: l6 :: l7 :: none :: r) st) : G E ws z k n pc (l0 :: l1 :: l2 :: l3 :: l4 :: l5 :: l6 :: l7 :: w :: r) st := by
  obtain ⟨p, l, e, R, s, m, args, below, meth, c, A, Q, D, cl, tys⟩ := E
  intro H locs ls hz hP hD hS hl
  refine h H locs ls hz hP hD hS (LH.weak hl fun i v hi => ?_)
  by_cases e : i = 8
  · subst e
    simp at hi
  · have : (l0 :: l1 :: l2 :: l3 :: l4 :: l5 :: l6 :: l7 :: none :: r) = ((l0 :: l1 :: l2 :: l3 :: l4 :: l5 :: l6 :: l7 :: w :: r)).set 8 none := rfl
    rw [this, List.getElem?_set_ne (Ne.symm e)] at hi
    exact hi
theorem g_ild9 {E : GE} {own : String} {cc : ByteArray} {nL : Nat} {ret : Option FieldType} (hE : OkE E own cc nL ret) {ws : va_W} {z : Option Nat} {k n pc : Nat} {st : List AV} {l0 : LV} {l1 : LV} {l2 : LV} {l3 : LV} {l4 : LV} {l5 : LV} {l6 : LV} {l7 : LV} {l8 : LV} {r : List LV} {x : Int} (d : decode cc pc = .ok (.iload 9, 2)) (h : G E ws z k n (pc + 2) (l0 :: l1 :: l2 :: l3 :: l4 :: l5 :: l6 :: l7 :: l8 :: some (aI x) :: r) (aI x :: st)) : G E ws z k n pc (l0 :: l1 :: l2 :: l3 :: l4 :: l5 :: l6 :: l7 :: l8 :: some (aI x) :: r) st := g_iload_ hE (j := 9) d rfl h
theorem g_ist9 {E : GE} {own : String} {cc : ByteArray} {nL : Nat} {ret : Option FieldType} (hE : OkE E own cc nL ret) {ws : va_W} {z : Option Nat} {k n pc : Nat} {st : List AV} {l0 : LV} {l1 : LV} {l2 : LV} {l3 : LV} {l4 : LV} {l5 : LV} {l6 : LV} {l7 : LV} {l8 : LV} {w : LV} {r : List LV} {x : Int} (d : decode cc pc = .ok (.istore 9, 2)) (hn : 9 < nL) (ok : okst (l0 :: l1 :: l2 :: l3 :: l4 :: l5 :: l6 :: l7 :: l8 :: w :: r) 9 = true) (h : G E ws z k n (pc + 2) (l0 :: l1 :: l2 :: l3 :: l4 :: l5 :: l6 :: l7 :: l8 :: some (aI x) :: r) st) : G E ws z k n pc (l0 :: l1 :: l2 :: l3 :: l4 :: l5 :: l6 :: l7 :: l8 :: w :: r) (aI x :: st) := g_istore_ hE (j := 9) d hn ok h
theorem g_ald9 {E : GE} {own : String} {cc : ByteArray} {nL : Nat} {ret : Option FieldType} (hE : OkE E own cc nL ret) {ws : va_W} {z : Option Nat} {k n pc : Nat} {st : List AV} {l0 : LV} {l1 : LV} {l2 : LV} {l3 : LV} {l4 : LV} {l5 : LV} {l6 : LV} {l7 : LV} {l8 : LV} {r : List LV} {x : Option Nat} (d : decode cc pc = .ok (.aload 9, 2)) (h : G E ws z k n (pc + 2) (l0 :: l1 :: l2 :: l3 :: l4 :: l5 :: l6 :: l7 :: l8 :: some (aR x) :: r) (aR x :: st)) : G E ws z k n pc (l0 :: l1 :: l2 :: l3 :: l4 :: l5 :: l6 :: l7 :: l8 :: some (aR x) :: r) st := g_aload_ hE (j := 9) d rfl h
theorem g_ast9 {E : GE} {own : String} {cc : ByteArray} {nL : Nat} {ret : Option FieldType} (hE : OkE E own cc nL ret) {ws : va_W} {z : Option Nat} {k n pc : Nat} {st : List AV} {l0 : LV} {l1 : LV} {l2 : LV} {l3 : LV} {l4 : LV} {l5 : LV} {l6 : LV} {l7 : LV} {l8 : LV} {w : LV} {r : List LV} {x : Option Nat} (d : decode cc pc = .ok (.astore 9, 2)) (hn : 9 < nL) (ok : okst (l0 :: l1 :: l2 :: l3 :: l4 :: l5 :: l6 :: l7 :: l8 :: w :: r) 9 = true) (h : G E ws z k n (pc + 2) (l0 :: l1 :: l2 :: l3 :: l4 :: l5 :: l6 :: l7 :: l8 :: some (aR x) :: r) st) : G E ws z k n pc (l0 :: l1 :: l2 :: l3 :: l4 :: l5 :: l6 :: l7 :: l8 :: w :: r) (aR x :: st) := g_astore_ hE (j := 9) d hn ok h
theorem g_lld9 {E : GE} {own : String} {cc : ByteArray} {nL : Nat} {ret : Option FieldType} (hE : OkE E own cc nL ret) {ws : va_W} {z : Option Nat} {k n pc : Nat} {st : List AV} {l0 : LV} {l1 : LV} {l2 : LV} {l3 : LV} {l4 : LV} {l5 : LV} {l6 : LV} {l7 : LV} {l8 : LV} {r : List LV} {x : Int64} (d : decode cc pc = .ok (.lload 9, 2)) (h : G E ws z k n (pc + 2) (l0 :: l1 :: l2 :: l3 :: l4 :: l5 :: l6 :: l7 :: l8 :: some (aL x) :: r) (aL x :: st)) : G E ws z k n pc (l0 :: l1 :: l2 :: l3 :: l4 :: l5 :: l6 :: l7 :: l8 :: some (aL x) :: r) st := g_lload_ hE (j := 9) d rfl h
theorem g_lst9 {E : GE} {own : String} {cc : ByteArray} {nL : Nat} {ret : Option FieldType} (hE : OkE E own cc nL ret) {ws : va_W} {z : Option Nat} {k n pc : Nat} {st : List AV} {l0 : LV} {l1 : LV} {l2 : LV} {l3 : LV} {l4 : LV} {l5 : LV} {l6 : LV} {l7 : LV} {l8 : LV} {w w2 : LV} {r : List LV} {x : Int64} (d : decode cc pc = .ok (.lstore 9, 2)) (hn : 9 + 1 < nL) (ok : okst (l0 :: l1 :: l2 :: l3 :: l4 :: l5 :: l6 :: l7 :: l8 :: w :: w2 :: r) 9 = true) (h : G E ws z k n (pc + 2) (l0 :: l1 :: l2 :: l3 :: l4 :: l5 :: l6 :: l7 :: l8 :: some (aL x) :: none :: r) st) : G E ws z k n pc (l0 :: l1 :: l2 :: l3 :: l4 :: l5 :: l6 :: l7 :: l8 :: w :: w2 :: r) (aL x :: st) := g_lstore_ hE (j := 9) d hn ok h
theorem g_iinc9 {E : GE} {own : String} {cc : ByteArray} {nL : Nat} {ret : Option FieldType} (hE : OkE E own cc nL ret) {ws : va_W} {z : Option Nat} {k n pc : Nat} {st : List AV} {l0 : LV} {l1 : LV} {l2 : LV} {l3 : LV} {l4 : LV} {l5 : LV} {l6 : LV} {l7 : LV} {l8 : LV} {r : List LV} {x v : Int} (d : decode cc pc = .ok (.iinc 9 v, 3)) (hn : 9 < nL) (ok : okst (l0 :: l1 :: l2 :: l3 :: l4 :: l5 :: l6 :: l7 :: l8 :: some (aI x) :: r) 9 = true) (h : G E ws z k n (pc + 3) (l0 :: l1 :: l2 :: l3 :: l4 :: l5 :: l6 :: l7 :: l8 :: some (aI (x + v)) :: r) st) : G E ws z k n pc (l0 :: l1 :: l2 :: l3 :: l4 :: l5 :: l6 :: l7 :: l8 :: some (aI x) :: r) st := g_iinc_ hE (j := 9) d rfl hn ok h
theorem g_kl9 {E : GE} {ws : va_W} {z : Option Nat} {k n pc : Nat} {st : List AV} {l0 : LV} {l1 : LV} {l2 : LV} {l3 : LV} {l4 : LV} {l5 : LV} {l6 : LV} {l7 : LV} {l8 : LV} {w : LV} {r : List LV} (h : G E ws z k n pc (l0 :: l1 :: l2 :: l3 :: l4 :: l5 :: l6 :: l7 :: l8 :: none :: r) st) : G E ws z k n pc (l0 :: l1 :: l2 :: l3 :: l4 :: l5 :: l6 :: l7 :: l8 :: w :: r) st := by
  obtain ⟨p, l, e, R, s, m, args, below, meth, c, A, Q, D, cl, tys⟩ := E
  intro H locs ls hz hP hD hS hl
  refine h H locs ls hz hP hD hS (LH.weak hl fun i v hi => ?_)
  by_cases e : i = 9
  · subst e
    simp at hi
  · have : (l0 :: l1 :: l2 :: l3 :: l4 :: l5 :: l6 :: l7 :: l8 :: none :: r) = ((l0 :: l1 :: l2 :: l3 :: l4 :: l5 :: l6 :: l7 :: l8 :: w :: r)).set 9 none := rfl
    rw [this, List.getElem?_set_ne (Ne.symm e)] at hi
    exact hi
theorem g_ild10 {E : GE} {own : String} {cc : ByteArray} {nL : Nat} {ret : Option FieldType} (hE : OkE E own cc nL ret) {ws : va_W} {z : Option Nat} {k n pc : Nat} {st : List AV} {l0 : LV} {l1 : LV} {l2 : LV} {l3 : LV} {l4 : LV} {l5 : LV} {l6 : LV} {l7 : LV} {l8 : LV} {l9 : LV} {r : List LV} {x : Int} (d : decode cc pc = .ok (.iload 10, 2)) (h : G E ws z k n (pc + 2) (l0 :: l1 :: l2 :: l3 :: l4 :: l5 :: l6 :: l7 :: l8 :: l9 :: some (aI x) :: r) (aI x :: st)) : G E ws z k n pc (l0 :: l1 :: l2 :: l3 :: l4 :: l5 :: l6 :: l7 :: l8 :: l9 :: some (aI x) :: r) st := g_iload_ hE (j := 10) d rfl h
theorem g_ist10 {E : GE} {own : String} {cc : ByteArray} {nL : Nat} {ret : Option FieldType} (hE : OkE E own cc nL ret) {ws : va_W} {z : Option Nat} {k n pc : Nat} {st : List AV} {l0 : LV} {l1 : LV} {l2 : LV} {l3 : LV} {l4 : LV} {l5 : LV} {l6 : LV} {l7 : LV} {l8 : LV} {l9 : LV} {w : LV} {r : List LV} {x : Int} (d : decode cc pc = .ok (.istore 10, 2)) (hn : 10 < nL) (ok : okst (l0 :: l1 :: l2 :: l3 :: l4 :: l5 :: l6 :: l7 :: l8 :: l9 :: w :: r) 10 = true) (h : G E ws z k n (pc + 2) (l0 :: l1 :: l2 :: l3 :: l4 :: l5 :: l6 :: l7 :: l8 :: l9 :: some (aI x) :: r) st) : G E ws z k n pc (l0 :: l1 :: l2 :: l3 :: l4 :: l5 :: l6 :: l7 :: l8 :: l9 :: w :: r) (aI x :: st) := g_istore_ hE (j := 10) d hn ok h
theorem g_ald10 {E : GE} {own : String} {cc : ByteArray} {nL : Nat} {ret : Option FieldType} (hE : OkE E own cc nL ret) {ws : va_W} {z : Option Nat} {k n pc : Nat} {st : List AV} {l0 : LV} {l1 : LV} {l2 : LV} {l3 : LV} {l4 : LV} {l5 : LV} {l6 : LV} {l7 : LV} {l8 : LV} {l9 : LV} {r : List LV} {x : Option Nat} (d : decode cc pc = .ok (.aload 10, 2)) (h : G E ws z k n (pc + 2) (l0 :: l1 :: l2 :: l3 :: l4 :: l5 :: l6 :: l7 :: l8 :: l9 :: some (aR x) :: r) (aR x :: st)) : G E ws z k n pc (l0 :: l1 :: l2 :: l3 :: l4 :: l5 :: l6 :: l7 :: l8 :: l9 :: some (aR x) :: r) st := g_aload_ hE (j := 10) d rfl h
theorem g_ast10 {E : GE} {own : String} {cc : ByteArray} {nL : Nat} {ret : Option FieldType} (hE : OkE E own cc nL ret) {ws : va_W} {z : Option Nat} {k n pc : Nat} {st : List AV} {l0 : LV} {l1 : LV} {l2 : LV} {l3 : LV} {l4 : LV} {l5 : LV} {l6 : LV} {l7 : LV} {l8 : LV} {l9 : LV} {w : LV} {r : List LV} {x : Option Nat} (d : decode cc pc = .ok (.astore 10, 2)) (hn : 10 < nL) (ok : okst (l0 :: l1 :: l2 :: l3 :: l4 :: l5 :: l6 :: l7 :: l8 :: l9 :: w :: r) 10 = true) (h : G E ws z k n (pc + 2) (l0 :: l1 :: l2 :: l3 :: l4 :: l5 :: l6 :: l7 :: l8 :: l9 :: some (aR x) :: r) st) : G E ws z k n pc (l0 :: l1 :: l2 :: l3 :: l4 :: l5 :: l6 :: l7 :: l8 :: l9 :: w :: r) (aR x :: st) := g_astore_ hE (j := 10) d hn ok h
theorem g_lld10 {E : GE} {own : String} {cc : ByteArray} {nL : Nat} {ret : Option FieldType} (hE : OkE E own cc nL ret) {ws : va_W} {z : Option Nat} {k n pc : Nat} {st : List AV} {l0 : LV} {l1 : LV} {l2 : LV} {l3 : LV} {l4 : LV} {l5 : LV} {l6 : LV} {l7 : LV} {l8 : LV} {l9 : LV} {r : List LV} {x : Int64} (d : decode cc pc = .ok (.lload 10, 2)) (h : G E ws z k n (pc + 2) (l0 :: l1 :: l2 :: l3 :: l4 :: l5 :: l6 :: l7 :: l8 :: l9 :: some (aL x) :: r) (aL x :: st)) : G E ws z k n pc (l0 :: l1 :: l2 :: l3 :: l4 :: l5 :: l6 :: l7 :: l8 :: l9 :: some (aL x) :: r) st := g_lload_ hE (j := 10) d rfl h
theorem g_lst10 {E : GE} {own : String} {cc : ByteArray} {nL : Nat} {ret : Option FieldType} (hE : OkE E own cc nL ret) {ws : va_W} {z : Option Nat} {k n pc : Nat} {st : List AV} {l0 : LV} {l1 : LV} {l2 : LV} {l3 : LV} {l4 : LV} {l5 : LV} {l6 : LV} {l7 : LV} {l8 : LV} {l9 : LV} {w w2 : LV} {r : List LV} {x : Int64} (d : decode cc pc = .ok (.lstore 10, 2)) (hn : 10 + 1 < nL) (ok : okst (l0 :: l1 :: l2 :: l3 :: l4 :: l5 :: l6 :: l7 :: l8 :: l9 :: w :: w2 :: r) 10 = true) (h : G E ws z k n (pc + 2) (l0 :: l1 :: l2 :: l3 :: l4 :: l5 :: l6 :: l7 :: l8 :: l9 :: some (aL x) :: none :: r) st) : G E ws z k n pc (l0 :: l1 :: l2 :: l3 :: l4 :: l5 :: l6 :: l7 :: l8 :: l9 :: w :: w2 :: r) (aL x :: st) := g_lstore_ hE (j := 10) d hn ok h
theorem g_iinc10 {E : GE} {own : String} {cc : ByteArray} {nL : Nat} {ret : Option FieldType} (hE : OkE E own cc nL ret) {ws : va_W} {z : Option Nat} {k n pc : Nat} {st : List AV} {l0 : LV} {l1 : LV} {l2 : LV} {l3 : LV} {l4 : LV} {l5 : LV} {l6 : LV} {l7 : LV} {l8 : LV} {l9 : LV} {r : List LV} {x v : Int} (d : decode cc pc = .ok (.iinc 10 v, 3)) (hn : 10 < nL) (ok : okst (l0 :: l1 :: l2 :: l3 :: l4 :: l5 :: l6 :: l7 :: l8 :: l9 :: some (aI x) :: r) 10 = true) (h : G E ws z k n (pc + 3) (l0 :: l1 :: l2 :: l3 :: l4 :: l5 :: l6 :: l7 :: l8 :: l9 :: some (aI (x + v)) :: r) st) : G E ws z k n pc (l0 :: l1 :: l2 :: l3 :: l4 :: l5 :: l6 :: l7 :: l8 :: l9 :: some (aI x) :: r) st := g_iinc_ hE (j := 10) d rfl hn ok h
theorem g_kl10 {E : GE} {ws : va_W} {z : Option Nat} {k n pc : Nat} {st : List AV} {l0 : LV} {l1 : LV} {l2 : LV} {l3 : LV} {l4 : LV} {l5 : LV} {l6 : LV} {l7 : LV} {l8 : LV} {l9 : LV} {w : LV} {r : List LV} (h : G E ws z k n pc (l0 :: l1 :: l2 :: l3 :: l4 :: l5 :: l6 :: l7 :: l8 :: l9 :: none :: r) st) : G E ws z k n pc (l0 :: l1 :: l2 :: l3 :: l4 :: l5 :: l6 :: l7 :: l8 :: l9 :: w :: r) st := by
  obtain ⟨p, l, e, R, s, m, args, below, meth, c, A, Q, D, cl, tys⟩ := E
  intro H locs ls hz hP hD hS hl
  refine h H locs ls hz hP hD hS (LH.weak hl fun i v hi => ?_)
  by_cases e : i = 10
  · subst e
    simp at hi
  · have : (l0 :: l1 :: l2 :: l3 :: l4 :: l5 :: l6 :: l7 :: l8 :: l9 :: none :: r) = ((l0 :: l1 :: l2 :: l3 :: l4 :: l5 :: l6 :: l7 :: l8 :: l9 :: w :: r)).set 10 none := rfl
    rw [this, List.getElem?_set_ne (Ne.symm e)] at hi
    exact hi
theorem g_ild11 {E : GE} {own : String} {cc : ByteArray} {nL : Nat} {ret : Option FieldType} (hE : OkE E own cc nL ret) {ws : va_W} {z : Option Nat} {k n pc : Nat} {st : List AV} {l0 : LV} {l1 : LV} {l2 : LV} {l3 : LV} {l4 : LV} {l5 : LV} {l6 : LV} {l7 : LV} {l8 : LV} {l9 : LV} {l10 : LV} {r : List LV} {x : Int} (d : decode cc pc = .ok (.iload 11, 2)) (h : G E ws z k n (pc + 2) (l0 :: l1 :: l2 :: l3 :: l4 :: l5 :: l6 :: l7 :: l8 :: l9 :: l10 :: some (aI x) :: r) (aI x :: st)) : G E ws z k n pc (l0 :: l1 :: l2 :: l3 :: l4 :: l5 :: l6 :: l7 :: l8 :: l9 :: l10 :: some (aI x) :: r) st := g_iload_ hE (j := 11) d rfl h
theorem g_ist11 {E : GE} {own : String} {cc : ByteArray} {nL : Nat} {ret : Option FieldType} (hE : OkE E own cc nL ret) {ws : va_W} {z : Option Nat} {k n pc : Nat} {st : List AV} {l0 : LV} {l1 : LV} {l2 : LV} {l3 : LV} {l4 : LV} {l5 : LV} {l6 : LV} {l7 : LV} {l8 : LV} {l9 : LV} {l10 : LV} {w : LV} {r : List LV} {x : Int} (d : decode cc pc = .ok (.istore 11, 2)) (hn : 11 < nL) (ok : okst (l0 :: l1 :: l2 :: l3 :: l4 :: l5 :: l6 :: l7 :: l8 :: l9 :: l10 :: w :: r) 11 = true) (h : G E ws z k n (pc + 2) (l0 :: l1 :: l2 :: l3 :: l4 :: l5 :: l6 :: l7 :: l8 :: l9 :: l10 :: some (aI x) :: r) st) : G E ws z k n pc (l0 :: l1 :: l2 :: l3 :: l4 :: l5 :: l6 :: l7 :: l8 :: l9 :: l10 :: w :: r) (aI x :: st) := g_istore_ hE (j := 11) d hn ok h
theorem g_ald11 {E : GE} {own : String} {cc : ByteArray} {nL : Nat} {ret : Option FieldType} (hE : OkE E own cc nL ret) {ws : va_W} {z : Option Nat} {k n pc : Nat} {st : List AV} {l0 : LV} {l1 : LV} {l2 : LV} {l3 : LV} {l4 : LV} {l5 : LV} {l6 : LV} {l7 : LV} {l8 : LV} {l9 : LV} {l10 : LV} {r : List LV} {x : Option Nat} (d : decode cc pc = .ok (.aload 11, 2)) (h : G E ws z k n (pc + 2) (l0 :: l1 :: l2 :: l3 :: l4 :: l5 :: l6 :: l7 :: l8 :: l9 :: l10 :: some (aR x) :: r) (aR x :: st)) : G E ws z k n pc (l0 :: l1 :: l2 :: l3 :: l4 :: l5 :: l6 :: l7 :: l8 :: l9 :: l10 :: some (aR x) :: r) st := g_aload_ hE (j := 11) d rfl h
theorem g_ast11 {E : GE} {own : String} {cc : ByteArray} {nL : Nat} {ret : Option FieldType} (hE : OkE E own cc nL ret) {ws : va_W} {z : Option Nat} {k n pc : Nat} {st : List AV} {l0 : LV} {l1 : LV} {l2 : LV} {l3 : LV} {l4 : LV} {l5 : LV} {l6 : LV} {l7 : LV} {l8 : LV} {l9 : LV} {l10 : LV} {w : LV} {r : List LV} {x : Option Nat} (d : decode cc pc = .ok (.astore 11, 2)) (hn : 11 < nL) (ok : okst (l0 :: l1 :: l2 :: l3 :: l4 :: l5 :: l6 :: l7 :: l8 :: l9 :: l10 :: w :: r) 11 = true) (h : G E ws z k n (pc + 2) (l0 :: l1 :: l2 :: l3 :: l4 :: l5 :: l6 :: l7 :: l8 :: l9 :: l10 :: some (aR x) :: r) st) : G E ws z k n pc (l0 :: l1 :: l2 :: l3 :: l4 :: l5 :: l6 :: l7 :: l8 :: l9 :: l10 :: w :: r) (aR x :: st) := g_astore_ hE (j := 11) d hn ok h
theorem g_lld11 {E : GE} {own : String} {cc : ByteArray} {nL : Nat} {ret : Option FieldType} (hE : OkE E own cc nL ret) {ws : va_W} {z : Option Nat} {k n pc : Nat} {st : List AV} {l0 : LV} {l1 : LV} {l2 : LV} {l3 : LV} {l4 : LV} {l5 : LV} {l6 : LV} {l7 : LV} {l8 : LV} {l9 : LV} {l10 : LV} {r : List LV} {x : Int64} (d : decode cc pc = .ok (.lload 11, 2)) (h : G E ws z k n (pc + 2) (l0 :: l1 :: l2 :: l3 :: l4 :: l5 :: l6 :: l7 :: l8 :: l9 :: l10 :: some (aL x) :: r) (aL x :: st)) : G E ws z k n pc (l0 :: l1 :: l2 :: l3 :: l4 :: l5 :: l6 :: l7 :: l8 :: l9 :: l10 :: some (aL x) :: r) st := g_lload_ hE (j := 11) d rfl h
theorem g_lst11 {E : GE} {own : String} {cc : ByteArray} {nL : Nat} {ret : Option FieldType} (hE : OkE E own cc nL ret) {ws : va_W} {z : Option Nat} {k n pc : Nat} {st : List AV} {l0 : LV} {l1 : LV} {l2 : LV} {l3 : LV} {l4 : LV} {l5 : LV} {l6 : LV} {l7 : LV} {l8 : LV} {l9 : LV} {l10 : LV} {w w2 : LV} {r : List LV} {x : Int64} (d : decode cc pc = .ok (.lstore 11, 2)) (hn : 11 + 1 < nL) (ok : okst (l0 :: l1 :: l2 :: l3 :: l4 :: l5 :: l6 :: l7 :: l8 :: l9 :: l10 :: w :: w2 :: r) 11 = true) (h : G E ws z k n (pc + 2) (l0 :: l1 :: l2 :: l3 :: l4 :: l5 :: l6 :: l7 :: l8 :: l9 :: l10 :: some (aL x) :: none :: r) st) : G E ws z k n pc (l0 :: l1 :: l2 :: l3 :: l4 :: l5 :: l6 :: l7 :: l8 :: l9 :: l10 :: w :: w2 :: r) (aL x :: st) := g_lstore_ hE (j := 11) d hn ok h
theorem g_iinc11 {E : GE} {own : String} {cc : ByteArray} {nL : Nat} {ret : Option FieldType} (hE : OkE E own cc nL ret) {ws : va_W} {z : Option Nat} {k n pc : Nat} {st : List AV} {l0 : LV} {l1 : LV} {l2 : LV} {l3 : LV} {l4 : LV} {l5 : LV} {l6 : LV} {l7 : LV} {l8 : LV} {l9 : LV} {l10 : LV} {r : List LV} {x v : Int} (d : decode cc pc = .ok (.iinc 11 v, 3)) (hn : 11 < nL) (ok : okst (l0 :: l1 :: l2 :: l3 :: l4 :: l5 :: l6 :: l7 :: l8 :: l9 :: l10 :: some (aI x) :: r) 11 = true) (h : G E ws z k n (pc + 3) (l0 :: l1 :: l2 :: l3 :: l4 :: l5 :: l6 :: l7 :: l8 :: l9 :: l10 :: some (aI (x + v)) :: r) st) : G E ws z k n pc (l0 :: l1 :: l2 :: l3 :: l4 :: l5 :: l6 :: l7 :: l8 :: l9 :: l10 :: some (aI x) :: r) st := g_iinc_ hE (j := 11) d rfl hn ok h
theorem g_kl11 {E : GE} {ws : va_W} {z : Option Nat} {k n pc : Nat} {st : List AV} {l0 : LV} {l1 : LV} {l2 : LV} {l3 : LV} {l4 : LV} {l5 : LV} {l6 : LV} {l7 : LV} {l8 : LV} {l9 : LV} {l10 : LV} {w : LV} {r : List LV} (h : G E ws z k n pc (l0 :: l1 :: l2 :: l3 :: l4 :: l5 :: l6 :: l7 :: l8 :: l9 :: l10 :: none :: r) st) : G E ws z k n pc (l0 :: l1 :: l2 :: l3 :: l4 :: l5 :: l6 :: l7 :: l8 :: l9 :: l10 :: w :: r) st := by
  obtain ⟨p, l, e, R, s, m, args, below, meth, c, A, Q, D, cl, tys⟩ := E
  intro H locs ls hz hP hD hS hl
  refine h H locs ls hz hP hD hS (LH.weak hl fun i v hi => ?_)
  by_cases e : i = 11
  · subst e
    simp at hi
  · have : (l0 :: l1 :: l2 :: l3 :: l4 :: l5 :: l6 :: l7 :: l8 :: l9 :: l10 :: none :: r) = ((l0 :: l1 :: l2 :: l3 :: l4 :: l5 :: l6 :: l7 :: l8 :: l9 :: l10 :: w :: r)).set 11 none := rfl
    rw [this, List.getElem?_set_ne (Ne.symm e)] at hi
    exact hi
theorem g_ild12 {E : GE} {own : String} {cc : ByteArray} {nL : Nat} {ret : Option FieldType} (hE : OkE E own cc nL ret) {ws : va_W} {z : Option Nat} {k n pc : Nat} {st : List AV} {l0 : LV} {l1 : LV} {l2 : LV} {l3 : LV} {l4 : LV} {l5 : LV} {l6 : LV} {l7 : LV} {l8 : LV} {l9 : LV} {l10 : LV} {l11 : LV} {r : List LV} {x : Int} (d : decode cc pc = .ok (.iload 12, 2)) (h : G E ws z k n (pc + 2) (l0 :: l1 :: l2 :: l3 :: l4 :: l5 :: l6 :: l7 :: l8 :: l9 :: l10 :: l11 :: some (aI x) :: r) (aI x :: st)) : G E ws z k n pc (l0 :: l1 :: l2 :: l3 :: l4 :: l5 :: l6 :: l7 :: l8 :: l9 :: l10 :: l11 :: some (aI x) :: r) st := g_iload_ hE (j := 12) d rfl h
theorem g_ist12 {E : GE} {own : String} {cc : ByteArray} {nL : Nat} {ret : Option FieldType} (hE : OkE E own cc nL ret) {ws : va_W} {z : Option Nat} {k n pc : Nat} {st : List AV} {l0 : LV} {l1 : LV} {l2 : LV} {l3 : LV} {l4 : LV} {l5 : LV} {l6 : LV} {l7 : LV} {l8 : LV} {l9 : LV} {l10 : LV} {l11 : LV} {w : LV} {r : List LV} {x : Int} (d : decode cc pc = .ok (.istore 12, 2)) (hn : 12 < nL) (ok : okst (l0 :: l1 :: l2 :: l3 :: l4 :: l5 :: l6 :: l7 :: l8 :: l9 :: l10 :: l11 :: w :: r) 12 = true) (h : G E ws z k n (pc + 2) (l0 :: l1 :: l2 :: l3 :: l4 :: l5 :: l6 :: l7 :: l8 :: l9 :: l10 :: l11 :: some (aI x) :: r) st) : G E ws z k n pc (l0 :: l1 :: l2 :: l3 :: l4 :: l5 :: l6 :: l7 :: l8 :: l9 :: l10 :: l11 :: w :: r) (aI x :: st) := g_istore_ hE (j := 12) d hn ok h
theorem g_ald12 {E : GE} {own : String} {cc : ByteArray} {nL : Nat} {ret : Option FieldType} (hE : OkE E own cc nL ret) {ws : va_W} {z : Option Nat} {k n pc : Nat} {st : List AV} {l0 : LV} {l1 : LV} {l2 : LV} {l3 : LV} {l4 : LV} {l5 : LV} {l6 : LV} {l7 : LV} {l8 : LV} {l9 : LV} {l10 : LV} {l11 : LV} {r : List LV} {x : Option Nat} (d : decode cc pc = .ok (.aload 12, 2)) (h : G E ws z k n (pc + 2) (l0 :: l1 :: l2 :: l3 :: l4 :: l5 :: l6 :: l7 :: l8 :: l9 :: l10 :: l11 :: some (aR x) :: r) (aR x :: st)) : G E ws z k n pc (l0 :: l1 :: l2 :: l3 :: l4 :: l5 :: l6 :: l7 :: l8 :: l9 :: l10 :: l11 :: some (aR x) :: r) st := g_aload_ hE (j := 12) d rfl h
theorem g_ast12 {E : GE} {own : String} {cc : ByteArray} {nL : Nat} {ret : Option FieldType} (hE : OkE E own cc nL ret) {ws : va_W} {z : Option Nat} {k n pc : Nat} {st : List AV} {l0 : LV} {l1 : LV} {l2 : LV} {l3 : LV} {l4 : LV} {l5 : LV} {l6 : LV} {l7 : LV} {l8 : LV} {l9 : LV} {l10 : LV} {l11 : LV} {w : LV} {r : List LV} {x : Option Nat} (d : decode cc pc = .ok (.astore 12, 2)) (hn : 12 < nL) (ok : okst (l0 :: l1 :: l2 :: l3 :: l4 :: l5 :: l6 :: l7 :: l8 :: l9 :: l10 :: l11 :: w :: r) 12 = true) (h : G E ws z k n (pc + 2) (l0 :: l1 :: l2 :: l3 :: l4 :: l5 :: l6 :: l7 :: l8 :: l9 :: l10 :: l11 :: some (aR x) :: r) st) : G E ws z k n pc (l0 :: l1 :: l2 :: l3 :: l4 :: l5 :: l6 :: l7 :: l8 :: l9 :: l10 :: l11 :: w :: r) (aR x :: st) := g_astore_ hE (j := 12) d hn ok h
theorem g_lld12 {E : GE} {own : String} {cc : ByteArray} {nL : Nat} {ret : Option FieldType} (hE : OkE E own cc nL ret) {ws : va_W} {z : Option Nat} {k n pc : Nat} {st : List AV} {l0 : LV} {l1 : LV} {l2 : LV} {l3 : LV} {l4 : LV} {l5 : LV} {l6 : LV} {l7 : LV} {l8 : LV} {l9 : LV} {l10 : LV} {l11 : LV} {r : List LV} {x : Int64} (d : decode cc pc = .ok (.lload 12, 2)) (h : G E ws z k n (pc + 2) (l0 :: l1 :: l2 :: l3 :: l4 :: l5 :: l6 :: l7 :: l8 :: l9 :: l10 :: l11 :: some (aL x) :: r) (aL x :: st)) : G E ws z k n pc (l0 :: l1 :: l2 :: l3 :: l4 :: l5 :: l6 :: l7 :: l8 :: l9 :: l10 :: l11 :: some (aL x) :: r) st := g_lload_ hE (j := 12) d rfl h
theorem g_lst12 {E : GE} {own : String} {cc : ByteArray} {nL : Nat} {ret : Option FieldType} (hE : OkE E own cc nL ret) {ws : va_W} {z : Option Nat} {k n pc : Nat} {st : List AV} {l0 : LV} {l1 : LV} {l2 : LV} {l3 : LV} {l4 : LV} {l5 : LV} {l6 : LV} {l7 : LV} {l8 : LV} {l9 : LV} {l10 : LV} {l11 : LV} {w w2 : LV} {r : List LV} {x : Int64} (d : decode cc pc = .ok (.lstore 12, 2)) (hn : 12 + 1 < nL) (ok : okst (l0 :: l1 :: l2 :: l3 :: l4 :: l5 :: l6 :: l7 :: l8 :: l9 :: l10 :: l11 :: w :: w2 :: r) 12 = true) (h : G E ws z k n (pc + 2) (l0 :: l1 :: l2 :: l3 :: l4 :: l5 :: l6 :: l7 :: l8 :: l9 :: l10 :: l11 :: some (aL x) :: none :: r) st) : G E ws z k n pc (l0 :: l1 :: l2 :: l3 :: l4 :: l5 :: l6 :: l7 :: l8 :: l9 :: l10 :: l11 :: w :: w2 :: r) (aL x :: st) := g_lstore_ hE (j := 12) d hn ok h
theorem g_iinc12 {E : GE} {own : String} {cc : ByteArray} {nL : Nat} {ret : Option FieldType} (hE : OkE E own cc nL ret) {ws : va_W} {z : Option Nat} {k n pc : Nat} {st : List AV} {l0 : LV} {l1 : LV} {l2 : LV} {l3 : LV} {l4 : LV} {l5 : LV} {l6 : LV} {l7 : LV} {l8 : LV} {l9 : LV} {l10 : LV} {l11 : LV} {r : List LV} {x v : Int} (d : decode cc pc = .ok (.iinc 12 v, 3)) (hn : 12 < nL) (ok : okst (l0 :: l1 :: l2 :: l3 :: l4 :: l5 :: l6 :: l7 :: l8 :: l9 :: l10 :: l11 :: some (aI x) :: r) 12 = true) (h : G E ws z k n (pc + 3) (l0 :: l1 :: l2 :: l3 :: l4 :: l5 :: l6 :: l7 :: l8 :: l9 :: l10 :: l11 :: some (aI (x + v)) :: r) st) : G E ws z k n pc (l0 :: l1 :: l2 :: l3 :: l4 :: l5 :: l6 :: l7 :: l8 :: l9 :: l10 :: l11 :: some (aI x) :: r) st := g_iinc_ hE (j := 12) d rfl hn ok h
theorem g_kl12 {E : GE} {ws : va_W} {z : Option Nat} {k n pc : Nat} {st : List AV} {l0 : LV} {l1 : LV} {l2 : LV} {l3 : LV} {l4 : LV} {l5 : LV} {l6 : LV} {l7 : LV} {l8 : LV} {l9 : LV} {l10 : LV} {l11 : LV} {w : LV} {r : List LV} (h : G E ws z k n pc (l0 :: l1 :: l2 :: l3 :: l4 :: l5 :: l6 :: l7 :: l8 :: l9 :: l10 :: l11 :: none :: r) st) : G E ws z k n pc (l0 :: l1 :: l2 :: l3 :: l4 :: l5 :: l6 :: l7 :: l8 :: l9 :: l10 :: l11 :: w :: r) st := by
  obtain ⟨p, l, e, R, s, m, args, below, meth, c, A, Q, D, cl, tys⟩ := E
  intro H locs ls hz hP hD hS hl
  refine h H locs ls hz hP hD hS (LH.weak hl fun i v hi => ?_)
  by_cases e : i = 12
  · subst e
    simp at hi
  · have : (l0 :: l1 :: l2 :: l3 :: l4 :: l5 :: l6 :: l7 :: l8 :: l9 :: l10 :: l11 :: none :: r) = ((l0 :: l1 :: l2 :: l3 :: l4 :: l5 :: l6 :: l7 :: l8 :: l9 :: l10 :: l11 :: w :: r)).set 12 none := rfl
    rw [this, List.getElem?_set_ne (Ne.symm e)] at hi
    exact hi
theorem g_ild13 {E : GE} {own : String} {cc : ByteArray} {nL : Nat} {ret : Option FieldType} (hE : OkE E own cc nL ret) {ws : va_W} {z : Option Nat} {k n pc : Nat} {st : List AV} {l0 : LV} {l1 : LV} {l2 : LV} {l3 : LV} {l4 : LV} {l5 : LV} {l6 : LV} {l7 : LV} {l8 : LV} {l9 : LV} {l10 : LV} {l11 : LV} {l12 : LV} {r : List LV} {x : Int} (d : decode cc pc = .ok (.iload 13, 2)) (h : G E ws z k n (pc + 2) (l0 :: l1 :: l2 :: l3 :: l4 :: l5 :: l6 :: l7 :: l8 :: l9 :: l10 :: l11 :: l12 :: some (aI x) :: r) (aI x :: st)) : G E ws z k n pc (l0 :: l1 :: l2 :: l3 :: l4 :: l5 :: l6 :: l7 :: l8 :: l9 :: l10 :: l11 :: l12 :: some (aI x) :: r) st := g_iload_ hE (j := 13) d rfl h
theorem g_ist13 {E : GE} {own : String} {cc : ByteArray} {nL : Nat} {ret : Option FieldType} (hE : OkE E own cc nL ret) {ws : va_W} {z : Option Nat} {k n pc : Nat} {st : List AV} {l0 : LV} {l1 : LV} {l2 : LV} {l3 : LV} {l4 : LV} {l5 : LV} {l6 : LV} {l7 : LV} {l8 : LV} {l9 : LV} {l10 : LV} {l11 : LV} {l12 : LV} {w : LV} {r : List LV} {x : Int} (d : decode cc pc = .ok (.istore 13, 2)) (hn : 13 < nL) (ok : okst (l0 :: l1 :: l2 :: l3 :: l4 :: l5 :: l6 :: l7 :: l8 :: l9 :: l10 :: l11 :: l12 :: w :: r) 13 = true) (h : G E ws z k n (pc + 2) (l0 :: l1 :: l2 :: l3 :: l4 :: l5 :: l6 :: l7 :: l8 :: l9 :: l10 :: l11 :: l12 :: some (aI x) :: r) st) : G E ws z k n pc (l0 :: l1 :: l2 :: l3 :: l4 :: l5 :: l6 :: l7 :: l8 :: l9 :: l10 :: l11 :: l12 :: w :: r) (aI x :: st) := g_istore_ hE (j := 13) d hn ok h
theorem g_ald13 {E : GE} {own : String} {cc : ByteArray} {nL : Nat} {ret : Option FieldType} (hE : OkE E own cc nL ret) {ws : va_W} {z : Option Nat} {k n pc : Nat} {st : List AV} {l0 : LV} {l1 : LV} {l2 : LV} {l3 : LV} {l4 : LV} {l5 : LV} {l6 : LV} {l7 : LV} {l8 : LV} {l9 : LV} {l10 : LV} {l11 : LV} {l12 : LV} {r : List LV} {x : Option Nat} (d : decode cc pc = .ok (.aload 13, 2)) (h : G E ws z k n (pc + 2) (l0 :: l1 :: l2 :: l3 :: l4 :: l5 :: l6 :: l7 :: l8 :: l9 :: l10 :: l11 :: l12 :: some (aR x) :: r) (aR x :: st)) : G E ws z k n pc (l0 :: l1 :: l2 :: l3 :: l4 :: l5 :: l6 :: l7 :: l8 :: l9 :: l10 :: l11 :: l12 :: some (aR x) :: r) st := g_aload_ hE (j := 13) d rfl h
theorem g_ast13 {E : GE} {own : String} {cc : ByteArray} {nL : Nat} {ret : Option FieldType} (hE : OkE E own cc nL ret) {ws : va_W} {z : Option Nat} {k n pc : Nat} {st : List AV} {l0 : LV} {l1 : LV} {l2 : LV} {l3 : LV} {l4 : LV} {l5 : LV} {l6 : LV} {l7 : LV} {l8 : LV} {l9 : LV} {l10 : LV} {l11 : LV} {l12 : LV} {w : LV} {r : List LV} {x : Option Nat} (d : decode cc pc = .ok (.astore 13, 2)) (hn : 13 < nL) (ok : okst (l0 :: l1 :: l2 :: l3 :: l4 :: l5 :: l6 :: l7 :: l8 :: l9 :: l10 :: l11 :: l12 :: w :: r) 13 = true) (h : G E ws z k n (pc + 2) (l0 :: l1 :: l2 :: l3 :: l4 :: l5 :: l6 :: l7 :: l8 :: l9 :: l10 :: l11 :: l12 :: some (aR x) :: r) st) : G E ws z k n pc (l0 :: l1 :: l2 :: l3 :: l4 :: l5 :: l6 :: l7 :: l8 :: l9 :: l10 :: l11 :: l12 :: w :: r) (aR x :: st) := g_astore_ hE (j := 13) d hn ok h
theorem g_lld13 {E : GE} {own : String} {cc : ByteArray} {nL : Nat} {ret : Option FieldType} (hE : OkE E own cc nL ret) {ws : va_W} {z : Option Nat} {k n pc : Nat} {st : List AV} {l0 : LV} {l1 : LV} {l2 : LV} {l3 : LV} {l4 : LV} {l5 : LV} {l6 : LV} {l7 : LV} {l8 : LV} {l9 : LV} {l10 : LV} {l11 : LV} {l12 : LV} {r : List LV} {x : Int64} (d : decode cc pc = .ok (.lload 13, 2)) (h : G E ws z k n (pc + 2) (l0 :: l1 :: l2 :: l3 :: l4 :: l5 :: l6 :: l7 :: l8 :: l9 :: l10 :: l11 :: l12 :: some (aL x) :: r) (aL x :: st)) : G E ws z k n pc (l0 :: l1 :: l2 :: l3 :: l4 :: l5 :: l6 :: l7 :: l8 :: l9 :: l10 :: l11 :: l12 :: some (aL x) :: r) st := g_lload_ hE (j := 13) d rfl h
theorem g_lst13 {E : GE} {own : String} {cc : ByteArray} {nL : Nat} {ret : Option FieldType} (hE : OkE E own cc nL ret) {ws : va_W} {z : Option Nat} {k n pc : Nat} {st : List AV} {l0 : LV} {l1 : LV} {l2 : LV} {l3 : LV} {l4 : LV} {l5 : LV} {l6 : LV} {l7 : LV} {l8 : LV} {l9 : LV} {l10 : LV} {l11 : LV} {l12 : LV} {w w2 : LV} {r : List LV} {x : Int64} (d : decode cc pc = .ok (.lstore 13, 2)) (hn : 13 + 1 < nL) (ok : okst (l0 :: l1 :: l2 :: l3 :: l4 :: l5 :: l6 :: l7 :: l8 :: l9 :: l10 :: l11 :: l12 :: w :: w2 :: r) 13 = true) (h : G E ws z k n (pc + 2) (l0 :: l1 :: l2 :: l3 :: l4 :: l5 :: l6 :: l7 :: l8 :: l9 :: l10 :: l11 :: l12 :: some (aL x) :: none :: r) st) : G E ws z k n pc (l0 :: l1 :: l2 :: l3 :: l4 :: l5 :: l6 :: l7 :: l8 :: l9 :: l10 :: l11 :: l12 :: w :: w2 :: r) (aL x :: st) := g_lstore_ hE (j := 13) d hn ok h
theorem g_iinc13 {E : GE} {own : String} {cc : ByteArray} {nL : Nat} {ret : Option FieldType} (hE : OkE E own cc nL ret) {ws : va_W} {z : Option Nat} {k n pc : Nat} {st : List AV} {l0 : LV} {l1 : LV} {l2 : LV} {l3 : LV} {l4 : LV} {l5 : LV} {l6 : LV} {l7 : LV} {l8 : LV} {l9 : LV} {l10 : LV} {l11 : LV} {l12 : LV} {r : List LV} {x v : Int} (d : decode cc pc = .ok (.iinc 13 v, 3)) (hn : 13 < nL) (ok : okst (l0 :: l1 :: l2 :: l3 :: l4 :: l5 :: l6 :: l7 :: l8 :: l9 :: l10 :: l11 :: l12 :: some (aI x) :: r) 13 = true) (h : G E ws z k n (pc + 3) (l0 :: l1 :: l2 :: l3 :: l4 :: l5 :: l6 :: l7 :: l8 :: l9 :: l10 :: l11 :: l12 :: some (aI (x + v)) :: r) st) : G E ws z k n pc (l0 :: l1 :: l2 :: l3 :: l4 :: l5 :: l6 :: l7 :: l8 :: l9 :: l10 :: l11 :: l12 :: some (aI x) :: r) st := g_iinc_ hE (j := 13) d rfl hn ok h
theorem g_kl13 {E : GE} {ws : va_W} {z : Option Nat} {k n pc : Nat} {st : List AV} {l0 : LV} {l1 : LV} {l2 : LV} {l3 : LV} {l4 : LV} {l5 : LV} {l6 : LV} {l7 : LV} {l8 : LV} {l9 : LV} {l10 : LV} {l11 : LV} {l12 : LV} {w : LV} {r : List LV} (h : G E ws z k n pc (l0 :: l1 :: l2 :: l3 :: l4 :: l5 :: l6 :: l7 :: l8 :: l9 :: l10 :: l11 :: l12 :: none :: r) st) : G E ws z k n pc (l0 :: l1 :: l2 :: l3 :: l4 :: l5 :: l6 :: l7 :: l8 :: l9 :: l10 :: l11 :: l12 :: w :: r) st := by
  obtain ⟨p, l, e, R, s, m, args, below, meth, c, A, Q, D, cl, tys⟩ := E
  intro H locs ls hz hP hD hS hl
  refine h H locs ls hz hP hD hS (LH.weak hl fun i v hi => ?_)
  by_cases e : i = 13
  · subst e
    simp at hi
  · have : (l0 :: l1 :: l2 :: l3 :: l4 :: l5 :: l6 :: l7 :: l8 :: l9 :: l10 :: l11 :: l12 :: none :: r) = ((l0 :: l1 :: l2 :: l3 :: l4 :: l5 :: l6 :: l7 :: l8 :: l9 :: l10 :: l11 :: l12 :: w :: r)).set 13 none := rfl
    rw [this, List.getElem?_set_ne (Ne.symm e)] at hi
    exact hi
theorem g_iadd {E : GE} {own : String} {cc : ByteArray} {nL : Nat} {ret : Option FieldType} (hE : OkE E own cc nL ret) {ws : va_W} {z : Option Nat} {k n pc : Nat} {st : List AV} {lv : List LV} {x y : Int} (d : decode cc pc = .ok (.iadd, 1)) (h : G E ws z k n (pc + 1) lv (aI (x + y) :: st)) : G E ws z k n pc lv (aI y :: aI x :: st) := by
  obtain ⟨p, l, e, R, s, m, args, below, meth, c, A, Q, D, cl, tys⟩ := E
  obtain ⟨hx, hb, hml, hown, hts, hr, hlk, hK, hA⟩ := hE
  intro H locs ls hz hP hD hS hl
  show W p l e R s m args below meth c H locs k n Q (F0 m pc ls (.int (iI y) :: .int (iI x) :: st.map toV))
  refine lv_iadd hx hb d ?_
  rw [iI_add]
  exact h H locs ls hz hP hD hS hl
theorem g_isub {E : GE} {own : String} {cc : ByteArray} {nL : Nat} {ret : Option FieldType} (hE : OkE E own cc nL ret) {ws : va_W} {z : Option Nat} {k n pc : Nat} {st : List AV} {lv : List LV} {x y : Int} (d : decode cc pc = .ok (.isub, 1)) (h : G E ws z k n (pc + 1) lv (aI (x - y) :: st)) : G E ws z k n pc lv (aI y :: aI x :: st) := by
  obtain ⟨p, l, e, R, s, m, args, below, meth, c, A, Q, D, cl, tys⟩ := E
  obtain ⟨hx, hb, hml, hown, hts, hr, hlk, hK, hA⟩ := hE
  intro H locs ls hz hP hD hS hl
  show W p l e R s m args below meth c H locs k n Q (F0 m pc ls (.int (iI y) :: .int (iI x) :: st.map toV))
  refine lv_isub hx hb d ?_
  rw [iI_sub]
  exact h H locs ls hz hP hD hS hl
theorem g_imul {E : GE} {own : String} {cc : ByteArray} {nL : Nat} {ret : Option FieldType} (hE : OkE E own cc nL ret) {ws : va_W} {z : Option Nat} {k n pc : Nat} {st : List AV} {lv : List LV} {x y : Int} (d : decode cc pc = .ok (.imul, 1)) (h : G E ws z k n (pc + 1) lv (aI (x * y) :: st)) : G E ws z k n pc lv (aI y :: aI x :: st) := by
  obtain ⟨p, l, e, R, s, m, args, below, meth, c, A, Q, D, cl, tys⟩ := E
  obtain ⟨hx, hb, hml, hown, hts, hr, hlk, hK, hA⟩ := hE
  intro H locs ls hz hP hD hS hl
  show W p l e R s m args below meth c H locs k n Q (F0 m pc ls (.int (iI y) :: .int (iI x) :: st.map toV))
  refine lv_imul hx hb d ?_
  rw [iI_mul]
  exact h H locs ls hz hP hD hS hl
theorem g_iand {E : GE} {own : String} {cc : ByteArray} {nL : Nat} {ret : Option FieldType} (hE : OkE E own cc nL ret) {ws : va_W} {z : Option Nat} {k n pc : Nat} {st : List AV} {lv : List LV} {x y : Int} (d : decode cc pc = .ok (.iand, 1)) (h : G E ws z k n (pc + 1) lv (aI (bAnd x y) :: st)) : G E ws z k n pc lv (aI y :: aI x :: st) := by
  obtain ⟨p, l, e, R, s, m, args, below, meth, c, A, Q, D, cl, tys⟩ := E
  obtain ⟨hx, hb, hml, hown, hts, hr, hlk, hK, hA⟩ := hE
  intro H locs ls hz hP hD hS hl
  show W p l e R s m args below meth c H locs k n Q (F0 m pc ls (.int (iI y) :: .int (iI x) :: st.map toV))
  have h1 := h H locs ls hz hP hD hS hl
  refine lv_iand hx hb d ?_
  have e : toV (aI (bAnd x y)) = _ := congrArg Value.int (iI_of _)
  exact e ▸ h1
theorem g_ior {E : GE} {own : String} {cc : ByteArray} {nL : Nat} {ret : Option FieldType} (hE : OkE E own cc nL ret) {ws : va_W} {z : Option Nat} {k n pc : Nat} {st : List AV} {lv : List LV} {x y : Int} (d : decode cc pc = .ok (.ior, 1)) (h : G E ws z k n (pc + 1) lv (aI (bOr x y) :: st)) : G E ws z k n pc lv (aI y :: aI x :: st) := by
  obtain ⟨p, l, e, R, s, m, args, below, meth, c, A, Q, D, cl, tys⟩ := E
  obtain ⟨hx, hb, hml, hown, hts, hr, hlk, hK, hA⟩ := hE
  intro H locs ls hz hP hD hS hl
  show W p l e R s m args below meth c H locs k n Q (F0 m pc ls (.int (iI y) :: .int (iI x) :: st.map toV))
  have h1 := h H locs ls hz hP hD hS hl
  refine lv_ior hx hb d ?_
  have e : toV (aI (bOr x y)) = _ := congrArg Value.int (iI_of _)
  exact e ▸ h1
theorem g_ixor {E : GE} {own : String} {cc : ByteArray} {nL : Nat} {ret : Option FieldType} (hE : OkE E own cc nL ret) {ws : va_W} {z : Option Nat} {k n pc : Nat} {st : List AV} {lv : List LV} {x y : Int} (d : decode cc pc = .ok (.ixor, 1)) (h : G E ws z k n (pc + 1) lv (aI (bXor x y) :: st)) : G E ws z k n pc lv (aI y :: aI x :: st) := by
  obtain ⟨p, l, e, R, s, m, args, below, meth, c, A, Q, D, cl, tys⟩ := E
  obtain ⟨hx, hb, hml, hown, hts, hr, hlk, hK, hA⟩ := hE
  intro H locs ls hz hP hD hS hl
  show W p l e R s m args below meth c H locs k n Q (F0 m pc ls (.int (iI y) :: .int (iI x) :: st.map toV))
  have h1 := h H locs ls hz hP hD hS hl
  refine lv_ixor hx hb d ?_
  have e : toV (aI (bXor x y)) = _ := congrArg Value.int (iI_of _)
  exact e ▸ h1
theorem g_ishl {E : GE} {own : String} {cc : ByteArray} {nL : Nat} {ret : Option FieldType} (hE : OkE E own cc nL ret) {ws : va_W} {z : Option Nat} {k n pc : Nat} {st : List AV} {lv : List LV} {x y : Int} (d : decode cc pc = .ok (.ishl, 1)) (h : G E ws z k n (pc + 1) lv (aI (bShl x y) :: st)) : G E ws z k n pc lv (aI y :: aI x :: st) := by
  obtain ⟨p, l, e, R, s, m, args, below, meth, c, A, Q, D, cl, tys⟩ := E
  obtain ⟨hx, hb, hml, hown, hts, hr, hlk, hK, hA⟩ := hE
  intro H locs ls hz hP hD hS hl
  show W p l e R s m args below meth c H locs k n Q (F0 m pc ls (.int (iI y) :: .int (iI x) :: st.map toV))
  have h1 := h H locs ls hz hP hD hS hl
  refine lv_ishl hx hb d ?_
  have e : toV (aI (bShl x y)) = _ := congrArg Value.int (iI_of _)
  exact e ▸ h1
theorem g_ishr {E : GE} {own : String} {cc : ByteArray} {nL : Nat} {ret : Option FieldType} (hE : OkE E own cc nL ret) {ws : va_W} {z : Option Nat} {k n pc : Nat} {st : List AV} {lv : List LV} {x y : Int} (d : decode cc pc = .ok (.ishr, 1)) (h : G E ws z k n (pc + 1) lv (aI (bShr x y) :: st)) : G E ws z k n pc lv (aI y :: aI x :: st) := by
  obtain ⟨p, l, e, R, s, m, args, below, meth, c, A, Q, D, cl, tys⟩ := E
  obtain ⟨hx, hb, hml, hown, hts, hr, hlk, hK, hA⟩ := hE
  intro H locs ls hz hP hD hS hl
  show W p l e R s m args below meth c H locs k n Q (F0 m pc ls (.int (iI y) :: .int (iI x) :: st.map toV))
  have h1 := h H locs ls hz hP hD hS hl
  refine lv_ishr hx hb d ?_
  have e : toV (aI (bShr x y)) = _ := congrArg Value.int (iI_of _)
  exact e ▸ h1
theorem g_iushr {E : GE} {own : String} {cc : ByteArray} {nL : Nat} {ret : Option FieldType} (hE : OkE E own cc nL ret) {ws : va_W} {z : Option Nat} {k n pc : Nat} {st : List AV} {lv : List LV} {x y : Int} (d : decode cc pc = .ok (.iushr, 1)) (h : G E ws z k n (pc + 1) lv (aI (bUshr x y) :: st)) : G E ws z k n pc lv (aI y :: aI x :: st) := by
  obtain ⟨p, l, e, R, s, m, args, below, meth, c, A, Q, D, cl, tys⟩ := E
  obtain ⟨hx, hb, hml, hown, hts, hr, hlk, hK, hA⟩ := hE
  intro H locs ls hz hP hD hS hl
  show W p l e R s m args below meth c H locs k n Q (F0 m pc ls (.int (iI y) :: .int (iI x) :: st.map toV))
  exact lv_iushr hx hb d (iI_of _).symm (h H locs ls hz hP hD hS hl)
theorem g_i2b {E : GE} {own : String} {cc : ByteArray} {nL : Nat} {ret : Option FieldType} (hE : OkE E own cc nL ret) {ws : va_W} {z : Option Nat} {k n pc : Nat} {st : List AV} {lv : List LV} {x : Int} (d : decode cc pc = .ok (.i2b, 1)) (h : G E ws z k n (pc + 1) lv (aI (bB x) :: st)) : G E ws z k n pc lv (aI x :: st) := by
  obtain ⟨p, l, e, R, s, m, args, below, meth, c, A, Q, D, cl, tys⟩ := E
  obtain ⟨hx, hb, hml, hown, hts, hr, hlk, hK, hA⟩ := hE
  intro H locs ls hz hP hD hS hl
  show W p l e R s m args below meth c H locs k n Q (F0 m pc ls (.int (iI x) :: st.map toV))
  exact lv_i2b hx hb d (iI_of _).symm (h H locs ls hz hP hD hS hl)
theorem g_i2c {E : GE} {own : String} {cc : ByteArray} {nL : Nat} {ret : Option FieldType} (hE : OkE E own cc nL ret) {ws : va_W} {z : Option Nat} {k n pc : Nat} {st : List AV} {lv : List LV} {x : Int} (d : decode cc pc = .ok (.i2c, 1)) (h : G E ws z k n (pc + 1) lv (aI (bC x) :: st)) : G E ws z k n pc lv (aI x :: st) := by
  obtain ⟨p, l, e, R, s, m, args, below, meth, c, A, Q, D, cl, tys⟩ := E
  obtain ⟨hx, hb, hml, hown, hts, hr, hlk, hK, hA⟩ := hE
  intro H locs ls hz hP hD hS hl
  show W p l e R s m args below meth c H locs k n Q (F0 m pc ls (.int (iI x) :: st.map toV))
  exact lv_i2c hx hb d (iI_of _).symm (h H locs ls hz hP hD hS hl)
theorem g_i2l {E : GE} {own : String} {cc : ByteArray} {nL : Nat} {ret : Option FieldType} (hE : OkE E own cc nL ret) {ws : va_W} {z : Option Nat} {k n pc : Nat} {st : List AV} {lv : List LV} {x : Int} (d : decode cc pc = .ok (.i2l, 1)) (h : G E ws z k n (pc + 1) lv (aL (iI x).toInt64 :: st)) : G E ws z k n pc lv (aI x :: st) := by
  obtain ⟨p, l, e, R, s, m, args, below, meth, c, A, Q, D, cl, tys⟩ := E
  obtain ⟨hx, hb, hml, hown, hts, hr, hlk, hK, hA⟩ := hE
  intro H locs ls hz hP hD hS hl
  show W p l e R s m args below meth c H locs k n Q (F0 m pc ls (.int (iI x) :: st.map toV))
  exact lv_i2l hx hb d rfl (h H locs ls hz hP hD hS hl)
theorem g_l2i {E : GE} {own : String} {cc : ByteArray} {nL : Nat} {ret : Option FieldType} (hE : OkE E own cc nL ret) {ws : va_W} {z : Option Nat} {k n pc : Nat} {st : List AV} {lv : List LV} {x : Int64} (d : decode cc pc = .ok (.l2i, 1)) (h : G E ws z k n (pc + 1) lv (aI x.toInt32.toInt :: st)) : G E ws z k n pc lv (aL x :: st) := by
  obtain ⟨p, l, e, R, s, m, args, below, meth, c, A, Q, D, cl, tys⟩ := E
  obtain ⟨hx, hb, hml, hown, hts, hr, hlk, hK, hA⟩ := hE
  intro H locs ls hz hP hD hS hl
  show W p l e R s m args below meth c H locs k n Q (F0 m pc ls (.long x :: st.map toV))
  exact lv_l2i hx hb d (iI_of _).symm (h H locs ls hz hP hD hS hl)
theorem g_ineg {E : GE} {own : String} {cc : ByteArray} {nL : Nat} {ret : Option FieldType} (hE : OkE E own cc nL ret) {ws : va_W} {z : Option Nat} {k n pc : Nat} {st : List AV} {lv : List LV} {x : Int} (d : decode cc pc = .ok (.ineg, 1)) (h : G E ws z k n (pc + 1) lv (aI (-x) :: st)) : G E ws z k n pc lv (aI x :: st) := by
  obtain ⟨p, l, e, R, s, m, args, below, meth, c, A, Q, D, cl, tys⟩ := E
  obtain ⟨hx, hb, hml, hown, hts, hr, hlk, hK, hA⟩ := hE
  intro H locs ls hz hP hD hS hl
  show W p l e R s m args below meth c H locs k n Q (F0 m pc ls (.int (iI x) :: st.map toV))
  refine lv_ineg hx hb d ?_
  rw [iI_neg]
  exact h H locs ls hz hP hD hS hl
theorem g_idiv {E : GE} {own : String} {cc : ByteArray} {nL : Nat} {ret : Option FieldType} (hE : OkE E own cc nL ret) {ws : va_W} {z : Option Nat} {k n pc : Nat} {st : List AV} {lv : List LV} {x y : Int} (d : decode cc pc = .ok (.idiv, 1)) (hxx : 0 ≤ x ∧ x < 2147483648) (hyy : 0 < y ∧ y < 2147483648) (h : G E ws z k n (pc + 1) lv (aI (x / y) :: st)) : G E ws z k n pc lv (aI y :: aI x :: st) := by
  obtain ⟨p, l, e, R, s, m, args, below, meth, c, A, Q, D, cl, tys⟩ := E
  obtain ⟨hx, hb, hml, hown, hts, hr, hlk, hK, hA⟩ := hE
  intro H locs ls hz hP hD hS hl
  show W p l e R s m args below meth c H locs k n Q (F0 m pc ls (.int (iI y) :: .int (iI x) :: st.map toV))
  refine lv_idiv hx hb d (iI_ne0 hyy) ?_
  rw [iI_div hxx hyy]
  exact h H locs ls hz hP hD hS hl
theorem g_irem {E : GE} {own : String} {cc : ByteArray} {nL : Nat} {ret : Option FieldType} (hE : OkE E own cc nL ret) {ws : va_W} {z : Option Nat} {k n pc : Nat} {st : List AV} {lv : List LV} {x y : Int} (d : decode cc pc = .ok (.irem, 1)) (hxx : 0 ≤ x ∧ x < 2147483648) (hyy : 0 < y ∧ y < 2147483648) (h : G E ws z k n (pc + 1) lv (aI (x % y) :: st)) : G E ws z k n pc lv (aI y :: aI x :: st) := by
  obtain ⟨p, l, e, R, s, m, args, below, meth, c, A, Q, D, cl, tys⟩ := E
  obtain ⟨hx, hb, hml, hown, hts, hr, hlk, hK, hA⟩ := hE
  intro H locs ls hz hP hD hS hl
  show W p l e R s m args below meth c H locs k n Q (F0 m pc ls (.int (iI y) :: .int (iI x) :: st.map toV))
  refine lv_irem hx hb d (iI_ne0 hyy) ?_
  rw [iI_rem hxx hyy]
  exact h H locs ls hz hP hD hS hl
theorem g_ladd {E : GE} {own : String} {cc : ByteArray} {nL : Nat} {ret : Option FieldType} (hE : OkE E own cc nL ret) {ws : va_W} {z : Option Nat} {k n pc : Nat} {st : List AV} {lv : List LV} {x y : Int64} (d : decode cc pc = .ok (.ladd, 1)) (h : G E ws z k n (pc + 1) lv (aL (x + y) :: st)) : G E ws z k n pc lv (aL y :: aL x :: st) := by
  obtain ⟨p, l, e, R, s, m, args, below, meth, c, A, Q, D, cl, tys⟩ := E
  obtain ⟨hx, hb, hml, hown, hts, hr, hlk, hK, hA⟩ := hE
  intro H locs ls hz hP hD hS hl
  show W p l e R s m args below meth c H locs k n Q (F0 m pc ls (.long y :: .long x :: st.map toV))
  exact lv_ladd hx hb d (h H locs ls hz hP hD hS hl)
theorem g_lsub {E : GE} {own : String} {cc : ByteArray} {nL : Nat} {ret : Option FieldType} (hE : OkE E own cc nL ret) {ws : va_W} {z : Option Nat} {k n pc : Nat} {st : List AV} {lv : List LV} {x y : Int64} (d : decode cc pc = .ok (.lsub, 1)) (h : G E ws z k n (pc + 1) lv (aL (x - y) :: st)) : G E ws z k n pc lv (aL y :: aL x :: st) := by
  obtain ⟨p, l, e, R, s, m, args, below, meth, c, A, Q, D, cl, tys⟩ := E
  obtain ⟨hx, hb, hml, hown, hts, hr, hlk, hK, hA⟩ := hE
  intro H locs ls hz hP hD hS hl
  show W p l e R s m args below meth c H locs k n Q (F0 m pc ls (.long y :: .long x :: st.map toV))
  exact lv_lsub hx hb d (h H locs ls hz hP hD hS hl)
theorem g_lmul {E : GE} {own : String} {cc : ByteArray} {nL : Nat} {ret : Option FieldType} (hE : OkE E own cc nL ret) {ws : va_W} {z : Option Nat} {k n pc : Nat} {st : List AV} {lv : List LV} {x y : Int64} (d : decode cc pc = .ok (.lmul, 1)) (h : G E ws z k n (pc + 1) lv (aL (x * y) :: st)) : G E ws z k n pc lv (aL y :: aL x :: st) := by
  obtain ⟨p, l, e, R, s, m, args, below, meth, c, A, Q, D, cl, tys⟩ := E
  obtain ⟨hx, hb, hml, hown, hts, hr, hlk, hK, hA⟩ := hE
  intro H locs ls hz hP hD hS hl
  show W p l e R s m args below meth c H locs k n Q (F0 m pc ls (.long y :: .long x :: st.map toV))
  exact lv_lmul hx hb d (h H locs ls hz hP hD hS hl)
theorem g_land {E : GE} {own : String} {cc : ByteArray} {nL : Nat} {ret : Option FieldType} (hE : OkE E own cc nL ret) {ws : va_W} {z : Option Nat} {k n pc : Nat} {st : List AV} {lv : List LV} {x y : Int64} (d : decode cc pc = .ok (.land, 1)) (h : G E ws z k n (pc + 1) lv (aL (x &&& y) :: st)) : G E ws z k n pc lv (aL y :: aL x :: st) := by
  obtain ⟨p, l, e, R, s, m, args, below, meth, c, A, Q, D, cl, tys⟩ := E
  obtain ⟨hx, hb, hml, hown, hts, hr, hlk, hK, hA⟩ := hE
  intro H locs ls hz hP hD hS hl
  show W p l e R s m args below meth c H locs k n Q (F0 m pc ls (.long y :: .long x :: st.map toV))
  exact lv_land hx hb d (h H locs ls hz hP hD hS hl)
theorem g_lor {E : GE} {own : String} {cc : ByteArray} {nL : Nat} {ret : Option FieldType} (hE : OkE E own cc nL ret) {ws : va_W} {z : Option Nat} {k n pc : Nat} {st : List AV} {lv : List LV} {x y : Int64} (d : decode cc pc = .ok (.lor, 1)) (h : G E ws z k n (pc + 1) lv (aL (x ||| y) :: st)) : G E ws z k n pc lv (aL y :: aL x :: st) := by
  obtain ⟨p, l, e, R, s, m, args, below, meth, c, A, Q, D, cl, tys⟩ := E
  obtain ⟨hx, hb, hml, hown, hts, hr, hlk, hK, hA⟩ := hE
  intro H locs ls hz hP hD hS hl
  show W p l e R s m args below meth c H locs k n Q (F0 m pc ls (.long y :: .long x :: st.map toV))
  exact lv_lor hx hb d (h H locs ls hz hP hD hS hl)
theorem g_lxor {E : GE} {own : String} {cc : ByteArray} {nL : Nat} {ret : Option FieldType} (hE : OkE E own cc nL ret) {ws : va_W} {z : Option Nat} {k n pc : Nat} {st : List AV} {lv : List LV} {x y : Int64} (d : decode cc pc = .ok (.lxor, 1)) (h : G E ws z k n (pc + 1) lv (aL (x ^^^ y) :: st)) : G E ws z k n pc lv (aL y :: aL x :: st) := by
  obtain ⟨p, l, e, R, s, m, args, below, meth, c, A, Q, D, cl, tys⟩ := E
  obtain ⟨hx, hb, hml, hown, hts, hr, hlk, hK, hA⟩ := hE
  intro H locs ls hz hP hD hS hl
  show W p l e R s m args below meth c H locs k n Q (F0 m pc ls (.long y :: .long x :: st.map toV))
  exact lv_lxor hx hb d (h H locs ls hz hP hD hS hl)
theorem g_lshl {E : GE} {own : String} {cc : ByteArray} {nL : Nat} {ret : Option FieldType} (hE : OkE E own cc nL ret) {ws : va_W} {z : Option Nat} {k n pc : Nat} {st : List AV} {lv : List LV} {x : Int64} {y : Int} (d : decode cc pc = .ok (.lshl, 1)) (h : G E ws z k n (pc + 1) lv (aL (x <<< ((iI y).toInt64 &&& 63)) :: st)) : G E ws z k n pc lv (aI y :: aL x :: st) := by
  obtain ⟨p, l, e, R, s, m, args, below, meth, c, A, Q, D, cl, tys⟩ := E
  obtain ⟨hx, hb, hml, hown, hts, hr, hlk, hK, hA⟩ := hE
  intro H locs ls hz hP hD hS hl
  show W p l e R s m args below meth c H locs k n Q (F0 m pc ls (.int (iI y) :: .long x :: st.map toV))
  exact lv_lshl hx hb d rfl (h H locs ls hz hP hD hS hl)
theorem g_lushr {E : GE} {own : String} {cc : ByteArray} {nL : Nat} {ret : Option FieldType} (hE : OkE E own cc nL ret) {ws : va_W} {z : Option Nat} {k n pc : Nat} {st : List AV} {lv : List LV} {x : Int64} {y : Int} (d : decode cc pc = .ok (.lushr, 1)) (h : G E ws z k n (pc + 1) lv (aL ((x.toUInt64 >>> ((iI y).toInt64.toUInt64 &&& Int64.toUInt64 63)).toInt64) :: st)) : G E ws z k n pc lv (aI y :: aL x :: st) := by
  obtain ⟨p, l, e, R, s, m, args, below, meth, c, A, Q, D, cl, tys⟩ := E
  obtain ⟨hx, hb, hml, hown, hts, hr, hlk, hK, hA⟩ := hE
  intro H locs ls hz hP hD hS hl
  show W p l e R s m args below meth c H locs k n Q (F0 m pc ls (.int (iI y) :: .long x :: st.map toV))
  exact lv_lushr hx hb d rfl (h H locs ls hz hP hD hS hl)
theorem g_dup {E : GE} {own : String} {cc : ByteArray} {nL : Nat} {ret : Option FieldType} (hE : OkE E own cc nL ret) {ws : va_W} {z : Option Nat} {k n pc : Nat} {st : List AV} {lv : List LV} {v : AV} (d : decode cc pc = .ok (.dup, 1)) (hv : isL (some v) = false) (h : G E ws z k n (pc + 1) lv (v :: v :: st)) : G E ws z k n pc lv (v :: st) := by
  obtain ⟨p, l, e, R, s, m, args, below, meth, c, A, Q, D, cl, tys⟩ := E
  obtain ⟨hx, hb, hml, hown, hts, hr, hlk, hK, hA⟩ := hE
  intro H locs ls hz hP hD hS hl
  show W p l e R s m args below meth c H locs k n Q (F0 m pc ls (toV v :: st.map toV))
  exact lv_dup hx hb d (toV_cat1 hv) (h H locs ls hz hP hD hS hl)
theorem g_pop {E : GE} {own : String} {cc : ByteArray} {nL : Nat} {ret : Option FieldType} (hE : OkE E own cc nL ret) {ws : va_W} {z : Option Nat} {k n pc : Nat} {st : List AV} {lv : List LV} {v : AV} (d : decode cc pc = .ok (.pop, 1)) (hv : isL (some v) = false) (h : G E ws z k n (pc + 1) lv st) : G E ws z k n pc lv (v :: st) := by
  obtain ⟨p, l, e, R, s, m, args, below, meth, c, A, Q, D, cl, tys⟩ := E
  obtain ⟨hx, hb, hml, hown, hts, hr, hlk, hK, hA⟩ := hE
  intro H locs ls hz hP hD hS hl
  show W p l e R s m args below meth c H locs k n Q (F0 m pc ls (toV v :: st.map toV))
  exact lv_pop hx hb d (toV_cat1 hv) (h H locs ls hz hP hD hS hl)
theorem g_dup_x1 {E : GE} {own : String} {cc : ByteArray} {nL : Nat} {ret : Option FieldType} (hE : OkE E own cc nL ret) {ws : va_W} {z : Option Nat} {k n pc : Nat} {st : List AV} {lv : List LV} {v w : AV} (d : decode cc pc = .ok (.dup_x1, 1)) (hv : isL (some v) = false) (hw : isL (some w) = false) (h : G E ws z k n (pc + 1) lv (v :: w :: v :: st)) : G E ws z k n pc lv (v :: w :: st) := by
  obtain ⟨p, l, e, R, s, m, args, below, meth, c, A, Q, D, cl, tys⟩ := E
  obtain ⟨hx, hb, hml, hown, hts, hr, hlk, hK, hA⟩ := hE
  intro H locs ls hz hP hD hS hl
  show W p l e R s m args below meth c H locs k n Q (F0 m pc ls (toV v :: toV w :: st.map toV))
  exact lv_dup_x1 hx hb d (toV_cat1 hv) (toV_cat1 hw) (h H locs ls hz hP hD hS hl)
theorem g_dup2 {E : GE} {own : String} {cc : ByteArray} {nL : Nat} {ret : Option FieldType} (hE : OkE E own cc nL ret) {ws : va_W} {z : Option Nat} {k n pc : Nat} {st : List AV} {lv : List LV} {v w : AV} (d : decode cc pc = .ok (.dup2, 1)) (hv : isL (some v) = false) (hw : isL (some w) = false) (h : G E ws z k n (pc + 1) lv (v :: w :: v :: w :: st)) : G E ws z k n pc lv (v :: w :: st) := by
  obtain ⟨p, l, e, R, s, m, args, below, meth, c, A, Q, D, cl, tys⟩ := E
  obtain ⟨hx, hb, hml, hown, hts, hr, hlk, hK, hA⟩ := hE
  intro H locs ls hz hP hD hS hl
  show W p l e R s m args below meth c H locs k n Q (F0 m pc ls (toV v :: toV w :: st.map toV))
  exact lv_dup2_11 hx hb d (toV_cat1 hv) (toV_cat1 hw) (h H locs ls hz hP hD hS hl)
theorem g_icmp_eq {E : GE} {own : String} {cc : ByteArray} {nL : Nat} {ret : Option FieldType} (hE : OkE E own cc nL ret) {ws : va_W} {z : Option Nat} {k n pc : Nat} {st : List AV} {lv : List LV} {x y : Int} {off : Int} {tgt : Nat} (d : decode cc pc = .ok (.if_icmp .eq off, 3)) (ht : (pc : Int) + off = (tgt : Int)) (hxr : inR x) (hyr : inR y) (kt : x = y → G E ws z k n tgt lv st) (kf : ¬ x = y → G E ws z k n (pc + 3) lv st) : G E ws z k n pc lv (aI y :: aI x :: st) := by
  obtain ⟨p, l, e, R, s, m, args, below, meth, c, A, Q, D, cl, tys⟩ := E
  obtain ⟨hx, hb, hml, hown, hts, hr, hlk, hK, hA⟩ := hE
  intro H locs ls hz hP hD hS hl
  show W p l e R s m args below meth c H locs k n Q (F0 m pc ls (.int (iI y) :: .int (iI x) :: st.map toV))
  have hc := iI_eq hxr hyr
  refine lv_icmp_eq hx hb d ht (fun q => ?_) (fun q => ?_)
  · refine kt ?_ H locs ls hz hP hD hS hl
    first | exact hc.mp q | exact fun w => q (hc.mpr w) | (intro w; have w2 := hc.mpr w; rw [Int32.lt_iff_toInt_lt] at w2; rw [ge_iff_le, Int32.le_iff_toInt_le] at q; omega) | (intro w; have w2 := hc.mpr w; rw [Int32.lt_iff_toInt_lt] at w2; rw [Int32.le_iff_toInt_le] at q; omega)
  · refine kf ?_ H locs ls hz hP hD hS hl
    first | exact hc.mp q | exact fun w => q (hc.mpr w) | (apply hc.mp; rw [Int32.lt_iff_toInt_lt]; rw [ge_iff_le, Int32.le_iff_toInt_le] at q; omega) | (apply hc.mp; rw [Int32.lt_iff_toInt_lt]; rw [Int32.le_iff_toInt_le] at q; omega) | exact hc.mp (Classical.not_not.mp q)
theorem g_if_eq {E : GE} {own : String} {cc : ByteArray} {nL : Nat} {ret : Option FieldType} (hE : OkE E own cc nL ret) {ws : va_W} {z : Option Nat} {k n pc : Nat} {st : List AV} {lv : List LV} {x : Int} {off : Int} {tgt : Nat} (d : decode cc pc = .ok (.ifCond .eq off, 3)) (ht : (pc : Int) + off = (tgt : Int)) (hxr : inR x) (kt : x = 0 → G E ws z k n tgt lv st) (kf : ¬ x = 0 → G E ws z k n (pc + 3) lv st) : G E ws z k n pc lv (aI x :: st) := by
  obtain ⟨p, l, e, R, s, m, args, below, meth, c, A, Q, D, cl, tys⟩ := E
  obtain ⟨hx, hb, hml, hown, hts, hr, hlk, hK, hA⟩ := hE
  intro H locs ls hz hP hD hS hl
  show W p l e R s m args below meth c H locs k n Q (F0 m pc ls (.int (iI x) :: st.map toV))
  have hc := iI_eq hxr inR_0
  rw [iI_0] at hc
  refine lv_if_eq hx hb d ht (fun q => ?_) (fun q => ?_)
  · refine kt ?_ H locs ls hz hP hD hS hl
    first | exact hc.mp q | exact fun w => q (hc.mpr w) | (intro w; have w2 := hc.mpr w; rw [Int32.lt_iff_toInt_lt] at w2; rw [ge_iff_le, Int32.le_iff_toInt_le] at q; omega) | (intro w; have w2 := hc.mpr w; rw [Int32.lt_iff_toInt_lt] at w2; rw [Int32.le_iff_toInt_le] at q; omega)
  · refine kf ?_ H locs ls hz hP hD hS hl
    first | exact hc.mp q | exact fun w => q (hc.mpr w) | (apply hc.mp; rw [Int32.lt_iff_toInt_lt]; rw [ge_iff_le, Int32.le_iff_toInt_le] at q; omega) | (apply hc.mp; rw [Int32.lt_iff_toInt_lt]; rw [Int32.le_iff_toInt_le] at q; omega) | exact hc.mp (Classical.not_not.mp q)
theorem g_icmp_ne {E : GE} {own : String} {cc : ByteArray} {nL : Nat} {ret : Option FieldType} (hE : OkE E own cc nL ret) {ws : va_W} {z : Option Nat} {k n pc : Nat} {st : List AV} {lv : List LV} {x y : Int} {off : Int} {tgt : Nat} (d : decode cc pc = .ok (.if_icmp .ne off, 3)) (ht : (pc : Int) + off = (tgt : Int)) (hxr : inR x) (hyr : inR y) (kt : x = y → G E ws z k n (pc + 3) lv st) (kf : ¬ x = y → G E ws z k n tgt lv st) : G E ws z k n pc lv (aI y :: aI x :: st) := by
  obtain ⟨p, l, e, R, s, m, args, below, meth, c, A, Q, D, cl, tys⟩ := E
  obtain ⟨hx, hb, hml, hown, hts, hr, hlk, hK, hA⟩ := hE
  intro H locs ls hz hP hD hS hl
  show W p l e R s m args below meth c H locs k n Q (F0 m pc ls (.int (iI y) :: .int (iI x) :: st.map toV))
  have hc := iI_eq hxr hyr
  refine lv_icmp_ne hx hb d ht (fun q => ?_) (fun q => ?_)
  · refine kf ?_ H locs ls hz hP hD hS hl
    first | exact hc.mp q | exact fun w => q (hc.mpr w) | (intro w; have w2 := hc.mpr w; rw [Int32.lt_iff_toInt_lt] at w2; rw [ge_iff_le, Int32.le_iff_toInt_le] at q; omega) | (intro w; have w2 := hc.mpr w; rw [Int32.lt_iff_toInt_lt] at w2; rw [Int32.le_iff_toInt_le] at q; omega)
  · refine kt ?_ H locs ls hz hP hD hS hl
    first | exact hc.mp q | exact fun w => q (hc.mpr w) | (apply hc.mp; rw [Int32.lt_iff_toInt_lt]; rw [ge_iff_le, Int32.le_iff_toInt_le] at q; omega) | (apply hc.mp; rw [Int32.lt_iff_toInt_lt]; rw [Int32.le_iff_toInt_le] at q; omega) | exact hc.mp (Classical.not_not.mp q)
theorem g_if_ne {E : GE} {own : String} {cc : ByteArray} {nL : Nat} {ret : Option FieldType} (hE : OkE E own cc nL ret) {ws : va_W} {z : Option Nat} {k n pc : Nat} {st : List AV} {lv : List LV} {x : Int} {off : Int} {tgt : Nat} (d : decode cc pc = .ok (.ifCond .ne off, 3)) (ht : (pc : Int) + off = (tgt : Int)) (hxr : inR x) (kt : x = 0 → G E ws z k n (pc + 3) lv st) (kf : ¬ x = 0 → G E ws z k n tgt lv st) : G E ws z k n pc lv (aI x :: st) := by
  obtain ⟨p, l, e, R, s, m, args, below, meth, c, A, Q, D, cl, tys⟩ := E
  obtain ⟨hx, hb, hml, hown, hts, hr, hlk, hK, hA⟩ := hE
  intro H locs ls hz hP hD hS hl
  show W p l e R s m args below meth c H locs k n Q (F0 m pc ls (.int (iI x) :: st.map toV))
  have hc := iI_eq hxr inR_0
  rw [iI_0] at hc
  refine lv_if_ne hx hb d ht (fun q => ?_) (fun q => ?_)
  · refine kf ?_ H locs ls hz hP hD hS hl
    first | exact hc.mp q | exact fun w => q (hc.mpr w) | (intro w; have w2 := hc.mpr w; rw [Int32.lt_iff_toInt_lt] at w2; rw [ge_iff_le, Int32.le_iff_toInt_le] at q; omega) | (intro w; have w2 := hc.mpr w; rw [Int32.lt_iff_toInt_lt] at w2; rw [Int32.le_iff_toInt_le] at q; omega)
  · refine kt ?_ H locs ls hz hP hD hS hl
    first | exact hc.mp q | exact fun w => q (hc.mpr w) | (apply hc.mp; rw [Int32.lt_iff_toInt_lt]; rw [ge_iff_le, Int32.le_iff_toInt_le] at q; omega) | (apply hc.mp; rw [Int32.lt_iff_toInt_lt]; rw [Int32.le_iff_toInt_le] at q; omega) | exact hc.mp (Classical.not_not.mp q)
theorem g_icmp_lt {E : GE} {own : String} {cc : ByteArray} {nL : Nat} {ret : Option FieldType} (hE : OkE E own cc nL ret) {ws : va_W} {z : Option Nat} {k n pc : Nat} {st : List AV} {lv : List LV} {x y : Int} {off : Int} {tgt : Nat} (d : decode cc pc = .ok (.if_icmp .lt off, 3)) (ht : (pc : Int) + off = (tgt : Int)) (hxr : inR x) (hyr : inR y) (kt : x < y → G E ws z k n tgt lv st) (kf : ¬ x < y → G E ws z k n (pc + 3) lv st) : G E ws z k n pc lv (aI y :: aI x :: st) := by
  obtain ⟨p, l, e, R, s, m, args, below, meth, c, A, Q, D, cl, tys⟩ := E
  obtain ⟨hx, hb, hml, hown, hts, hr, hlk, hK, hA⟩ := hE
  intro H locs ls hz hP hD hS hl
  show W p l e R s m args below meth c H locs k n Q (F0 m pc ls (.int (iI y) :: .int (iI x) :: st.map toV))
  have hc := iI_lt hxr hyr
  refine lv_icmp_lt hx hb d ht (fun q => ?_) (fun q => ?_)
  · refine kt ?_ H locs ls hz hP hD hS hl
    first | exact hc.mp q | exact fun w => q (hc.mpr w) | (intro w; have w2 := hc.mpr w; rw [Int32.lt_iff_toInt_lt] at w2; rw [ge_iff_le, Int32.le_iff_toInt_le] at q; omega) | (intro w; have w2 := hc.mpr w; rw [Int32.lt_iff_toInt_lt] at w2; rw [Int32.le_iff_toInt_le] at q; omega)
  · refine kf ?_ H locs ls hz hP hD hS hl
    first | exact hc.mp q | exact fun w => q (hc.mpr w) | (apply hc.mp; rw [Int32.lt_iff_toInt_lt]; rw [ge_iff_le, Int32.le_iff_toInt_le] at q; omega) | (apply hc.mp; rw [Int32.lt_iff_toInt_lt]; rw [Int32.le_iff_toInt_le] at q; omega) | exact hc.mp (Classical.not_not.mp q)
theorem g_if_lt {E : GE} {own : String} {cc : ByteArray} {nL : Nat} {ret : Option FieldType} (hE : OkE E own cc nL ret) {ws : va_W} {z : Option Nat} {k n pc : Nat} {st : List AV} {lv : List LV} {x : Int} {off : Int} {tgt : Nat} (d : decode cc pc = .ok (.ifCond .lt off, 3)) (ht : (pc : Int) + off = (tgt : Int)) (hxr : inR x) (kt : x < 0 → G E ws z k n tgt lv st) (kf : ¬ x < 0 → G E ws z k n (pc + 3) lv st) : G E ws z k n pc lv (aI x :: st) := by
  obtain ⟨p, l, e, R, s, m, args, below, meth, c, A, Q, D, cl, tys⟩ := E
  obtain ⟨hx, hb, hml, hown, hts, hr, hlk, hK, hA⟩ := hE
  intro H locs ls hz hP hD hS hl
  show W p l e R s m args below meth c H locs k n Q (F0 m pc ls (.int (iI x) :: st.map toV))
  have hc := iI_lt hxr inR_0
  rw [iI_0] at hc
  refine lv_if_lt hx hb d ht (fun q => ?_) (fun q => ?_)
  · refine kt ?_ H locs ls hz hP hD hS hl
    first | exact hc.mp q | exact fun w => q (hc.mpr w) | (intro w; have w2 := hc.mpr w; rw [Int32.lt_iff_toInt_lt] at w2; rw [ge_iff_le, Int32.le_iff_toInt_le] at q; omega) | (intro w; have w2 := hc.mpr w; rw [Int32.lt_iff_toInt_lt] at w2; rw [Int32.le_iff_toInt_le] at q; omega)
  · refine kf ?_ H locs ls hz hP hD hS hl
    first | exact hc.mp q | exact fun w => q (hc.mpr w) | (apply hc.mp; rw [Int32.lt_iff_toInt_lt]; rw [ge_iff_le, Int32.le_iff_toInt_le] at q; omega) | (apply hc.mp; rw [Int32.lt_iff_toInt_lt]; rw [Int32.le_iff_toInt_le] at q; omega) | exact hc.mp (Classical.not_not.mp q)
theorem g_icmp_ge {E : GE} {own : String} {cc : ByteArray} {nL : Nat} {ret : Option FieldType} (hE : OkE E own cc nL ret) {ws : va_W} {z : Option Nat} {k n pc : Nat} {st : List AV} {lv : List LV} {x y : Int} {off : Int} {tgt : Nat} (d : decode cc pc = .ok (.if_icmp .ge off, 3)) (ht : (pc : Int) + off = (tgt : Int)) (hxr : inR x) (hyr : inR y) (kt : x < y → G E ws z k n (pc + 3) lv st) (kf : ¬ x < y → G E ws z k n tgt lv st) : G E ws z k n pc lv (aI y :: aI x :: st) := by
  obtain ⟨p, l, e, R, s, m, args, below, meth, c, A, Q, D, cl, tys⟩ := E
  obtain ⟨hx, hb, hml, hown, hts, hr, hlk, hK, hA⟩ := hE
  intro H locs ls hz hP hD hS hl
  show W p l e R s m args below meth c H locs k n Q (F0 m pc ls (.int (iI y) :: .int (iI x) :: st.map toV))
  have hc := iI_lt hxr hyr
  refine lv_icmp_ge hx hb d ht (fun q => ?_) (fun q => ?_)
  · refine kf ?_ H locs ls hz hP hD hS hl
    first | exact hc.mp q | exact fun w => q (hc.mpr w) | (intro w; have w2 := hc.mpr w; rw [Int32.lt_iff_toInt_lt] at w2; rw [ge_iff_le, Int32.le_iff_toInt_le] at q; omega) | (intro w; have w2 := hc.mpr w; rw [Int32.lt_iff_toInt_lt] at w2; rw [Int32.le_iff_toInt_le] at q; omega)
  · refine kt ?_ H locs ls hz hP hD hS hl
    first | exact hc.mp q | exact fun w => q (hc.mpr w) | (apply hc.mp; rw [Int32.lt_iff_toInt_lt]; rw [ge_iff_le, Int32.le_iff_toInt_le] at q; omega) | (apply hc.mp; rw [Int32.lt_iff_toInt_lt]; rw [Int32.le_iff_toInt_le] at q; omega) | exact hc.mp (Classical.not_not.mp q)
theorem g_if_ge {E : GE} {own : String} {cc : ByteArray} {nL : Nat} {ret : Option FieldType} (hE : OkE E own cc nL ret) {ws : va_W} {z : Option Nat} {k n pc : Nat} {st : List AV} {lv : List LV} {x : Int} {off : Int} {tgt : Nat} (d : decode cc pc = .ok (.ifCond .ge off, 3)) (ht : (pc : Int) + off = (tgt : Int)) (hxr : inR x) (kt : x < 0 → G E ws z k n (pc + 3) lv st) (kf : ¬ x < 0 → G E ws z k n tgt lv st) : G E ws z k n pc lv (aI x :: st) := by
  obtain ⟨p, l, e, R, s, m, args, below, meth, c, A, Q, D, cl, tys⟩ := E
  obtain ⟨hx, hb, hml, hown, hts, hr, hlk, hK, hA⟩ := hE
  intro H locs ls hz hP hD hS hl
  show W p l e R s m args below meth c H locs k n Q (F0 m pc ls (.int (iI x) :: st.map toV))
  have hc := iI_lt hxr inR_0
  rw [iI_0] at hc
  refine lv_if_ge hx hb d ht (fun q => ?_) (fun q => ?_)
  · refine kf ?_ H locs ls hz hP hD hS hl
    first | exact hc.mp q | exact fun w => q (hc.mpr w) | (intro w; have w2 := hc.mpr w; rw [Int32.lt_iff_toInt_lt] at w2; rw [ge_iff_le, Int32.le_iff_toInt_le] at q; omega) | (intro w; have w2 := hc.mpr w; rw [Int32.lt_iff_toInt_lt] at w2; rw [Int32.le_iff_toInt_le] at q; omega)
  · refine kt ?_ H locs ls hz hP hD hS hl
    first | exact hc.mp q | exact fun w => q (hc.mpr w) | (apply hc.mp; rw [Int32.lt_iff_toInt_lt]; rw [ge_iff_le, Int32.le_iff_toInt_le] at q; omega) | (apply hc.mp; rw [Int32.lt_iff_toInt_lt]; rw [Int32.le_iff_toInt_le] at q; omega) | exact hc.mp (Classical.not_not.mp q)
theorem g_icmp_gt {E : GE} {own : String} {cc : ByteArray} {nL : Nat} {ret : Option FieldType} (hE : OkE E own cc nL ret) {ws : va_W} {z : Option Nat} {k n pc : Nat} {st : List AV} {lv : List LV} {x y : Int} {off : Int} {tgt : Nat} (d : decode cc pc = .ok (.if_icmp .gt off, 3)) (ht : (pc : Int) + off = (tgt : Int)) (hxr : inR x) (hyr : inR y) (kt : y < x → G E ws z k n tgt lv st) (kf : ¬ y < x → G E ws z k n (pc + 3) lv st) : G E ws z k n pc lv (aI y :: aI x :: st) := by
  obtain ⟨p, l, e, R, s, m, args, below, meth, c, A, Q, D, cl, tys⟩ := E
  obtain ⟨hx, hb, hml, hown, hts, hr, hlk, hK, hA⟩ := hE
  intro H locs ls hz hP hD hS hl
  show W p l e R s m args below meth c H locs k n Q (F0 m pc ls (.int (iI y) :: .int (iI x) :: st.map toV))
  have hc := iI_lt hyr hxr
  refine lv_icmp_gt hx hb d ht (fun q => ?_) (fun q => ?_)
  · refine kt ?_ H locs ls hz hP hD hS hl
    first | exact hc.mp q | exact fun w => q (hc.mpr w) | (intro w; have w2 := hc.mpr w; rw [Int32.lt_iff_toInt_lt] at w2; rw [ge_iff_le, Int32.le_iff_toInt_le] at q; omega) | (intro w; have w2 := hc.mpr w; rw [Int32.lt_iff_toInt_lt] at w2; rw [Int32.le_iff_toInt_le] at q; omega)
  · refine kf ?_ H locs ls hz hP hD hS hl
    first | exact hc.mp q | exact fun w => q (hc.mpr w) | (apply hc.mp; rw [Int32.lt_iff_toInt_lt]; rw [ge_iff_le, Int32.le_iff_toInt_le] at q; omega) | (apply hc.mp; rw [Int32.lt_iff_toInt_lt]; rw [Int32.le_iff_toInt_le] at q; omega) | exact hc.mp (Classical.not_not.mp q)
theorem g_if_gt {E : GE} {own : String} {cc : ByteArray} {nL : Nat} {ret : Option FieldType} (hE : OkE E own cc nL ret) {ws : va_W} {z : Option Nat} {k n pc : Nat} {st : List AV} {lv : List LV} {x : Int} {off : Int} {tgt : Nat} (d : decode cc pc = .ok (.ifCond .gt off, 3)) (ht : (pc : Int) + off = (tgt : Int)) (hxr : inR x) (kt : 0 < x → G E ws z k n tgt lv st) (kf : ¬ 0 < x → G E ws z k n (pc + 3) lv st) : G E ws z k n pc lv (aI x :: st) := by
  obtain ⟨p, l, e, R, s, m, args, below, meth, c, A, Q, D, cl, tys⟩ := E
  obtain ⟨hx, hb, hml, hown, hts, hr, hlk, hK, hA⟩ := hE
  intro H locs ls hz hP hD hS hl
  show W p l e R s m args below meth c H locs k n Q (F0 m pc ls (.int (iI x) :: st.map toV))
  have hc := iI_lt inR_0 hxr
  rw [iI_0] at hc
  refine lv_if_gt hx hb d ht (fun q => ?_) (fun q => ?_)
  · refine kt ?_ H locs ls hz hP hD hS hl
    first | exact hc.mp q | exact fun w => q (hc.mpr w) | (intro w; have w2 := hc.mpr w; rw [Int32.lt_iff_toInt_lt] at w2; rw [ge_iff_le, Int32.le_iff_toInt_le] at q; omega) | (intro w; have w2 := hc.mpr w; rw [Int32.lt_iff_toInt_lt] at w2; rw [Int32.le_iff_toInt_le] at q; omega)
  · refine kf ?_ H locs ls hz hP hD hS hl
    first | exact hc.mp q | exact fun w => q (hc.mpr w) | (apply hc.mp; rw [Int32.lt_iff_toInt_lt]; rw [ge_iff_le, Int32.le_iff_toInt_le] at q; omega) | (apply hc.mp; rw [Int32.lt_iff_toInt_lt]; rw [Int32.le_iff_toInt_le] at q; omega) | exact hc.mp (Classical.not_not.mp q)
theorem g_icmp_le {E : GE} {own : String} {cc : ByteArray} {nL : Nat} {ret : Option FieldType} (hE : OkE E own cc nL ret) {ws : va_W} {z : Option Nat} {k n pc : Nat} {st : List AV} {lv : List LV} {x y : Int} {off : Int} {tgt : Nat} (d : decode cc pc = .ok (.if_icmp .le off, 3)) (ht : (pc : Int) + off = (tgt : Int)) (hxr : inR x) (hyr : inR y) (kt : y < x → G E ws z k n (pc + 3) lv st) (kf : ¬ y < x → G E ws z k n tgt lv st) : G E ws z k n pc lv (aI y :: aI x :: st) := by
  obtain ⟨p, l, e, R, s, m, args, below, meth, c, A, Q, D, cl, tys⟩ := E
  obtain ⟨hx, hb, hml, hown, hts, hr, hlk, hK, hA⟩ := hE
  intro H locs ls hz hP hD hS hl
  show W p l e R s m args below meth c H locs k n Q (F0 m pc ls (.int (iI y) :: .int (iI x) :: st.map toV))
  have hc := iI_lt hyr hxr
  refine lv_icmp_le hx hb d ht (fun q => ?_) (fun q => ?_)
  · refine kf ?_ H locs ls hz hP hD hS hl
    first | exact hc.mp q | exact fun w => q (hc.mpr w) | (intro w; have w2 := hc.mpr w; rw [Int32.lt_iff_toInt_lt] at w2; rw [ge_iff_le, Int32.le_iff_toInt_le] at q; omega) | (intro w; have w2 := hc.mpr w; rw [Int32.lt_iff_toInt_lt] at w2; rw [Int32.le_iff_toInt_le] at q; omega)
  · refine kt ?_ H locs ls hz hP hD hS hl
    first | exact hc.mp q | exact fun w => q (hc.mpr w) | (apply hc.mp; rw [Int32.lt_iff_toInt_lt]; rw [ge_iff_le, Int32.le_iff_toInt_le] at q; omega) | (apply hc.mp; rw [Int32.lt_iff_toInt_lt]; rw [Int32.le_iff_toInt_le] at q; omega) | exact hc.mp (Classical.not_not.mp q)
theorem g_if_le {E : GE} {own : String} {cc : ByteArray} {nL : Nat} {ret : Option FieldType} (hE : OkE E own cc nL ret) {ws : va_W} {z : Option Nat} {k n pc : Nat} {st : List AV} {lv : List LV} {x : Int} {off : Int} {tgt : Nat} (d : decode cc pc = .ok (.ifCond .le off, 3)) (ht : (pc : Int) + off = (tgt : Int)) (hxr : inR x) (kt : 0 < x → G E ws z k n (pc + 3) lv st) (kf : ¬ 0 < x → G E ws z k n tgt lv st) : G E ws z k n pc lv (aI x :: st) := by
  obtain ⟨p, l, e, R, s, m, args, below, meth, c, A, Q, D, cl, tys⟩ := E
  obtain ⟨hx, hb, hml, hown, hts, hr, hlk, hK, hA⟩ := hE
  intro H locs ls hz hP hD hS hl
  show W p l e R s m args below meth c H locs k n Q (F0 m pc ls (.int (iI x) :: st.map toV))
  have hc := iI_lt inR_0 hxr
  rw [iI_0] at hc
  refine lv_if_le hx hb d ht (fun q => ?_) (fun q => ?_)
  · refine kf ?_ H locs ls hz hP hD hS hl
    first | exact hc.mp q | exact fun w => q (hc.mpr w) | (intro w; have w2 := hc.mpr w; rw [Int32.lt_iff_toInt_lt] at w2; rw [ge_iff_le, Int32.le_iff_toInt_le] at q; omega) | (intro w; have w2 := hc.mpr w; rw [Int32.lt_iff_toInt_lt] at w2; rw [Int32.le_iff_toInt_le] at q; omega)
  · refine kt ?_ H locs ls hz hP hD hS hl
    first | exact hc.mp q | exact fun w => q (hc.mpr w) | (apply hc.mp; rw [Int32.lt_iff_toInt_lt]; rw [ge_iff_le, Int32.le_iff_toInt_le] at q; omega) | (apply hc.mp; rw [Int32.lt_iff_toInt_lt]; rw [Int32.le_iff_toInt_le] at q; omega) | exact hc.mp (Classical.not_not.mp q)
theorem g_goto {E : GE} {own : String} {cc : ByteArray} {nL : Nat} {ret : Option FieldType} (hE : OkE E own cc nL ret) {ws : va_W} {z : Option Nat} {k n pc : Nat} {st : List AV} {lv : List LV} {off : Int} {tgt : Nat} (d : decode cc pc = .ok (.goto off, 3)) (ht : (pc : Int) + off = (tgt : Int)) (h : G E ws z k n tgt lv st) : G E ws z k n pc lv st := by
  obtain ⟨p, l, e, R, s, m, args, below, meth, c, A, Q, D, cl, tys⟩ := E
  obtain ⟨hx, hb, hml, hown, hts, hr, hlk, hK, hA⟩ := hE
  intro H locs ls hz hP hD hS hl
  show W p l e R s m args below meth c H locs k n Q (F0 m pc ls (st.map toV))
  exact lv_goto hx hb d ht (h H locs ls hz hP hD hS hl)
theorem g_ifnull {E : GE} {own : String} {cc : ByteArray} {nL : Nat} {ret : Option FieldType} (hE : OkE E own cc nL ret) {ws : va_W} {z : Option Nat} {k n pc : Nat} {st : List AV} {lv : List LV} {x : Option Nat} {off : Int} {tgt : Nat} (d : decode cc pc = .ok (.ifnull off, 3)) (ht : (pc : Int) + off = (tgt : Int)) (kt : x = none → G E ws z k n tgt lv st) (kf : ∀ a, x = some a → G E ws z k n (pc + 3) lv st) : G E ws z k n pc lv (aR x :: st) := by
  obtain ⟨p, l, e, R, s, m, args, below, meth, c, A, Q, D, cl, tys⟩ := E
  obtain ⟨hx, hb, hml, hown, hts, hr, hlk, hK, hA⟩ := hE
  intro H locs ls hz hP hD hS hl
  show W p l e R s m args below meth c H locs k n Q (F0 m pc ls (toV (aR x) :: st.map toV))
  cases x with
  | none => exact lv_ifnullN hx hb d ht (kt rfl H locs ls hz hP hD hS hl)
  | some a => exact lv_ifnull hx hb d (kf a rfl H locs ls hz hP hD hS hl)
theorem g_ifnonnull {E : GE} {own : String} {cc : ByteArray} {nL : Nat} {ret : Option FieldType} (hE : OkE E own cc nL ret) {ws : va_W} {z : Option Nat} {k n pc : Nat} {st : List AV} {lv : List LV} {x : Option Nat} {off : Int} {tgt : Nat} (d : decode cc pc = .ok (.ifnonnull off, 3)) (ht : (pc : Int) + off = (tgt : Int)) (kt : x = none → G E ws z k n (pc + 3) lv st) (kf : ∀ a, x = some a → G E ws z k n tgt lv st) : G E ws z k n pc lv (aR x :: st) := by
  obtain ⟨p, l, e, R, s, m, args, below, meth, c, A, Q, D, cl, tys⟩ := E
  obtain ⟨hx, hb, hml, hown, hts, hr, hlk, hK, hA⟩ := hE
  intro H locs ls hz hP hD hS hl
  show W p l e R s m args below meth c H locs k n Q (F0 m pc ls (toV (aR x) :: st.map toV))
  cases x with
  | none => exact lv_ifnonnullN hx hb d (kt rfl H locs ls hz hP hD hS hl)
  | some a => exact lv_ifnonnull hx hb d ht (kf a rfl H locs ls hz hP hD hS hl)
theorem g_acmp_eq {E : GE} {own : String} {cc : ByteArray} {nL : Nat} {ret : Option FieldType} (hE : OkE E own cc nL ret) {ws : va_W} {z : Option Nat} {k n pc : Nat} {st : List AV} {lv : List LV} {x y : Option Nat} {off : Int} {tgt : Nat} (d : decode cc pc = .ok (.if_acmp .eq off, 3)) (ht : (pc : Int) + off = (tgt : Int)) (kt : x = y → G E ws z k n tgt lv st) (kf : ¬ x = y → G E ws z k n (pc + 3) lv st) : G E ws z k n pc lv (aR y :: aR x :: st) := by
  obtain ⟨p, l, e, R, s, m, args, below, meth, c, A, Q, D, cl, tys⟩ := E
  obtain ⟨hx, hb, hml, hown, hts, hr, hlk, hK, hA⟩ := hE
  intro H locs ls hz hP hD hS hl
  show W p l e R s m args below meth c H locs k n Q (F0 m pc ls (va_rf y :: va_rf x :: st.map toV))
  exact lv_acmp_eq hx hb d ht (fun q => kt q H locs ls hz hP hD hS hl) (fun q => kf q H locs ls hz hP hD hS hl)
theorem g_acmp_ne {E : GE} {own : String} {cc : ByteArray} {nL : Nat} {ret : Option FieldType} (hE : OkE E own cc nL ret) {ws : va_W} {z : Option Nat} {k n pc : Nat} {st : List AV} {lv : List LV} {x y : Option Nat} {off : Int} {tgt : Nat} (d : decode cc pc = .ok (.if_acmp .ne off, 3)) (ht : (pc : Int) + off = (tgt : Int)) (kt : x = y → G E ws z k n (pc + 3) lv st) (kf : ¬ x = y → G E ws z k n tgt lv st) : G E ws z k n pc lv (aR y :: aR x :: st) := by
  obtain ⟨p, l, e, R, s, m, args, below, meth, c, A, Q, D, cl, tys⟩ := E
  obtain ⟨hx, hb, hml, hown, hts, hr, hlk, hK, hA⟩ := hE
  intro H locs ls hz hP hD hS hl
  show W p l e R s m args below meth c H locs k n Q (F0 m pc ls (va_rf y :: va_rf x :: st.map toV))
  exact lv_acmp_ne hx hb d ht (fun q => kf q H locs ls hz hP hD hS hl) (fun q => kt q H locs ls hz hP hD hS hl)
theorem g_table {E : GE} {own : String} {cc : ByteArray} {nL : Nat} {ret : Option FieldType} (hE : OkE E own cc nL ret) {ws : va_W} {z : Option Nat} {k n pc : Nat} {st : List AV} {lv : List LV} {dflt lo hi : Int} {offs : Array Int} {len : Nat} {x : Int} (d : decode cc pc = .ok (.tableswitch dflt lo hi offs, len)) (hxr : inR x) (td : Nat) (htd : (pc : Int) + dflt = (td : Int)) (ts : List Nat) (hts2 : offs.toList.map (fun o => (pc : Int) + o) = ts.map (fun (t : Nat) => (t : Int))) (hh : hi = lo + ts.length - 1) (ko : (x < lo ∨ hi < x) → G E ws z k n td lv st) (ki : ∀ (i t : Nat), ts[i]? = some t → x = lo + i → G E ws z k n t lv st) : G E ws z k n pc lv (aI x :: st) := by
  obtain ⟨p, l, e, R, s, m, args, below, meth, c, A, Q, D, cl, tys⟩ := E
  obtain ⟨hx, hb, hml, hown, hts, hr, hlk, hK, hA⟩ := hE
  intro H locs ls hz hP hD hS hl
  show W p l e R s m args below meth c H locs k n Q (F0 m pc ls (.int (iI x) :: st.map toV))
  have ex : (iI x).toInt = x := iI_to hxr
  by_cases ho : x < lo ∨ hi < x
  · exact lv_tableOut hx hb d (by rw [ex]; exact ho) htd (ko ho H locs ls hz hP hD hS hl)
  · have h1 : ¬ x < lo := fun q => ho (Or.inl q)
    have h2 : ¬ hi < x := fun q => ho (Or.inr q)
    have hlt : (x - lo).toNat < ts.length := by omega
    have e2 := congrArg (fun (l : List Int) => l[(x - lo).toNat]?) hts2
    simp only [List.getElem?_map] at e2
    rw [List.getElem?_eq_getElem hlt] at e2
    simp only [Option.map_some] at e2
    cases hof : offs.toList[(x - lo).toNat]? with
    | none => rw [hof] at e2; cases e2
    | some o =>
      rw [hof] at e2
      have e3 : (pc : Int) + o = (ts[(x - lo).toNat] : Nat) := Option.some.inj e2
      refine lv_tableIn hx hb d (by rw [ex]; exact h1) (by rw [ex]; exact h2) (off := o) (by rw [ex]; rw [← Array.getElem?_toList]; exact hof) e3 (ki (x - lo).toNat _ (List.getElem?_eq_getElem hlt) (by omega) H locs ls hz hP hD hS hl)
/-- an answer's value -/
def RV (r : Option AV) : Option Value := r.map toV
/-- what a method leaves: answer, world, heap's size; the contract of a method that doesn't throw -/
def QcG (Φ : Option AV → va_W → Nat → Prop) (D : va_G) (cl : List vw_C) (tys : List (ClassId × FieldType)) (A : Nat → Prop) : Array Value → State → Outcome → State → Prop := fun _ st oc t =>
  (∃ (r : Option AV) (ws' : va_W) (z' : Nat), oc = .returned (RV r) ∧ Φ r ws' z' ∧ t.heap.size = z' ∧ va_P D cl ws' t.heap ∧ va_K D cl tys t ∧ va_D A ws') ∧ va_F A st t
def PcG (av : List AV) (ws : va_W) (z : Nat) (D : va_G) (cl : List vw_C) (tys : List (ClassId × FieldType)) : Array Value → State → Prop :=
  va_Pc (av.map toV) (fun U => U.heap.size = z ∧ va_P D cl ws U.heap ∧ va_K D cl tys U ∧ va_D (fun _ => True) ws)
def Ct (l : Launch) (D : va_G) (cl : List vw_C) (tys : List (ClassId × FieldType)) (y : MethodName) (cc : ByteArray) (nL : Nat) (ret : Option FieldType) (rm : Room) (av : List AV) (ws : va_W) (z : Nat) (Φ : Option AV → va_W → Nat → Prop) : Prop :=
  Met l y (ws_ y cc nL ret) rm (PcG av ws z D cl tys) (QcG Φ D cl tys (va_A ws z)) rm.cells rm.slots (va_A ws z)
theorem va_D.all {A : Nat → Prop} {ws : va_W} (h : va_D A ws) : va_D (fun _ => True) ws := h.weaken fun _ _ _ _ => trivial
/-- the locals at a method's entry -/
def ents : List AV → List LV
  | [] => []
  | (.inr (.inr x)) :: r => some (.inr (.inr x)) :: none :: ents r
  | v :: r => some v :: ents r

