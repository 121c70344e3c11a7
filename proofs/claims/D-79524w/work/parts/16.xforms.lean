/-! WHAT A METHOD LEAVES: its answer (i, q: a reference, v: none) and which of T I R L it changes -/
set_option maxRecDepth 100000
def PXi (T : xT) (I : xI) (R : xR) (L : xL) (Q : Int → Prop) : xPhi := fun r T' I' R' L' => ∃ (x : Int), r = some (aI x) ∧ T = T' ∧ I = I' ∧ R = R' ∧ L = L' ∧ Q x
def PXv (T : xT) (I : xI) (R : xR) (L : xL) (Q : Prop) : xPhi := fun r T' I' R' L' => r = none ∧ T = T' ∧ I = I' ∧ R = R' ∧ L = L' ∧ Q
def PXq (T : xT) (I : xI) (R : xR) (L : xL) (Q : Option Nat → Prop) : xPhi := fun r T' I' R' L' => ∃ (x : Option Nat), r = some (aR x) ∧ T = T' ∧ I = I' ∧ R = R' ∧ L = L' ∧ Q x
def PY (T : xT) (I : xI) (R : xR) (L : xL) (C : String) (t : Nat) (Y : Nat → Prop) : xPsi := fun Ec q T' I' R' L' => Ec = C ∧ T = T' ∧ I = I' ∧ R = R' ∧ L = L' ∧ xtag T' q = t ∧ Y q 
def PXiT (T : xT) (I : xI) (R : xR) (L : xL) (Q : Int → xT → Prop) : xPhi := fun r T' I' R' L' => ∃ (x : Int), r = some (aI x) ∧ I = I' ∧ R = R' ∧ L = L' ∧ tle T T' ∧ Q x T'
def PXvT (T : xT) (I : xI) (R : xR) (L : xL) (Q : xT → Prop) : xPhi := fun r T' I' R' L' => r = none ∧ I = I' ∧ R = R' ∧ L = L' ∧ tle T T' ∧ Q T'
def PXqT (T : xT) (I : xI) (R : xR) (L : xL) (Q : Option Nat → xT → Prop) : xPhi := fun r T' I' R' L' => ∃ (x : Option Nat), r = some (aR x) ∧ I = I' ∧ R = R' ∧ L = L' ∧ tle T T' ∧ Q x T'
def PYT (T : xT) (I : xI) (R : xR) (L : xL) (C : String) (t : Nat) (Y : Nat → xT → Prop) : xPsi := fun Ec q T' I' R' L' => Ec = C ∧ I = I' ∧ R = R' ∧ L = L' ∧ tle T T' ∧ xtag T' q = t ∧ Y q T'
def PXiI (T : xT) (I : xI) (R : xR) (L : xL) (Q : Int → xI → Prop) : xPhi := fun r T' I' R' L' => ∃ (x : Int), r = some (aI x) ∧ T = T' ∧ R = R' ∧ L = L' ∧ Q x I'
def PXvI (T : xT) (I : xI) (R : xR) (L : xL) (Q : xI → Prop) : xPhi := fun r T' I' R' L' => r = none ∧ T = T' ∧ R = R' ∧ L = L' ∧ Q I'
def PXqI (T : xT) (I : xI) (R : xR) (L : xL) (Q : Option Nat → xI → Prop) : xPhi := fun r T' I' R' L' => ∃ (x : Option Nat), r = some (aR x) ∧ T = T' ∧ R = R' ∧ L = L' ∧ Q x I'
def PYI (T : xT) (I : xI) (R : xR) (L : xL) (C : String) (t : Nat) (Y : Nat → xI → Prop) : xPsi := fun Ec q T' I' R' L' => Ec = C ∧ T = T' ∧ R = R' ∧ L = L' ∧ xtag T' q = t ∧ Y q I'
def PXiTI (T : xT) (I : xI) (R : xR) (L : xL) (Q : Int → xT → xI → Prop) : xPhi := fun r T' I' R' L' => ∃ (x : Int), r = some (aI x) ∧ R = R' ∧ L = L' ∧ tle T T' ∧ Q x T' I'
def PXvTI (T : xT) (I : xI) (R : xR) (L : xL) (Q : xT → xI → Prop) : xPhi := fun r T' I' R' L' => r = none ∧ R = R' ∧ L = L' ∧ tle T T' ∧ Q T' I'
def PXqTI (T : xT) (I : xI) (R : xR) (L : xL) (Q : Option Nat → xT → xI → Prop) : xPhi := fun r T' I' R' L' => ∃ (x : Option Nat), r = some (aR x) ∧ R = R' ∧ L = L' ∧ tle T T' ∧ Q x T' I'
def PYTI (T : xT) (I : xI) (R : xR) (L : xL) (C : String) (t : Nat) (Y : Nat → xT → xI → Prop) : xPsi := fun Ec q T' I' R' L' => Ec = C ∧ R = R' ∧ L = L' ∧ tle T T' ∧ xtag T' q = t ∧ Y q T' I'
def PXiR (T : xT) (I : xI) (R : xR) (L : xL) (Q : Int → xR → Prop) : xPhi := fun r T' I' R' L' => ∃ (x : Int), r = some (aI x) ∧ T = T' ∧ I = I' ∧ L = L' ∧ Q x R'
def PXvR (T : xT) (I : xI) (R : xR) (L : xL) (Q : xR → Prop) : xPhi := fun r T' I' R' L' => r = none ∧ T = T' ∧ I = I' ∧ L = L' ∧ Q R'
def PXqR (T : xT) (I : xI) (R : xR) (L : xL) (Q : Option Nat → xR → Prop) : xPhi := fun r T' I' R' L' => ∃ (x : Option Nat), r = some (aR x) ∧ T = T' ∧ I = I' ∧ L = L' ∧ Q x R'
def PYR (T : xT) (I : xI) (R : xR) (L : xL) (C : String) (t : Nat) (Y : Nat → xR → Prop) : xPsi := fun Ec q T' I' R' L' => Ec = C ∧ T = T' ∧ I = I' ∧ L = L' ∧ xtag T' q = t ∧ Y q R'
def PXiTR (T : xT) (I : xI) (R : xR) (L : xL) (Q : Int → xT → xR → Prop) : xPhi := fun r T' I' R' L' => ∃ (x : Int), r = some (aI x) ∧ I = I' ∧ L = L' ∧ tle T T' ∧ Q x T' R'
def PXvTR (T : xT) (I : xI) (R : xR) (L : xL) (Q : xT → xR → Prop) : xPhi := fun r T' I' R' L' => r = none ∧ I = I' ∧ L = L' ∧ tle T T' ∧ Q T' R'
def PXqTR (T : xT) (I : xI) (R : xR) (L : xL) (Q : Option Nat → xT → xR → Prop) : xPhi := fun r T' I' R' L' => ∃ (x : Option Nat), r = some (aR x) ∧ I = I' ∧ L = L' ∧ tle T T' ∧ Q x T' R'
def PYTR (T : xT) (I : xI) (R : xR) (L : xL) (C : String) (t : Nat) (Y : Nat → xT → xR → Prop) : xPsi := fun Ec q T' I' R' L' => Ec = C ∧ I = I' ∧ L = L' ∧ tle T T' ∧ xtag T' q = t ∧ Y q T' R'
def PXiIR (T : xT) (I : xI) (R : xR) (L : xL) (Q : Int → xI → xR → Prop) : xPhi := fun r T' I' R' L' => ∃ (x : Int), r = some (aI x) ∧ T = T' ∧ L = L' ∧ Q x I' R'
def PXvIR (T : xT) (I : xI) (R : xR) (L : xL) (Q : xI → xR → Prop) : xPhi := fun r T' I' R' L' => r = none ∧ T = T' ∧ L = L' ∧ Q I' R'
def PXqIR (T : xT) (I : xI) (R : xR) (L : xL) (Q : Option Nat → xI → xR → Prop) : xPhi := fun r T' I' R' L' => ∃ (x : Option Nat), r = some (aR x) ∧ T = T' ∧ L = L' ∧ Q x I' R'
def PYIR (T : xT) (I : xI) (R : xR) (L : xL) (C : String) (t : Nat) (Y : Nat → xI → xR → Prop) : xPsi := fun Ec q T' I' R' L' => Ec = C ∧ T = T' ∧ L = L' ∧ xtag T' q = t ∧ Y q I' R'
def PXiTIR (T : xT) (I : xI) (R : xR) (L : xL) (Q : Int → xT → xI → xR → Prop) : xPhi := fun r T' I' R' L' => ∃ (x : Int), r = some (aI x) ∧ L = L' ∧ tle T T' ∧ Q x T' I' R'
def PXvTIR (T : xT) (I : xI) (R : xR) (L : xL) (Q : xT → xI → xR → Prop) : xPhi := fun r T' I' R' L' => r = none ∧ L = L' ∧ tle T T' ∧ Q T' I' R'
def PXqTIR (T : xT) (I : xI) (R : xR) (L : xL) (Q : Option Nat → xT → xI → xR → Prop) : xPhi := fun r T' I' R' L' => ∃ (x : Option Nat), r = some (aR x) ∧ L = L' ∧ tle T T' ∧ Q x T' I' R'
def PYTIR (T : xT) (I : xI) (R : xR) (L : xL) (C : String) (t : Nat) (Y : Nat → xT → xI → xR → Prop) : xPsi := fun Ec q T' I' R' L' => Ec = C ∧ L = L' ∧ tle T T' ∧ xtag T' q = t ∧ Y q T' I' R'
def PXiL (T : xT) (I : xI) (R : xR) (L : xL) (Q : Int → xL → Prop) : xPhi := fun r T' I' R' L' => ∃ (x : Int), r = some (aI x) ∧ T = T' ∧ I = I' ∧ R = R' ∧ Q x L'
def PXvL (T : xT) (I : xI) (R : xR) (L : xL) (Q : xL → Prop) : xPhi := fun r T' I' R' L' => r = none ∧ T = T' ∧ I = I' ∧ R = R' ∧ Q L'
def PXqL (T : xT) (I : xI) (R : xR) (L : xL) (Q : Option Nat → xL → Prop) : xPhi := fun r T' I' R' L' => ∃ (x : Option Nat), r = some (aR x) ∧ T = T' ∧ I = I' ∧ R = R' ∧ Q x L'
def PYL (T : xT) (I : xI) (R : xR) (L : xL) (C : String) (t : Nat) (Y : Nat → xL → Prop) : xPsi := fun Ec q T' I' R' L' => Ec = C ∧ T = T' ∧ I = I' ∧ R = R' ∧ xtag T' q = t ∧ Y q L'
def PXiTL (T : xT) (I : xI) (R : xR) (L : xL) (Q : Int → xT → xL → Prop) : xPhi := fun r T' I' R' L' => ∃ (x : Int), r = some (aI x) ∧ I = I' ∧ R = R' ∧ tle T T' ∧ Q x T' L'
def PXvTL (T : xT) (I : xI) (R : xR) (L : xL) (Q : xT → xL → Prop) : xPhi := fun r T' I' R' L' => r = none ∧ I = I' ∧ R = R' ∧ tle T T' ∧ Q T' L'
def PXqTL (T : xT) (I : xI) (R : xR) (L : xL) (Q : Option Nat → xT → xL → Prop) : xPhi := fun r T' I' R' L' => ∃ (x : Option Nat), r = some (aR x) ∧ I = I' ∧ R = R' ∧ tle T T' ∧ Q x T' L'
def PYTL (T : xT) (I : xI) (R : xR) (L : xL) (C : String) (t : Nat) (Y : Nat → xT → xL → Prop) : xPsi := fun Ec q T' I' R' L' => Ec = C ∧ I = I' ∧ R = R' ∧ tle T T' ∧ xtag T' q = t ∧ Y q T' L'
def PXiIL (T : xT) (I : xI) (R : xR) (L : xL) (Q : Int → xI → xL → Prop) : xPhi := fun r T' I' R' L' => ∃ (x : Int), r = some (aI x) ∧ T = T' ∧ R = R' ∧ Q x I' L'
def PXvIL (T : xT) (I : xI) (R : xR) (L : xL) (Q : xI → xL → Prop) : xPhi := fun r T' I' R' L' => r = none ∧ T = T' ∧ R = R' ∧ Q I' L'
def PXqIL (T : xT) (I : xI) (R : xR) (L : xL) (Q : Option Nat → xI → xL → Prop) : xPhi := fun r T' I' R' L' => ∃ (x : Option Nat), r = some (aR x) ∧ T = T' ∧ R = R' ∧ Q x I' L'
def PYIL (T : xT) (I : xI) (R : xR) (L : xL) (C : String) (t : Nat) (Y : Nat → xI → xL → Prop) : xPsi := fun Ec q T' I' R' L' => Ec = C ∧ T = T' ∧ R = R' ∧ xtag T' q = t ∧ Y q I' L'
def PXiTIL (T : xT) (I : xI) (R : xR) (L : xL) (Q : Int → xT → xI → xL → Prop) : xPhi := fun r T' I' R' L' => ∃ (x : Int), r = some (aI x) ∧ R = R' ∧ tle T T' ∧ Q x T' I' L'
def PXvTIL (T : xT) (I : xI) (R : xR) (L : xL) (Q : xT → xI → xL → Prop) : xPhi := fun r T' I' R' L' => r = none ∧ R = R' ∧ tle T T' ∧ Q T' I' L'
def PXqTIL (T : xT) (I : xI) (R : xR) (L : xL) (Q : Option Nat → xT → xI → xL → Prop) : xPhi := fun r T' I' R' L' => ∃ (x : Option Nat), r = some (aR x) ∧ R = R' ∧ tle T T' ∧ Q x T' I' L'
def PYTIL (T : xT) (I : xI) (R : xR) (L : xL) (C : String) (t : Nat) (Y : Nat → xT → xI → xL → Prop) : xPsi := fun Ec q T' I' R' L' => Ec = C ∧ R = R' ∧ tle T T' ∧ xtag T' q = t ∧ Y q T' I' L'
def PXiRL (T : xT) (I : xI) (R : xR) (L : xL) (Q : Int → xR → xL → Prop) : xPhi := fun r T' I' R' L' => ∃ (x : Int), r = some (aI x) ∧ T = T' ∧ I = I' ∧ Q x R' L'
def PXvRL (T : xT) (I : xI) (R : xR) (L : xL) (Q : xR → xL → Prop) : xPhi := fun r T' I' R' L' => r = none ∧ T = T' ∧ I = I' ∧ Q R' L'
def PXqRL (T : xT) (I : xI) (R : xR) (L : xL) (Q : Option Nat → xR → xL → Prop) : xPhi := fun r T' I' R' L' => ∃ (x : Option Nat), r = some (aR x) ∧ T = T' ∧ I = I' ∧ Q x R' L'
def PYRL (T : xT) (I : xI) (R : xR) (L : xL) (C : String) (t : Nat) (Y : Nat → xR → xL → Prop) : xPsi := fun Ec q T' I' R' L' => Ec = C ∧ T = T' ∧ I = I' ∧ xtag T' q = t ∧ Y q R' L'
def PXiTRL (T : xT) (I : xI) (R : xR) (L : xL) (Q : Int → xT → xR → xL → Prop) : xPhi := fun r T' I' R' L' => ∃ (x : Int), r = some (aI x) ∧ I = I' ∧ tle T T' ∧ Q x T' R' L'
def PXvTRL (T : xT) (I : xI) (R : xR) (L : xL) (Q : xT → xR → xL → Prop) : xPhi := fun r T' I' R' L' => r = none ∧ I = I' ∧ tle T T' ∧ Q T' R' L'
def PXqTRL (T : xT) (I : xI) (R : xR) (L : xL) (Q : Option Nat → xT → xR → xL → Prop) : xPhi := fun r T' I' R' L' => ∃ (x : Option Nat), r = some (aR x) ∧ I = I' ∧ tle T T' ∧ Q x T' R' L'
def PYTRL (T : xT) (I : xI) (R : xR) (L : xL) (C : String) (t : Nat) (Y : Nat → xT → xR → xL → Prop) : xPsi := fun Ec q T' I' R' L' => Ec = C ∧ I = I' ∧ tle T T' ∧ xtag T' q = t ∧ Y q T' R' L'
def PXiIRL (T : xT) (I : xI) (R : xR) (L : xL) (Q : Int → xI → xR → xL → Prop) : xPhi := fun r T' I' R' L' => ∃ (x : Int), r = some (aI x) ∧ T = T' ∧ Q x I' R' L'
def PXvIRL (T : xT) (I : xI) (R : xR) (L : xL) (Q : xI → xR → xL → Prop) : xPhi := fun r T' I' R' L' => r = none ∧ T = T' ∧ Q I' R' L'
def PXqIRL (T : xT) (I : xI) (R : xR) (L : xL) (Q : Option Nat → xI → xR → xL → Prop) : xPhi := fun r T' I' R' L' => ∃ (x : Option Nat), r = some (aR x) ∧ T = T' ∧ Q x I' R' L'
def PYIRL (T : xT) (I : xI) (R : xR) (L : xL) (C : String) (t : Nat) (Y : Nat → xI → xR → xL → Prop) : xPsi := fun Ec q T' I' R' L' => Ec = C ∧ T = T' ∧ xtag T' q = t ∧ Y q I' R' L'
def PXiTIRL (T : xT) (I : xI) (R : xR) (L : xL) (Q : Int → xT → xI → xR → xL → Prop) : xPhi := fun r T' I' R' L' => ∃ (x : Int), r = some (aI x) ∧ tle T T' ∧ Q x T' I' R' L'
def PXvTIRL (T : xT) (I : xI) (R : xR) (L : xL) (Q : xT → xI → xR → xL → Prop) : xPhi := fun r T' I' R' L' => r = none ∧ tle T T' ∧ Q T' I' R' L'
def PXqTIRL (T : xT) (I : xI) (R : xR) (L : xL) (Q : Option Nat → xT → xI → xR → xL → Prop) : xPhi := fun r T' I' R' L' => ∃ (x : Option Nat), r = some (aR x) ∧ tle T T' ∧ Q x T' I' R' L'
def PYTIRL (T : xT) (I : xI) (R : xR) (L : xL) (C : String) (t : Nat) (Y : Nat → xT → xI → xR → xL → Prop) : xPsi := fun Ec q T' I' R' L' => Ec = C ∧ tle T T' ∧ xtag T' q = t ∧ Y q T' I' R' L'
abbrev rmX (f c s lo : Nat) : Room := { frames := f, cells := c, slots := s, locals := lo }
theorem lw_U {own : String} {idx : Nat} {C owner : String} {x y : MethodName} {b : ByteArray} {L : Nat} {r : Option FieldType} (h1 : Cond.methodLink own idx x ∈ lw_all) (h2 : Cond.sameMethod x.cls owner x.name x.desc ∈ lw_all) (h3 : Cond.selects C x y ∈ lw_all) (h4 : Cond.instanceMethod y ∈ lw_all) (h5 : Cond.initialized y.cls ∈ lw_all) (h6 : Cond.code y b L r ∈ lw_all) : GoodIn lw_all (va_wsU own idx C owner x y (ws_ y b L r)) := by
  refine lw_app ?_ (lw_meth h6)
  intro w hw
  simp only [List.mem_cons, List.not_mem_nil, or_false] at hw
  rcases hw with e | e | e | e | e
  · rw [e]; exact h1
  · rw [e]; exact h2
  · rw [e]; exact h3
  · rw [e]; exact h4
  · rw [e]; exact h5
theorem lw_O {own : String} {idx : Nat} {C owner : String} {x y : MethodName} {b : ByteArray} {L : Nat} {r : Option FieldType} (h1 : Cond.methodLink own idx x ∈ lw_all) (h2 : Cond.sameMethod x.cls owner x.name x.desc ∈ lw_all) (h2b : Cond.instanceMethod ⟨owner, x.name, x.desc⟩ ∈ lw_all) (h3 : Cond.selects C x y ∈ lw_all) (h4 : Cond.instanceMethod y ∈ lw_all) (h5 : Cond.initialized y.cls ∈ lw_all) (h6 : Cond.code y b L r ∈ lw_all) : GoodIn lw_all (va_wsO own idx C owner x y (ws_ y b L r)) := by
  refine lw_app ?_ (lw_meth h6)
  intro w hw
  simp only [List.mem_cons, List.not_mem_nil, or_false] at hw
  rcases hw with e | e | e | e | e | e
  · rw [e]; exact h1
  · rw [e]; exact h2
  · rw [e]; exact h2b
  · rw [e]; exact h3
  · rw [e]; exact h4
  · rw [e]; exact h5
theorem lw_SU {own : String} {idx : Nat} {y : MethodName} {b : ByteArray} {L : Nat} {r : Option FieldType} (h1 : Cond.methodLink own idx y ∈ lw_all) (h2 : Cond.sameMethod y.cls y.cls y.name y.desc ∈ lw_all) (h3 : Cond.superclass own y.cls ∈ lw_all) (h4 : Cond.instanceMethod y ∈ lw_all) (h5 : Cond.initialized y.cls ∈ lw_all) (h6 : Cond.code y b L r ∈ lw_all) : GoodIn lw_all (va_wsSU own idx y (ws_ y b L r)) := by
  refine lw_app ?_ (lw_meth h6)
  intro w hw
  simp only [List.mem_cons, List.not_mem_nil, or_false] at hw
  rcases hw with e | e | e | e | e
  · rw [e]; exact h1
  · rw [e]; exact h2
  · rw [e]; exact h3
  · rw [e]; exact h4
  · rw [e]; exact h5
theorem lw_F {own : String} {idx : Nat} {C : String} {x y : MethodName} {b : ByteArray} {L : Nat} {r : Option FieldType} (h1 : Cond.methodLink own idx x ∈ lw_all) (h2 : Cond.selects C x y ∈ lw_all) (h3 : Cond.instanceMethod y ∈ lw_all) (h4 : Cond.initialized y.cls ∈ lw_all) (h6 : Cond.code y b L r ∈ lw_all) : GoodIn lw_all (va_wsF own idx C x y (ws_ y b L r)) := by
  refine lw_app ?_ (lw_meth h6)
  intro w hw
  simp only [List.mem_cons, List.not_mem_nil, or_false] at hw
  rcases hw with e | e | e | e
  · rw [e]; exact h1
  · rw [e]; exact h2
  · rw [e]; exact h3
  · rw [e]; exact h4
