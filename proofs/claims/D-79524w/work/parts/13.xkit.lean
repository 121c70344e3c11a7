/-! THE SYSTEM's WORLD: objects and arrays in any number; which address is what (tag, length), what it holds (ints, references, longs) -/
set_option maxRecDepth 100000
def xCl : List vw_C := [(RX0, TX0, 10), (RX1, TX1, 6), (RJ0, TJ0, 3), (RJ4, TJ4, 4), (RJ5, TJ5, 3), (RX2, TX2, 1), (RX3, TX3, 9), (RJ7, TJ7, 4), (RJ15, TJ15, 5), (RX5, TX5, 3), (RJ24, TJ24, 3), (RX6, TX6, 4), (RJ25, TJ25, 3), (RX7, TX7, 8), (RJ27, TJ27, 2), (RX8, TX8, 3), (RX9, TX9, 7), (RX10, TX10, 4), (RX11, TX11, 1), (RX12, TX12, 2), (RX13, TX13, 5), (RX14, TX14, 2), (RX15, TX15, 2), (RX16, TX16, 1), (RJ8, TJ8, 4), (RX4, TX4, 34)]
def xkl : List (List Nat) := [[1, 1, 1, 0, 0, 1, 1, 1, 1, 1], [1, 1, 1, 1, 0, 0], [1, 0, 0], [0, 0, 1, 1], [1, 0, 0], [1], [1, 1, 1, 1, 1, 1, 1, 0, 0], [1, 0, 0, 0], [1, 1, 0, 0, 1], [0, 1, 0], [0, 1, 0], [0, 0, 0, 0], [1, 1, 1], [1, 1, 1, 1, 1, 0, 0, 0], [1, 1], [1, 0, 1], [1, 1, 1, 1, 1, 0, 0], [0, 0, 0, 1], [0], [0, 0], [0, 0, 0, 0, 0], [0, 0], [0, 0], [0], [1, 0, 0, 0], [1, 1, 1, 1, 1, 1, 1, 1, 1, 1, 1, 1, 1, 1, 0, 0, 0, 0, 0, 0, 0, 1, 1, 1, 1, 1, 1, 0, 0, 0, 0, 0, 1, 0]]
def xkd (t k : Nat) : Nat := ((xkl[t - 1]?).getD []).getD k 0
def xnf (t : Nat) : Nat := ((xkl[t - 1]?).getD []).length
abbrev xT : Type := List Nat × (Nat → Nat) × (Nat → Nat)
abbrev xI : Type := Nat → Int → Int
abbrev xR : Type := Nat → Int → Option Nat
abbrev xL : Type := Nat → Int → Int64
def xtag (T : xT) (a : Nat) : Nat := T.2.1 a
def xlen (T : xT) (a : Nat) : Nat := T.2.2 a
def xnew (T : xT) (q t n : Nat) : xT := (T.1 ++ [q], fun a => if a = q then t else T.2.1 a, fun a => if a = q then n else T.2.2 a)
def uI (I : xI) (a : Nat) (i x : Int) : xI := fun b j => if b = a ∧ j = i then x else I b j
def uR (R : xR) (a : Nat) (i : Int) (x : Option Nat) : xR := fun b j => if b = a ∧ j = i then x else R b j
def uL (L : xL) (a : Nat) (i : Int) (x : Int64) : xL := fun b j => if b = a ∧ j = i then x else L b j
/-- launch, classes' numbers, classes of arrays, the first address of our own, references that statics hold and constant Strings -/
abbrev XT : Type := Launch × va_G × (Nat → ClassId) × Nat × (Nat → Option Nat) × (Nat → Option (Nat × Nat × (Int → Int) × (Int → Option Nat)))
def lX (X : XT) : Launch := X.1
def dX (X : XT) : va_G := X.2.1
def caX (X : XT) : Nat → ClassId := X.2.2.1
def bsX (X : XT) : Nat := X.2.2.2.1
def srX (X : XT) : Nat → Option Nat := X.2.2.2.2.1
/-- what stands below ours and is read: tag, length, ints, references -/
def roC (X : XT) : Nat → Option (Nat × Nat × (Int → Int) × (Int → Option Nat)) := X.2.2.2.2.2
def xTy (X : XT) : List (ClassId × FieldType) := [(caX X 0, .int), (caX X 1, .byte), (caX X 2, .long), (caX X 3, .object "java/lang/Object"), (caX X 4, .object "WhalingLogs$Entry")]
def fvX (kd : Nat) (I : xI) (R : xR) (L : xL) (a : Nat) (j : Int) : Value := if kd = 1 then va_rf (R a j) else if kd = 2 then .long (L a j) else .int (iI (I a j))
def arX (t : Nat) (I : xI) (R : xR) (L : xL) (a n : Nat) : vp_A := (n, if t = 102 then .inr (.inl (fun j => L a j)) else if t < 102 then .inl (fun j => iI (I a j)) else .inr (.inr (.inr (.inr (fun j => R a j)))))
def ceX (X : XT) (t n : Nat) (I : xI) (R : xR) (L : xL) (a : Nat) : va_E :=
  if t < 100 then .inr (t - 1, (List.range (xnf t)).map (fun (j : Nat) => fvX (xkd t j) I R L a j)) else .inl (caX X (t - 100), arX t I R L a n)
def wsX (X : XT) (T : xT) (I : xI) (R : xR) (L : xL) : va_W := T.1.map (fun a => (a, ceX X (xtag T a) (xlen T a) I R L a))
/-- an address below ours that is read: a constant String, its bytes, the tables of digits -/
def roX (X : XT) (a : Nat) : Prop := ∃ c, roC X a = some c
def xok (X : XT) (T : xT) (I : xI) (R : xR) (L : xL) : Prop :=
  (∀ a, xtag T a ≠ 0 ↔ (a ∈ T.1 ∨ roX X a)) ∧ (∀ a, xtag T a = 0 → ∀ i, I a i = 0 ∧ R a i = none ∧ L a i = 0) ∧ (∀ a, a ∈ T.1 → bsX X ≤ a) ∧ (∀ a c, roC X a = some c → a < bsX X ∧ xtag T a = c.1 ∧ xlen T a = c.2.1 ∧ I a = c.2.2.1 ∧ R a = c.2.2.2 ∧ (c.1 = 25 ∨ c.1 = 101))
/-- words that don't ride in the lists: a nest mate's links, castable, declares -/
def nwG : Cond → Bool
  | .fieldLinkNest .. => true
  | .methodLinkNest .. => true
  | .castable .. => true
  | .declares .. => true
  | .privateMethod .. => true
  | _ => false
theorem va_NwP {x : MethodName} {s U : State} (hW : s.WarmedH U.vm) (hZ : va_Nw (.privateMethod x) s) : va_Nw (.privateMethod x) U := Cond.privateMethod_warm hW hZ
def NwOk (U : State) : Prop := ∀ w ∈ lw_tbl, nwG w = true → va_Nw w U
theorem NwOk.moved {s U : State} (hW : s.WarmedH U.vm) (h : NwOk s) : NwOk U := by
  intro w hw hg
  have h1 := h w hw hg
  cases w <;> first | (cases hg; done) | exact va_Nw.warmF hW h1 | exact va_Nw.warmM hW h1 | exact va_Nw.warmC hW h1 | exact va_Nw.warmD hW h1 | exact va_NwP hW h1
theorem NwOk.same {u U : State} (h : u.vm = U.vm) (hN : NwOk u) : NwOk U := by
  intro w hw hg
  have h1 := hN w hw hg
  cases w <;> first | (cases hg; done) | exact va_Nw.same rfl h h1
/-- the calls by interfaces: class, what is named, what runs -/
def fwL : List (String × MethodName × MethodName) := [("java/util/LinkedList$ListItr", ⟨"java/util/Iterator", "hasNext", "()Z"⟩, ⟨"java/util/LinkedList$ListItr", "hasNext", "()Z"⟩), ("java/util/LinkedList$ListItr", ⟨"java/util/Iterator", "next", "()Ljava/lang/Object;"⟩, ⟨"java/util/LinkedList$ListItr", "next", "()Ljava/lang/Object;"⟩), ("java/util/LinkedList$DescendingIterator", ⟨"java/util/Iterator", "hasNext", "()Z"⟩, ⟨"java/util/LinkedList$DescendingIterator", "hasNext", "()Z"⟩), ("java/util/LinkedList$DescendingIterator", ⟨"java/util/Iterator", "next", "()Ljava/lang/Object;"⟩, ⟨"java/util/LinkedList$DescendingIterator", "next", "()Ljava/lang/Object;"⟩), ("java/lang/StringBuilder", ⟨"java/lang/CharSequence", "length", "()I"⟩, ⟨"java/lang/StringBuilder", "length", "()I"⟩), ("java/lang/StringBuilder", ⟨"java/lang/CharSequence", "charAt", "(I)C"⟩, ⟨"java/lang/StringBuilder", "charAt", "(I)C"⟩), ("WhalingLogs$CellOrder", ⟨"WhalingLogs$Order", "does", "(LWhalingLogs$Archive;)V"⟩, ⟨"WhalingLogs$CellOrder", "does", "(LWhalingLogs$Archive;)V"⟩), ("WhalingLogs$SpeedOrder", ⟨"WhalingLogs$Order", "does", "(LWhalingLogs$Archive;)V"⟩, ⟨"WhalingLogs$SpeedOrder", "does", "(LWhalingLogs$Archive;)V"⟩), ("WhalingLogs$PageOrder", ⟨"WhalingLogs$Order", "does", "(LWhalingLogs$Archive;)V"⟩, ⟨"WhalingLogs$PageOrder", "does", "(LWhalingLogs$Archive;)V"⟩), ("WhalingLogs$EntryOrder", ⟨"WhalingLogs$Order", "does", "(LWhalingLogs$Archive;)V"⟩, ⟨"WhalingLogs$EntryOrder", "does", "(LWhalingLogs$Archive;)V"⟩), ("WhalingLogs$ReadOrder", ⟨"WhalingLogs$Order", "does", "(LWhalingLogs$Archive;)V"⟩, ⟨"WhalingLogs$ReadOrder", "does", "(LWhalingLogs$Archive;)V"⟩), ("WhalingLogs$StrikeOrder", ⟨"WhalingLogs$Order", "does", "(LWhalingLogs$Archive;)V"⟩, ⟨"WhalingLogs$StrikeOrder", "does", "(LWhalingLogs$Archive;)V"⟩), ("WhalingLogs$BlameOrder", ⟨"WhalingLogs$Order", "does", "(LWhalingLogs$Archive;)V"⟩, ⟨"WhalingLogs$BlameOrder", "does", "(LWhalingLogs$Archive;)V"⟩), ("WhalingLogs$Entry", ⟨"WhalingLogs$Written", "told", "()Ljava/lang/String;"⟩, ⟨"WhalingLogs$Entry", "told", "()Ljava/lang/String;"⟩)]
theorem fwL_ok : ∀ q ∈ fwL, q.2.1.cls ≠ "java/lang/invoke/MethodHandle" ∧ q.2.1.cls ≠ "java/lang/invoke/VarHandle" := by decide +kernel
def FwOk (U : State) : Prop := ∀ q ∈ fwL, va_Fw q.1 q.2.1 q.2.2 U
theorem FwOk.moved {s U : State} (h : s.vm.Alike U.vm) (hF : FwOk s) : FwOk U := fun q hq => va_Fw.moved (fwL_ok q hq) h (hF q hq)
/-- the default method that is called -/
def dfX : MethodName := ⟨"WhalingLogs$Written", "tells", "(Ljava/lang/StringBuilder;)V"⟩
def DfA (C : String) (x : MethodName) (U : State) : Prop := (Cond.landsInDefault C x x).before #[] U = true ∧ (Cond.interfaceMethod x.cls x.cls x.name x.desc).before #[] U = true ∧ (Cond.publicMethod x).before #[] U = true ∧ (Cond.declares x).before #[] U = true ∧ (Cond.castable C x.cls).before #[] U = true
def DfOk (U : State) : Prop := DfA "WhalingLogs$Entry" dfX U
theorem DfA.moved {C : String} {x : MethodName} (hx : x.cls ≠ "java/lang/invoke/MethodHandle" ∧ x.cls ≠ "java/lang/invoke/VarHandle") {u U : State} (hvm : u.vm.Alike U.vm) (h : DfA C x u) : DfA C x U := by
  obtain ⟨h1, h2, h3, h4, h5⟩ := h
  obtain ⟨r, meth, hn, -⟩ := Cond.declares_spec h4
  have tr : ∀ {c : Cond}, c.onTables = true → c.before #[] (u.setVm U.vm) = true → c.before #[] U = true := by
    intro c hc h
    have e := Cond.onTables_vm (A := #[]) (A' := #[]) (U := u) (U' := U) U.vm c hc
    have hU : U.setVm U.vm = U := rfl
    rw [hU] at e
    rw [← e]
    exact h
  have g1 : (Cond.landsInDefault C x x).before #[] (u.setVm U.vm) = true := by rw [Cond.landsInDefault_setVm hvm (State.methodFound?_setVm_of_named hvm hn hx)]; exact h1
  exact ⟨g1, tr rfl (by rw [Cond.interfaceMethod_setVm hvm (r := r) hn hx]; exact h2), tr rfl (by rw [Cond.publicMethod_setVm hvm]; exact h3), tr rfl (by rw [Cond.declares_setVm hvm]; exact h4), tr rfl (by rw [Cond.castable_setVm hvm]; exact h5)⟩
theorem DfOk.moved {u U : State} (hvm : u.vm.Alike U.vm) (h : DfOk u) : DfOk U := DfA.moved (by decide +kernel) hvm h
/-- statics that are read: class, name, descriptor, an int or the place of a reference -/
def stL : List (String × String × String × (Int ⊕ Nat)) := [("java/util/BitSet", "$assertionsDisabled", "Z", .inl 1), ("java/lang/String", "COMPACT_STRINGS", "Z", .inl 1), ("java/lang/Throwable", "UNASSIGNED_STACK", "[Ljava/lang/StackTraceElement;", .inr 0), ("java/lang/Throwable", "SUPPRESSED_SENTINEL", "Ljava/util/List;", .inr 1), ("java/lang/Integer", "DigitTens", "[B", .inr 2), ("java/lang/Integer", "DigitOnes", "[B", .inr 3), ("java/util/ArrayList", "EMPTY_ELEMENTDATA", "[Ljava/lang/Object;", .inr 4), ("jdk/internal/util/Preconditions", "SIOOBE_FORMATTER", "Ljava/util/function/BiFunction;", .inr 5)]
def stV (X : XT) (v : Int ⊕ Nat) : Value := match v with
  | .inl i => .int (iI i)
  | .inr k => va_rf (srX X k)
def StOk (X : XT) (U : State) (H : Heap) : Prop := ∀ q ∈ stL, va_Z q.1 q.2.1 q.2.2.1 (stV X q.2.2.2) (fun a => bsX X ≤ a) U H
theorem StOk.moved {X : XT} {s U : State} {H : Heap} (h : s.vm.Alike U.vm) (hS : StOk X s H) : StOk X U H := fun q hq => (hS q hq).moved h
theorem StOk.kept {X : XT} {U : State} {H H1 : Heap} (hS : StOk X U H) (hH : ∀ q : Nat, q < bsX X → H1[q]? = H[q]?) : StOk X U H1 := fun q hq => (hS q hq).kept (fun a h1 h2 => hH a (by have h3 : ¬ bsX X ≤ a := h2; omega))
/-- what stands below ours and is read -/
def roW (X : XT) (a : Nat) (c : Nat × Nat × (Int → Int) × (Int → Option Nat)) : va_W := [(a, ceX X c.1 c.2.1 (fun _ => c.2.2.1) (fun _ => c.2.2.2) (fun _ _ => 0) a)]
def RoOk (X : XT) (H : Heap) : Prop := ∀ a c, roC X a = some c → a < bsX X ∧ va_P (dX X) xCl (roW X a c) H
theorem RoOk.kept {X : XT} {H H1 : Heap} (hR : RoOk X H) (hH : ∀ q : Nat, q < bsX X → H1[q]? = H[q]?) : RoOk X H1 := by
  intro a c hc
  obtain ⟨h1, h2⟩ := hR a c hc
  refine ⟨h1, h2.kept (fun k x hx => ?_)⟩
  have hz : k < 1 := (List.getElem?_eq_some_iff.mp hx).1
  rw [show k = 0 by omega] at hx
  cases hx
  exact hH a h1
/-- the texts: class, entry, text, bytes -/
def litL : List (String × Nat × String × List Int) := [("WhalingLogs$Entry", 27, "?", [63]), ("WhalingLogs$Entry", 42, "/", [47]), ("WhalingLogs$Entry", 51, "x", [120]), ("WhalingLogs$Reader", 107, "land", [108, 97, 110, 100]), ("WhalingLogs$Reader", 113, "sea", [115, 101, 97]), ("WhalingLogs$Reader", 115, "speed", [115, 112, 101, 101, 100]), ("WhalingLogs$Reader", 117, "page", [112, 97, 103, 101]), ("WhalingLogs$Reader", 119, "entry", [101, 110, 116, 114, 121]), ("WhalingLogs$Reader", 121, "read", [114, 101, 97, 100]), ("WhalingLogs$Reader", 123, "strike", [115, 116, 114, 105, 107, 101]), ("WhalingLogs$Reader", 125, "blame", [98, 108, 97, 109, 101]), ("WhalingLogs$Written", 22, "", [])]
def LitOk (X : XT) (U : State) : Prop := ∀ (i : Nat) (q : String × Nat × String × List Int), litL[i]? = some q → ∃ b v f : Nat, ∃ fI gI : Int → Int, ∃ fR : Int → Option Nat, ((Cond.stringRef q.1 q.2.1 q.2.2.1).before #[] U = true ∧ (Term.string q.1 q.2.1).eval #[] U none [] U = some (.ref b)) ∧ srX X (10 + i) = some b ∧ roC X b = some (25, f, gI, fR) ∧ fR 0 = some v ∧ gI 1 = 0 ∧ ∃ fR2 : Int → Option Nat, roC X v = some (101, q.2.2.2.length, fI, fR2) ∧ ∀ j : Nat, j < q.2.2.2.length → fI (j : Int) = q.2.2.2.getD j 0
theorem lit_at {own text : String} {idx b : Nat} {s U : State} (hv : ∀ (c : Nat) (k : Class), s.vm.classes[c]? = some k → s.vm.findClass own = some c → ∃ k', U.vm.classes[c]? = some k' ∧ k'.cf = k.cf ∧ (∀ r, k.resolved[idx]? = some (some r) → k'.resolved[idx]? = some (some r))) (hf : U.vm.findClass own = s.vm.findClass own) (h : (Cond.stringRef own idx text).before #[] s = true ∧ (Term.string own idx).eval #[] s none [] s = some (.ref b)) : (Cond.stringRef own idx text).before #[] U = true ∧ (Term.string own idx).eval #[] U none [] U = some (.ref b) := by
  obtain ⟨h1, h2⟩ := h
  cases hc : s.vm.findClass own with
  | none => simp [Term.eval, hc] at h2
  | some c =>
    obtain ⟨k, cf, i, a, hk, hcf, hcp, hst, hr, hev⟩ := Cond.stringRef_spec (o := none) (idx := []) hc h1
    cases h2.symm.trans hev
    obtain ⟨k', hk', hcf', hr'⟩ := hv c k hk hc
    have hr2 := hr' _ hr
    refine ⟨?_, by simp [Term.eval, hf, hc, hk', hr2]⟩
    have e1 : State.resolvedAt? U own idx = some (.string b) := by simp [State.resolvedAt?, hf, hc, hk', hr2]
    have e2 : State.resolvedAt? s own idx = some (.string b) := by simp [State.resolvedAt?, hc, hk, hr]
    simp only [Cond.before, Cond.holds, Cond.value, hf, hc, Option.map_some] at h1 ⊢
    simp only [e1, e2, State.names, State.poolOf?, Option.bind_eq_bind, Option.bind_some, hf, hc, hk, hk', hcf', Option.map_some] at h1 ⊢
    exact h1
theorem LitOk.moved {X : XT} {s U : State} (hW : s.WarmedH U.vm) (h : LitOk X s) : LitOk X U := by
  intro i q hq
  obtain ⟨b, v, f, fI, gI, fR, h1, h3⟩ := h i q hq
  refine ⟨b, v, f, fI, gI, fR, lit_at (own := q.1) (text := q.2.2.1) (idx := q.2.1) (b := b) (s := s) (U := U) (fun c k hk hc => ?_) (hW.alike.findClass _ _) h1, h3⟩
  obtain ⟨k', hk', he⟩ := hW.alike.2.2 _ _ hk
  refine ⟨k', hk', by rw [he], fun r hr => ?_⟩
  rcases hW.entry hk hk' q.2.1 with h8 | ⟨h8, -⟩
  · rw [h8]; exact hr
  · rw [hr] at h8; cases h8
theorem LitOk.same {X : XT} {u U : State} (hv : u.vm = U.vm) (h : LitOk X u) : LitOk X U := by
  intro i q hq
  obtain ⟨b, v, f, fI, gI, fR, h1, h3⟩ := h i q hq
  exact ⟨b, v, f, fI, gI, fR, lit_at (own := q.1) (text := q.2.2.1) (idx := q.2.1) (b := b) (s := u) (U := U) (fun c k hk hc => ⟨k, by rw [← hv]; exact hk, rfl, fun r hr => hr⟩) (by rw [hv]) h1, h3⟩
/-- what a state gives besides its cells -/
def EX (X : XT) (U : State) (H : Heap) : Prop := NwOk U ∧ va_AO "java/lang/Object" U ∧ va_AO "WhalingLogs$Entry" U ∧ FwOk U ∧ StOk X U H ∧ RoOk X H ∧ LitOk X U ∧ U.vm.findClass "[B" = some (caX X 1) ∧ DfOk U ∧ va_Nc "WhalingLogs$Refused" "WhalingLogs$Wrong" U
theorem EX.nw {X : XT} {U : State} {H : Heap} (h : EX X U H) : NwOk U := h.1
theorem EX.kept {X : XT} {U : State} {H H1 : Heap} (h : EX X U H) (hH : ∀ q : Nat, q < bsX X → H1[q]? = H[q]?) : EX X U H1 := ⟨h.1, h.2.1, h.2.2.1, h.2.2.2.1, h.2.2.2.2.1.kept hH, h.2.2.2.2.2.1.kept hH, h.2.2.2.2.2.2⟩
theorem EX.moved {X : XT} {s U : State} {H : Heap} (hW : s.WarmedH U.vm) (h : EX X s H) : EX X U H := ⟨NwOk.moved hW h.1, h.2.1.moved hW.alike, h.2.2.1.moved hW.alike, h.2.2.2.1.moved hW.alike, h.2.2.2.2.1.moved hW.alike, h.2.2.2.2.2.1, h.2.2.2.2.2.2.1.moved hW, (hW.alike.findClass _ _).trans h.2.2.2.2.2.2.2.1, h.2.2.2.2.2.2.2.2.1.moved hW.alike, h.2.2.2.2.2.2.2.2.2.moved hW.alike⟩
theorem EX.same {X : XT} {u U : State} {H : Heap} (hv : u.vm = U.vm) (h : EX X u H) : EX X U H := ⟨NwOk.same hv h.1, h.2.1.moved (hv ▸ Vm.Alike.refl _), h.2.2.1.moved (hv ▸ Vm.Alike.refl _), h.2.2.2.1.moved (hv ▸ Vm.Alike.refl _), h.2.2.2.2.1.moved (hv ▸ Vm.Alike.refl _), h.2.2.2.2.2.1, h.2.2.2.2.2.2.1.same hv, by rw [← hv]; exact h.2.2.2.2.2.2.2.1, h.2.2.2.2.2.2.2.2.1.moved (hv ▸ Vm.Alike.refl _), h.2.2.2.2.2.2.2.2.2.moved (hv ▸ Vm.Alike.refl _)⟩
theorem zno {H : Heap} : zok none H := fun _ h => nomatch h
def OkX (E : GE) (X : XT) (own : String) (cc : ByteArray) (nL : Nat) (ret : Option FieldType) : Prop := OkE E own cc nL ret ∧ TbE E (lX X) (dX X) xCl (xTy X) ∧ (match E with
  | (p, l, e, R, s, m, args, below, meth, c, A, Q, D, cl, tys) => (∀ q : Nat, A q → bsX X ≤ q) ∧ bsX X ≤ s.heap.size ∧ EX X s s.heap)
def RmE (E : GE) (rm : Room) : Prop := match E with
  | (p, l, e, R, s, m, args, below, meth, c, A, Q, D, cl, tys) => R = rm
def isInit (E : GE) : Prop := match E with
  | (p, l, e, R, s, m, args, below, meth, c, A, Q, D, cl, tys) => meth.name = "<init>"
def GX (E : GE) (X : XT) (T : xT) (I : xI) (R : xR) (L : xL) (k n pc : Nat) (lv : List LV) (st : List AV) : Prop := xok X T I R L → G E (wsX X T I R L) none k n pc lv st
/-! lists of cells -/
theorem wsX_at (X : XT) (T : xT) (I : xI) (R : xR) (L : xL) {a : Nat} (h : a ∈ T.1) : ∃ q : Nat, T.1[q]? = some a ∧ (wsX X T I R L)[q]? = some (a, ceX X (xtag T a) (xlen T a) I R L a) := by
  obtain ⟨q, hq⟩ := List.getElem?_of_mem h
  refine ⟨q, hq, ?_⟩
  unfold wsX
  rw [List.getElem?_map, hq]
  rfl
theorem wsX_nd {A : Nat → Prop} {X : XT} {T : xT} {I : xI} {R : xR} {L : xL} (hD : va_D A (wsX X T I R L)) {i j a : Nat} (hi : T.1[i]? = some a) (hj : T.1[j]? = some a) : i = j := by
  refine hD.1 i j (a, ceX X (xtag T a) (xlen T a) I R L a) (a, ceX X (xtag T a) (xlen T a) I R L a) ?_ ?_ rfl
  · unfold wsX; rw [List.getElem?_map, hi]; rfl
  · unfold wsX; rw [List.getElem?_map, hj]; rfl
/-- one cell's change -/
theorem wsX_set {A : Nat → Prop} {X : XT} {T : xT} {I I' : xI} {R R' : xR} {L L' : xL} {a q : Nat} (hD : va_D A (wsX X T I R L)) (hq : T.1[q]? = some a) (ho : ∀ b, b ≠ a → ∀ n t, ceX X t n I' R' L' b = ceX X t n I R L b) : (wsX X T I R L).set q (a, ceX X (xtag T a) (xlen T a) I' R' L' a) = wsX X T I' R' L' := by
  apply List.ext_getElem?
  intro j
  have hl := (List.getElem?_eq_some_iff.mp hq).1
  by_cases hj : j = q
  · subst hj
    rw [List.getElem?_set_self (by unfold wsX; rw [List.length_map]; exact hl)]
    unfold wsX
    rw [List.getElem?_map, hq]
    rfl
  · rw [List.getElem?_set_ne (Ne.symm hj)]
    unfold wsX
    rw [List.getElem?_map, List.getElem?_map]
    cases hb : T.1[j]? with
    | none => rfl
    | some b =>
      have hne : b ≠ a := fun e => hj (wsX_nd hD (e ▸ hb) hq)
      exact congrArg (fun w => some (b, w)) (ho b hne _ _).symm
theorem ceX_I {X : XT} {I : xI} {R : xR} {L : xL} {a : Nat} {i x : Int} (b : Nat) (hb : b ≠ a) (n t : Nat) : ceX X t n (uI I a i x) R L b = ceX X t n I R L b := by
  have e : ∀ j, uI I a i x b j = I b j := fun j => if_neg (fun h => hb h.1)
  have e2 : uI I a i x b = I b := funext e
  unfold ceX fvX arX
  simp only [e2]
theorem ceX_R {X : XT} {I : xI} {R : xR} {L : xL} {a : Nat} {i : Int} {x : Option Nat} (b : Nat) (hb : b ≠ a) (n t : Nat) : ceX X t n I (uR R a i x) L b = ceX X t n I R L b := by
  have e : ∀ j, uR R a i x b j = R b j := fun j => if_neg (fun h => hb h.1)
  have e2 : uR R a i x b = R b := funext e
  unfold ceX fvX arX
  simp only [e2]
theorem ceX_L {X : XT} {I : xI} {R : xR} {L : xL} {a : Nat} {i : Int} {x : Int64} (b : Nat) (hb : b ≠ a) (n t : Nat) : ceX X t n I R (uL L a i x) b = ceX X t n I R L b := by
  have e : ∀ j, uL L a i x b j = L b j := fun j => if_neg (fun h => hb h.1)
  have e2 : uL L a i x b = L b := funext e
  unfold ceX fvX arX
  simp only [e2]
theorem xok.dom {X : XT} {T : xT} {I : xI} {R : xR} {L : xL} (h : xok X T I R L) {a t : Nat} (ht : xtag T a = t) (h0 : 0 < t) (hr : t ≠ 25) (hr2 : t ≠ 101) : a ∈ T.1 := by
  rcases (h.1 a).mp (by rw [ht]; omega) with h1 | h1
  · exact h1
  · obtain ⟨c, hc⟩ := h1
    obtain ⟨-, h3, -, -, -, h2 | h2⟩ := h.2.2.2 a c hc <;> omega
theorem xok.domW {X : XT} {T : xT} {I : xI} {R : xR} {L : xL} (h : xok X T I R L) {a t : Nat} (ht : xtag T a = t) (h0 : 0 < t) (hb : bsX X ≤ a) : a ∈ T.1 := by
  rcases (h.1 a).mp (by rw [ht]; omega) with h1 | h1
  · exact h1
  · obtain ⟨c, hc⟩ := h1
    have := (h.2.2.2 a c hc).1
    omega
theorem xok.lo {X : XT} {T : xT} {I : xI} {R : xR} {L : xL} (h : xok X T I R L) {a : Nat} (h1 : roX X a) : a < bsX X := by
  obtain ⟨c, hc⟩ := h1
  exact (h.2.2.2 a c hc).1
theorem xok.uI {X : XT} {T : xT} {I : xI} {R : xR} {L : xL} (h : xok X T I R L) {a : Nat} (ha : a ∈ T.1) (i x : Int) : xok X T (uI I a i x) R L := by
  refine ⟨h.1, fun b hb j => ?_, h.2.2.1, fun b c hc => ?_⟩
  rotate_left
  · obtain ⟨z1, z2, z3, z4, z5, z6⟩ := h.2.2.2 b c hc
    have hne : b ≠ a := fun e => by have := h.2.2.1 a ha; omega
    have e2 : (fun j => if b = a ∧ j = i then x else I b j) = I b := funext fun j => if_neg (fun q => hne q.1)
    exact ⟨z1, z2, z3, e2.trans z4, z5, z6⟩
  obtain ⟨h1, h2⟩ := h.2.1 b hb j
  have hne : b ≠ a := fun e => (h.1 a).mpr (Or.inl ha) (e ▸ hb)
  exact ⟨(if_neg (fun q => hne q.1)).trans h1, h2⟩
theorem xok.uR {X : XT} {T : xT} {I : xI} {R : xR} {L : xL} (h : xok X T I R L) {a : Nat} (ha : a ∈ T.1) (i : Int) (x : Option Nat) : xok X T I (uR R a i x) L := by
  refine ⟨h.1, fun b hb j => ?_, h.2.2.1, fun b c hc => ?_⟩
  rotate_left
  · obtain ⟨z1, z2, z3, z4, z5, z6⟩ := h.2.2.2 b c hc
    have hne : b ≠ a := fun e => by have := h.2.2.1 a ha; omega
    have e2 : (fun j => if b = a ∧ j = i then x else R b j) = R b := funext fun j => if_neg (fun q => hne q.1)
    exact ⟨z1, z2, z3, z4, e2.trans z5, z6⟩
  obtain ⟨h1, h2, h3⟩ := h.2.1 b hb j
  have hne : b ≠ a := fun e => (h.1 a).mpr (Or.inl ha) (e ▸ hb)
  exact ⟨h1, (if_neg (fun q => hne q.1)).trans h2, h3⟩
theorem xok.uL {X : XT} {T : xT} {I : xI} {R : xR} {L : xL} (h : xok X T I R L) {a : Nat} (ha : a ∈ T.1) (i : Int) (x : Int64) : xok X T I R (uL L a i x) := by
  refine ⟨h.1, fun b hb j => ?_, h.2.2.1, h.2.2.2⟩
  obtain ⟨h1, h2, h3⟩ := h.2.1 b hb j
  have hne : b ≠ a := fun e => (h.1 a).mpr (Or.inl ha) (e ▸ hb)
  exact ⟨h1, h2, (if_neg (fun q => hne q.1)).trans h3⟩
theorem xok.new {X : XT} {T : xT} {I : xI} {R : xR} {L : xL} (h : xok X T I R L) {q t n : Nat} (hq : xtag T q = 0) (ht : t ≠ 0) (hb : bsX X ≤ q) : xok X (xnew T q t n) I R L := by
  refine ⟨fun a => ?_, fun a ha => ?_, fun a ha => ?_, fun a c ha => ?_⟩
  · show (if a = q then t else xtag T a) ≠ 0 ↔ (a ∈ T.1 ++ [q] ∨ roX X a)
    by_cases e : a = q
    · subst e
      simp [ht]
    · simp [e]
      exact h.1 a
  · have e : a ≠ q := by
      intro e
      have : (if a = q then t else xtag T a) = 0 := ha
      rw [if_pos e] at this
      exact ht this
    have h1 : xtag T a = 0 := by
      have : (if a = q then t else xtag T a) = 0 := ha
      rwa [if_neg e] at this
    exact h.2.1 a h1
  · rcases List.mem_append.mp ha with h1 | h1
    · exact h.2.2.1 a h1
    · rw [List.mem_singleton.mp h1]; exact hb
  · obtain ⟨h1, h2, h3, h4⟩ := h.2.2.2 a c ha
    have e : a ≠ q := by omega
    have e1 : xtag (xnew T q t n) a = xtag T a := if_neg e
    have e2 : xlen (xnew T q t n) a = xlen T a := if_neg e
    exact ⟨h1, e1.trans h2, e2.trans h3, h4⟩
theorem wsX_new {X : XT} {T : xT} {I : xI} {R : xR} {L : xL} (h : xok X T I R L) {q t n : Nat} (hq : xtag T q = 0) : wsX X T I R L ++ [(q, ceX X t n I R L q)] = wsX X (xnew T q t n) I R L := by
  unfold wsX
  show _ = (T.1 ++ [q]).map _
  rw [List.map_append]
  congr 1
  · apply List.map_congr_left
    intro a ha
    have hne : a ≠ q := fun e => (h.1 a).mpr (Or.inl ha) (e ▸ hq)
    show _ = (a, ceX X (if a = q then t else xtag T a) (if a = q then n else xlen T a) I R L a)
    rw [if_neg hne, if_neg hne]
  · show _ = [(q, ceX X (if q = q then t else xtag T q) (if q = q then n else xlen T q) I R L q)]
    rw [if_pos rfl, if_pos rfl]
theorem ceX_obj {X : XT} {t n : Nat} {I : xI} {R : xR} {L : xL} {a : Nat} (h : t < 100) : ceX X t n I R L a = .inr (t - 1, (List.range (xnf t)).map (fun (j : Nat) => fvX (xkd t j) I R L a j)) := if_pos h
theorem ceX_arr {X : XT} {t n : Nat} {I : xI} {R : xR} {L : xL} {a : Nat} (h : 100 ≤ t) : ceX X t n I R L a = .inl (caX X (t - 100), arX t I R L a n) := if_neg (by omega)
theorem fsX_get {t : Nat} {I : xI} {R : xR} {L : xL} {a k : Nat} (h : k < xnf t) : ((List.range (xnf t)).map (fun (j : Nat) => fvX (xkd t j) I R L a j))[k]? = some (fvX (xkd t k) I R L a k) := by
  rw [List.getElem?_map, List.getElem?_range h]
  rfl
theorem fsX_set {t : Nat} {I I' : xI} {R R' : xR} {L L' : xL} {a k : Nat} {v : Value} (hv : k < xnf t → v = fvX (xkd t k) I' R' L' a k) (ho : ∀ j : Nat, j ≠ k → fvX (xkd t j) I R L a j = fvX (xkd t j) I' R' L' a j) : ((List.range (xnf t)).map (fun (j : Nat) => fvX (xkd t j) I R L a j)).set k v = (List.range (xnf t)).map (fun (j : Nat) => fvX (xkd t j) I' R' L' a j) := by
  apply List.ext_getElem?
  intro j
  by_cases hj : j = k
  · subst hj
    by_cases hk : j < xnf t
    · rw [List.getElem?_set_self (by simpa using hk), List.getElem?_map, List.getElem?_range hk, hv hk]
      rfl
    · rw [List.getElem?_eq_none (by simpa using hk), List.getElem?_eq_none (by simpa using hk)]
  · rw [List.getElem?_set_ne (Ne.symm hj), List.getElem?_map, List.getElem?_map]
    by_cases hk : j < xnf t
    · rw [List.getElem?_range hk]
      exact congrArg some (ho j hj)
    · rw [List.getElem?_eq_none (by simpa using hk)]
      rfl
theorem toN_int {i : Int} (h : 0 ≤ i) : (((i.toNat : Nat) : Int)) = i := by omega

theorem gx_geti {E : GE} {X : XT} {own : String} {cc : ByteArray} {nL : Nat} {ret : Option FieldType} (hE : OkX E X own cc nL ret) {T : xT} {I : xI} {R : xR} {L : xL} {k n pc : Nat} {lv : List LV} {st : List AV} {a : Nat} {C : String} {TT : u_T} {N t idx : Nat} (hin : ∀ w ∈ u_ws C TT N, w ∈ lw_all) (hc : xCl[t - 1]? = some (C, TT, N)) (h0 : 0 < t) (f : Nat) (fi : Int) (hfi : ((f : Nat) : Int) = fi) (hf : f < N) (hnf : xnf t = N) (ht1 : t < 25 ∨ t = 26) {ref : String} (hkd : xkd t f = 0) (hq : Cond.fieldLink own idx ref (TT f).2.1 (TT f).2.2.1 ∈ lw_all) (hs : ref = (TT f).1 ∨ Cond.sameField ref (TT f).1 (TT f).2.1 (TT f).2.2.1 ∈ lw_all) (ht : xtag T a = t) (d : decode cc pc = .ok (.getfield idx, 3)) (h : GX E X T I R L k n (pc + 3) lv (aI (I a fi) :: st)) : GX E X T I R L k n pc lv (aR (some a) :: st) := by
  obtain ⟨p, l, e, Rm, s, m, args, below, meth, c, A, Q, D, cl, tys⟩ := E
  obtain ⟨⟨hx, hb, hml, hown, hts, hr, hlk, hK, hA⟩, ⟨rfl, rfl, rfl, rfl⟩, hAb, hbs, hEX⟩ := hE
  intro hok H locs ls hz hP hD hS hl
  obtain ⟨q, hq0, hq1⟩ := wsX_at X T I R L (hok.dom ht h0 (by omega) (by omega))
  rw [ht, ceX_obj (by omega)] at hq1
  have e9 : fvX (xkd t f) I R L a f = .int (iI (I a fi)) := by rw [hkd, hfi]; rfl
  exact va_get (ci := t - 1) (v := .int (iI (I a fi))) (C := C) (T := TT) (N := N) hx hb hts hin hown hK hP q hq1 hc f hf (hts _ hq) (fun x h9 => hs.elim (fun e8 => by rw [e8]; exact h9) (fun e8 => u_same (hts _ e8) x h9)) (by rw [fsX_get (by rw [hnf]; exact hf), e9]) d (h hok H locs ls hz hP hD hS hl)
theorem gx_getr {E : GE} {X : XT} {own : String} {cc : ByteArray} {nL : Nat} {ret : Option FieldType} (hE : OkX E X own cc nL ret) {T : xT} {I : xI} {R : xR} {L : xL} {k n pc : Nat} {lv : List LV} {st : List AV} {a : Nat} {C : String} {TT : u_T} {N t idx : Nat} (hin : ∀ w ∈ u_ws C TT N, w ∈ lw_all) (hc : xCl[t - 1]? = some (C, TT, N)) (h0 : 0 < t) (f : Nat) (fi : Int) (hfi : ((f : Nat) : Int) = fi) (hf : f < N) (hnf : xnf t = N) (ht1 : t < 25 ∨ t = 26) {ref : String} (hkd : xkd t f = 1) (hq : Cond.fieldLink own idx ref (TT f).2.1 (TT f).2.2.1 ∈ lw_all) (hs : ref = (TT f).1 ∨ Cond.sameField ref (TT f).1 (TT f).2.1 (TT f).2.2.1 ∈ lw_all) (ht : xtag T a = t) (d : decode cc pc = .ok (.getfield idx, 3)) (h : GX E X T I R L k n (pc + 3) lv (aR (R a fi) :: st)) : GX E X T I R L k n pc lv (aR (some a) :: st) := by
  obtain ⟨p, l, e, Rm, s, m, args, below, meth, c, A, Q, D, cl, tys⟩ := E
  obtain ⟨⟨hx, hb, hml, hown, hts, hr, hlk, hK, hA⟩, ⟨rfl, rfl, rfl, rfl⟩, hAb, hbs, hEX⟩ := hE
  intro hok H locs ls hz hP hD hS hl
  obtain ⟨q, hq0, hq1⟩ := wsX_at X T I R L (hok.dom ht h0 (by omega) (by omega))
  rw [ht, ceX_obj (by omega)] at hq1
  have e9 : fvX (xkd t f) I R L a f = va_rf (R a fi) := by rw [hkd, hfi]; rfl
  exact va_get (ci := t - 1) (v := va_rf (R a fi)) (C := C) (T := TT) (N := N) hx hb hts hin hown hK hP q hq1 hc f hf (hts _ hq) (fun x h9 => hs.elim (fun e8 => by rw [e8]; exact h9) (fun e8 => u_same (hts _ e8) x h9)) (by rw [fsX_get (by rw [hnf]; exact hf), e9]) d (h hok H locs ls hz hP hD hS hl)
theorem gx_getiN {E : GE} {X : XT} {own : String} {cc : ByteArray} {nL : Nat} {ret : Option FieldType} (hE : OkX E X own cc nL ret) {T : xT} {I : xI} {R : xR} {L : xL} {k n pc : Nat} {lv : List LV} {st : List AV} {a : Nat} {C : String} {TT : u_T} {N t idx : Nat} (hin : ∀ w ∈ u_ws C TT N, w ∈ lw_all) (hc : xCl[t - 1]? = some (C, TT, N)) (h0 : 0 < t) (f : Nat) (fi : Int) (hfi : ((f : Nat) : Int) = fi) (hf : f < N) (hnf : xnf t = N) (ht1 : t < 25 ∨ t = 26) {ref : String} (hkd : xkd t f = 0) {host : String} (hq : Cond.fieldLinkNest own idx ref (TT f).2.1 (TT f).2.2.1 host ∈ lw_tbl) (hs : ref = (TT f).1 ∨ Cond.sameField ref (TT f).1 (TT f).2.1 (TT f).2.2.1 ∈ lw_all) (ht : xtag T a = t) (d : decode cc pc = .ok (.getfield idx, 3)) (h : GX E X T I R L k n (pc + 3) lv (aI (I a fi) :: st)) : GX E X T I R L k n pc lv (aR (some a) :: st) := by
  obtain ⟨p, l, e, Rm, s, m, args, below, meth, c, A, Q, D, cl, tys⟩ := E
  obtain ⟨⟨hx, hb, hml, hown, hts, hr, hlk, hK, hA⟩, ⟨rfl, rfl, rfl, rfl⟩, hAb, hbs, hEX⟩ := hE
  intro hok H locs ls hz hP hD hS hl
  obtain ⟨q, hq0, hq1⟩ := wsX_at X T I R L (hok.dom ht h0 (by omega) (by omega))
  rw [ht, ceX_obj (by omega)] at hq1
  have e9 : fvX (xkd t f) I R L a f = .int (iI (I a fi)) := by rw [hkd, hfi]; rfl
  exact va_getN (ci := t - 1) (v := .int (iI (I a fi))) (C := C) (T := TT) (N := N) hx hb hts hin hown hK hP q hq1 hc f hf (va_Nw.use rfl (hEX.nw _ hq rfl)) (fun x h9 => hs.elim (fun e8 => by rw [e8]; exact h9) (fun e8 => u_same (hts _ e8) x h9)) (by rw [fsX_get (by rw [hnf]; exact hf), e9]) d (h hok H locs ls hz hP hD hS hl)
theorem gx_getrN {E : GE} {X : XT} {own : String} {cc : ByteArray} {nL : Nat} {ret : Option FieldType} (hE : OkX E X own cc nL ret) {T : xT} {I : xI} {R : xR} {L : xL} {k n pc : Nat} {lv : List LV} {st : List AV} {a : Nat} {C : String} {TT : u_T} {N t idx : Nat} (hin : ∀ w ∈ u_ws C TT N, w ∈ lw_all) (hc : xCl[t - 1]? = some (C, TT, N)) (h0 : 0 < t) (f : Nat) (fi : Int) (hfi : ((f : Nat) : Int) = fi) (hf : f < N) (hnf : xnf t = N) (ht1 : t < 25 ∨ t = 26) {ref : String} (hkd : xkd t f = 1) {host : String} (hq : Cond.fieldLinkNest own idx ref (TT f).2.1 (TT f).2.2.1 host ∈ lw_tbl) (hs : ref = (TT f).1 ∨ Cond.sameField ref (TT f).1 (TT f).2.1 (TT f).2.2.1 ∈ lw_all) (ht : xtag T a = t) (d : decode cc pc = .ok (.getfield idx, 3)) (h : GX E X T I R L k n (pc + 3) lv (aR (R a fi) :: st)) : GX E X T I R L k n pc lv (aR (some a) :: st) := by
  obtain ⟨p, l, e, Rm, s, m, args, below, meth, c, A, Q, D, cl, tys⟩ := E
  obtain ⟨⟨hx, hb, hml, hown, hts, hr, hlk, hK, hA⟩, ⟨rfl, rfl, rfl, rfl⟩, hAb, hbs, hEX⟩ := hE
  intro hok H locs ls hz hP hD hS hl
  obtain ⟨q, hq0, hq1⟩ := wsX_at X T I R L (hok.dom ht h0 (by omega) (by omega))
  rw [ht, ceX_obj (by omega)] at hq1
  have e9 : fvX (xkd t f) I R L a f = va_rf (R a fi) := by rw [hkd, hfi]; rfl
  exact va_getN (ci := t - 1) (v := va_rf (R a fi)) (C := C) (T := TT) (N := N) hx hb hts hin hown hK hP q hq1 hc f hf (va_Nw.use rfl (hEX.nw _ hq rfl)) (fun x h9 => hs.elim (fun e8 => by rw [e8]; exact h9) (fun e8 => u_same (hts _ e8) x h9)) (by rw [fsX_get (by rw [hnf]; exact hf), e9]) d (h hok H locs ls hz hP hD hS hl)
theorem xpicS {X : XT} {T : xT} {I : xI} {R : xR} {L : xL} {H : Heap} (hok : xok X T I R L) (hP : va_P (dX X) xCl (wsX X T I R L) H) (hRo : RoOk X H) {a : Nat} (ht : xtag T a = 25) : ∃ (ws : va_W) (q : Nat), va_P (dX X) xCl ws H ∧ ws[q]? = some (a, .inr (24, (List.range (xnf 25)).map (fun (j : Nat) => fvX (xkd 25 j) I R L a j))) := by
  rcases (hok.1 a).mp (by rw [ht]; omega) with h | ⟨c, hc⟩
  · obtain ⟨q, hq0, hq1⟩ := wsX_at X T I R L h
    rw [ht, ceX_obj (by omega)] at hq1
    exact ⟨_, q, hP, hq1⟩
  · obtain ⟨z1, z2, z3, z4, z5, z6⟩ := hok.2.2.2 a c hc
    refine ⟨_, 0, (hRo a c hc).2, ?_⟩
    unfold roW
    rw [show c.1 = 25 from z2.symm.trans ht, ceX_obj (by omega), ← z4, ← z5]
    rfl
theorem xpicB {X : XT} {T : xT} {I : xI} {R : xR} {L : xL} {H : Heap} (hok : xok X T I R L) (hP : va_P (dX X) xCl (wsX X T I R L) H) (hRo : RoOk X H) {a : Nat} (ht : xtag T a = 101) : ∃ (ws : va_W) (q : Nat), va_P (dX X) xCl ws H ∧ ws[q]? = some (a, .inl (caX X 1, xlen T a, .inl (fun (j : Nat) => iI (I a j)))) := by
  rcases (hok.1 a).mp (by rw [ht]; omega) with h | ⟨c, hc⟩
  · obtain ⟨q, hq0, hq1⟩ := wsX_at X T I R L h
    rw [ht, ceX_arr (by omega)] at hq1
    exact ⟨_, q, hP, hq1⟩
  · obtain ⟨z1, z2, z3, z4, z5, z6⟩ := hok.2.2.2 a c hc
    refine ⟨_, 0, (hRo a c hc).2, ?_⟩
    unfold roW
    rw [show c.1 = 101 from z2.symm.trans ht, ceX_arr (by omega), ← z4, ← z3]
    rfl
theorem gx_getiS {E : GE} {X : XT} {own : String} {cc : ByteArray} {nL : Nat} {ret : Option FieldType} (hE : OkX E X own cc nL ret) {T : xT} {I : xI} {R : xR} {L : xL} {k n pc : Nat} {lv : List LV} {st : List AV} {a : Nat} {C : String} {TT : u_T} {N t idx : Nat} (hin : ∀ w ∈ u_ws C TT N, w ∈ lw_all) (hc : xCl[t - 1]? = some (C, TT, N)) (h0 : 0 < t) (f : Nat) (fi : Int) (hfi : ((f : Nat) : Int) = fi) (hf : f < N) (hnf : xnf t = N) (ht1 : t = 25) {ref : String} (hkd : xkd t f = 0) (hq : Cond.fieldLink own idx ref (TT f).2.1 (TT f).2.2.1 ∈ lw_all) (hs : ref = (TT f).1 ∨ Cond.sameField ref (TT f).1 (TT f).2.1 (TT f).2.2.1 ∈ lw_all) (ht : xtag T a = t) (d : decode cc pc = .ok (.getfield idx, 3)) (h : GX E X T I R L k n (pc + 3) lv (aI (I a fi) :: st)) : GX E X T I R L k n pc lv (aR (some a) :: st) := by
  obtain ⟨p, l, e, Rm, s, m, args, below, meth, c, A, Q, D, cl, tys⟩ := E
  obtain ⟨⟨hx, hb, hml, hown, hts, hr, hlk, hK, hA⟩, ⟨rfl, rfl, rfl, rfl⟩, hAb, hbs, hEX⟩ := hE
  intro hok H locs ls hz hP hD hS hl
  have hRo : RoOk X H := hEX.2.2.2.2.2.1.kept fun q hq => hS.2.1 q (by omega) (fun h9 => by have := hAb q h9; omega)
  subst ht1
  obtain ⟨ws, q, hP9, hq1⟩ := xpicS hok hP hRo ht
  have e9 : fvX (xkd 25 f) I R L a f = .int (iI (I a fi)) := by rw [hkd, hfi]; rfl
  exact va_get (ci := 24) (v := .int (iI (I a fi))) (C := C) (T := TT) (N := N) hx hb hts hin hown hK hP9 q hq1 hc f hf (hts _ hq) (fun x h9 => hs.elim (fun e8 => by rw [e8]; exact h9) (fun e8 => u_same (hts _ e8) x h9)) (by rw [fsX_get (by rw [hnf]; exact hf), e9]) d (h hok H locs ls hz hP hD hS hl)
theorem gx_getrS {E : GE} {X : XT} {own : String} {cc : ByteArray} {nL : Nat} {ret : Option FieldType} (hE : OkX E X own cc nL ret) {T : xT} {I : xI} {R : xR} {L : xL} {k n pc : Nat} {lv : List LV} {st : List AV} {a : Nat} {C : String} {TT : u_T} {N t idx : Nat} (hin : ∀ w ∈ u_ws C TT N, w ∈ lw_all) (hc : xCl[t - 1]? = some (C, TT, N)) (h0 : 0 < t) (f : Nat) (fi : Int) (hfi : ((f : Nat) : Int) = fi) (hf : f < N) (hnf : xnf t = N) (ht1 : t = 25) {ref : String} (hkd : xkd t f = 1) (hq : Cond.fieldLink own idx ref (TT f).2.1 (TT f).2.2.1 ∈ lw_all) (hs : ref = (TT f).1 ∨ Cond.sameField ref (TT f).1 (TT f).2.1 (TT f).2.2.1 ∈ lw_all) (ht : xtag T a = t) (d : decode cc pc = .ok (.getfield idx, 3)) (h : GX E X T I R L k n (pc + 3) lv (aR (R a fi) :: st)) : GX E X T I R L k n pc lv (aR (some a) :: st) := by
  obtain ⟨p, l, e, Rm, s, m, args, below, meth, c, A, Q, D, cl, tys⟩ := E
  obtain ⟨⟨hx, hb, hml, hown, hts, hr, hlk, hK, hA⟩, ⟨rfl, rfl, rfl, rfl⟩, hAb, hbs, hEX⟩ := hE
  intro hok H locs ls hz hP hD hS hl
  have hRo : RoOk X H := hEX.2.2.2.2.2.1.kept fun q hq => hS.2.1 q (by omega) (fun h9 => by have := hAb q h9; omega)
  subst ht1
  obtain ⟨ws, q, hP9, hq1⟩ := xpicS hok hP hRo ht
  have e9 : fvX (xkd 25 f) I R L a f = va_rf (R a fi) := by rw [hkd, hfi]; rfl
  exact va_get (ci := 24) (v := va_rf (R a fi)) (C := C) (T := TT) (N := N) hx hb hts hin hown hK hP9 q hq1 hc f hf (hts _ hq) (fun x h9 => hs.elim (fun e8 => by rw [e8]; exact h9) (fun e8 => u_same (hts _ e8) x h9)) (by rw [fsX_get (by rw [hnf]; exact hf), e9]) d (h hok H locs ls hz hP hD hS hl)
theorem gx_puti {E : GE} {X : XT} {own : String} {cc : ByteArray} {nL : Nat} {ret : Option FieldType} (hE : OkX E X own cc nL ret) {T : xT} {I : xI} {R : xR} {L : xL} {k n pc : Nat} {lv : List LV} {st : List AV} {a : Nat} {C : String} {TT : u_T} {N t idx : Nat} (hin : ∀ w ∈ u_ws C TT N, w ∈ lw_all) (hc : xCl[t - 1]? = some (C, TT, N)) (h0 : 0 < t) (f : Nat) (fi : Int) (hfi : ((f : Nat) : Int) = fi) (hf : f < N) (hnf : xnf t = N) (ht1 : t < 25 ∨ t = 26) {ref : String} {x : Int} {ty : FieldType} (tyT : Nat → FieldType) (htyT : ∀ k, k < N → parseFieldDescriptor (TT k).2.2.1 = some (tyT k)) (hnm : ∀ a, a < N → ∀ b, b < N → a ≠ b → (TT a).2.1 ≠ (TT b).2.1) (hkd : xkd t f = 0) (hq : Cond.fieldLink own idx ref (TT f).2.1 (TT f).2.2.1 ∈ lw_all) (hs : ref = (TT f).1 ∨ Cond.sameField ref (TT f).1 (TT f).2.1 (TT f).2.2.1 ∈ lw_all) (hfin : (TT f).2.2.2 = false) (hd : parseFieldDescriptor (TT f).2.2.1 = some ty) (hn : narrow ty (.int (iI x)) = .int (iI x)) (hfit : fits ty (.int (iI x)) = true) (ht : xtag T a = t) (d : decode cc pc = .ok (.putfield idx, 3)) (h : GX E X T (uI I a fi x) R L k n (pc + 3) lv st) : GX E X T I R L k n pc lv (aI x :: aR (some a) :: st) := by
  obtain ⟨p, l, e, Rm, s, m, args, below, meth, c, A, Q, D, cl, tys⟩ := E
  obtain ⟨⟨hx, hb, hml, hown, hts, hr, hlk, hK, hA⟩, ⟨rfl, rfl, rfl, rfl⟩, hAb, hbs, hEX⟩ := hE
  intro hok H locs ls hz hP hD hS hl
  have hdm := hok.dom ht h0 (by omega) (by omega)
  obtain ⟨q, hq0, hq1⟩ := wsX_at X T I R L hdm
  have hst := wsX_set (I' := (uI I a fi x)) (R' := R) (L' := L) hD hq0 (fun b hb n t => ceX_I b hb n t)
  rw [ht, ceX_obj (by omega)] at hq1 hst
  refine va_put (ci := t - 1) (v := .int (iI x)) (ty := ty) (C := C) (T := TT) (N := N) hx hb hts hin tyT htyT hnm hown hK hP hD hS q hq1 hc f hf (hts _ hq) (fun x h9 => hs.elim (fun e8 => by rw [e8]; exact h9) (fun e8 => u_same (hts _ e8) x h9)) hfin hd hn hfit (by rw [List.length_map, List.length_range, hnf]; exact hf) d (fun H1 locs1 hP1 hD1 hS1 => ?_)
  have e9 := fsX_set (t := t) (I := I) (I' := (uI I a fi x)) (R := R) (R' := R) (L := L) (L' := L) (a := a) (k := f) (v := .int (iI x)) (fun _ => by rw [hkd, hfi]; show _ = Value.int (iI (uI I a fi x a fi)); unfold uI; rw [if_pos ⟨rfl, rfl⟩]) (fun j hj => by
    have hj2 : ¬ ((j : Nat) : Int) = fi := by rw [← hfi]; omega
    unfold fvX uI
    simp only [hj2, and_false, if_false])
  rw [e9, hst] at hP1 hD1
  exact h (hok.uI hdm fi x) H1 locs1 ls zno hP1 hD1 hS1 hl
theorem gx_putr {E : GE} {X : XT} {own : String} {cc : ByteArray} {nL : Nat} {ret : Option FieldType} (hE : OkX E X own cc nL ret) {T : xT} {I : xI} {R : xR} {L : xL} {k n pc : Nat} {lv : List LV} {st : List AV} {a : Nat} {C : String} {TT : u_T} {N t idx : Nat} (hin : ∀ w ∈ u_ws C TT N, w ∈ lw_all) (hc : xCl[t - 1]? = some (C, TT, N)) (h0 : 0 < t) (f : Nat) (fi : Int) (hfi : ((f : Nat) : Int) = fi) (hf : f < N) (hnf : xnf t = N) (ht1 : t < 25 ∨ t = 26) {ref : String} {x : Option Nat} {ty : FieldType} (tyT : Nat → FieldType) (htyT : ∀ k, k < N → parseFieldDescriptor (TT k).2.2.1 = some (tyT k)) (hnm : ∀ a, a < N → ∀ b, b < N → a ≠ b → (TT a).2.1 ≠ (TT b).2.1) (hkd : xkd t f = 1) (hq : Cond.fieldLink own idx ref (TT f).2.1 (TT f).2.2.1 ∈ lw_all) (hs : ref = (TT f).1 ∨ Cond.sameField ref (TT f).1 (TT f).2.1 (TT f).2.2.1 ∈ lw_all) (hfin : (TT f).2.2.2 = false) (hd : parseFieldDescriptor (TT f).2.2.1 = some ty) (hn : narrow ty (va_rf x) = va_rf x) (hfit : fits ty (va_rf x) = true) (ht : xtag T a = t) (d : decode cc pc = .ok (.putfield idx, 3)) (h : GX E X T I (uR R a fi x) L k n (pc + 3) lv st) : GX E X T I R L k n pc lv (aR x :: aR (some a) :: st) := by
  obtain ⟨p, l, e, Rm, s, m, args, below, meth, c, A, Q, D, cl, tys⟩ := E
  obtain ⟨⟨hx, hb, hml, hown, hts, hr, hlk, hK, hA⟩, ⟨rfl, rfl, rfl, rfl⟩, hAb, hbs, hEX⟩ := hE
  intro hok H locs ls hz hP hD hS hl
  have hdm := hok.dom ht h0 (by omega) (by omega)
  obtain ⟨q, hq0, hq1⟩ := wsX_at X T I R L hdm
  have hst := wsX_set (I' := I) (R' := (uR R a fi x)) (L' := L) hD hq0 (fun b hb n t => ceX_R b hb n t)
  rw [ht, ceX_obj (by omega)] at hq1 hst
  refine va_put (ci := t - 1) (v := va_rf x) (ty := ty) (C := C) (T := TT) (N := N) hx hb hts hin tyT htyT hnm hown hK hP hD hS q hq1 hc f hf (hts _ hq) (fun x h9 => hs.elim (fun e8 => by rw [e8]; exact h9) (fun e8 => u_same (hts _ e8) x h9)) hfin hd hn hfit (by rw [List.length_map, List.length_range, hnf]; exact hf) d (fun H1 locs1 hP1 hD1 hS1 => ?_)
  have e9 := fsX_set (t := t) (I := I) (I' := I) (R := R) (R' := (uR R a fi x)) (L := L) (L' := L) (a := a) (k := f) (v := va_rf x) (fun _ => by rw [hkd, hfi]; show _ = va_rf (uR R a fi x a fi); unfold uR; rw [if_pos ⟨rfl, rfl⟩]) (fun j hj => by
    have hj2 : ¬ ((j : Nat) : Int) = fi := by rw [← hfi]; omega
    unfold fvX uR
    simp only [hj2, and_false, if_false])
  rw [e9, hst] at hP1 hD1
  exact h (hok.uR hdm fi x) H1 locs1 ls zno hP1 hD1 hS1 hl
theorem gx_putiF {E : GE} {X : XT} {own : String} {cc : ByteArray} {nL : Nat} {ret : Option FieldType} (hE : OkX E X own cc nL ret) {T : xT} {I : xI} {R : xR} {L : xL} {k n pc : Nat} {lv : List LV} {st : List AV} {a : Nat} {C : String} {TT : u_T} {N t idx : Nat} (hin : ∀ w ∈ u_ws C TT N, w ∈ lw_all) (hc : xCl[t - 1]? = some (C, TT, N)) (h0 : 0 < t) (f : Nat) (fi : Int) (hfi : ((f : Nat) : Int) = fi) (hf : f < N) (hnf : xnf t = N) (ht1 : t < 25 ∨ t = 26) {ref : String} {x : Int} {ty : FieldType} (tyT : Nat → FieldType) (htyT : ∀ k, k < N → parseFieldDescriptor (TT k).2.2.1 = some (tyT k)) (hnm : ∀ a, a < N → ∀ b, b < N → a ≠ b → (TT a).2.1 ≠ (TT b).2.1) (hkd : xkd t f = 0) (hq : Cond.fieldLink own idx ref (TT f).2.1 (TT f).2.2.1 ∈ lw_all) (hs : ref = (TT f).1 ∨ Cond.sameField ref (TT f).1 (TT f).2.1 (TT f).2.2.1 ∈ lw_all) (hfin : (TT f).2.2.2 = true) (hin2 : isInit E) (hdecl : (TT f).1 = own) (hd : parseFieldDescriptor (TT f).2.2.1 = some ty) (hn : narrow ty (.int (iI x)) = .int (iI x)) (hfit : fits ty (.int (iI x)) = true) (ht : xtag T a = t) (d : decode cc pc = .ok (.putfield idx, 3)) (h : GX E X T (uI I a fi x) R L k n (pc + 3) lv st) : GX E X T I R L k n pc lv (aI x :: aR (some a) :: st) := by
  obtain ⟨p, l, e, Rm, s, m, args, below, meth, c, A, Q, D, cl, tys⟩ := E
  obtain ⟨⟨hx, hb, hml, hown, hts, hr, hlk, hK, hA⟩, ⟨rfl, rfl, rfl, rfl⟩, hAb, hbs, hEX⟩ := hE
  intro hok H locs ls hz hP hD hS hl
  have hdm := hok.dom ht h0 (by omega) (by omega)
  obtain ⟨q, hq0, hq1⟩ := wsX_at X T I R L hdm
  have hst := wsX_set (I' := (uI I a fi x)) (R' := R) (L' := L) hD hq0 (fun b hb n t => ceX_I b hb n t)
  rw [ht, ceX_obj (by omega)] at hq1 hst
  refine va_putF (ci := t - 1) (v := .int (iI x)) (ty := ty) (C := C) (T := TT) (N := N) hx hb hts hin tyT htyT hnm hown hK hP hD hS q hq1 hc f hf (hts _ hq) (fun x h9 => hs.elim (fun e8 => by rw [e8]; exact h9) (fun e8 => u_same (hts _ e8) x h9)) hfin hin2 hdecl hd hn hfit (by rw [List.length_map, List.length_range, hnf]; exact hf) d (fun H1 locs1 hP1 hD1 hS1 => ?_)
  have e9 := fsX_set (t := t) (I := I) (I' := (uI I a fi x)) (R := R) (R' := R) (L := L) (L' := L) (a := a) (k := f) (v := .int (iI x)) (fun _ => by rw [hkd, hfi]; show _ = Value.int (iI (uI I a fi x a fi)); unfold uI; rw [if_pos ⟨rfl, rfl⟩]) (fun j hj => by
    have hj2 : ¬ ((j : Nat) : Int) = fi := by rw [← hfi]; omega
    unfold fvX uI
    simp only [hj2, and_false, if_false])
  rw [e9, hst] at hP1 hD1
  exact h (hok.uI hdm fi x) H1 locs1 ls zno hP1 hD1 hS1 hl
theorem gx_putrF {E : GE} {X : XT} {own : String} {cc : ByteArray} {nL : Nat} {ret : Option FieldType} (hE : OkX E X own cc nL ret) {T : xT} {I : xI} {R : xR} {L : xL} {k n pc : Nat} {lv : List LV} {st : List AV} {a : Nat} {C : String} {TT : u_T} {N t idx : Nat} (hin : ∀ w ∈ u_ws C TT N, w ∈ lw_all) (hc : xCl[t - 1]? = some (C, TT, N)) (h0 : 0 < t) (f : Nat) (fi : Int) (hfi : ((f : Nat) : Int) = fi) (hf : f < N) (hnf : xnf t = N) (ht1 : t < 25 ∨ t = 26) {ref : String} {x : Option Nat} {ty : FieldType} (tyT : Nat → FieldType) (htyT : ∀ k, k < N → parseFieldDescriptor (TT k).2.2.1 = some (tyT k)) (hnm : ∀ a, a < N → ∀ b, b < N → a ≠ b → (TT a).2.1 ≠ (TT b).2.1) (hkd : xkd t f = 1) (hq : Cond.fieldLink own idx ref (TT f).2.1 (TT f).2.2.1 ∈ lw_all) (hs : ref = (TT f).1 ∨ Cond.sameField ref (TT f).1 (TT f).2.1 (TT f).2.2.1 ∈ lw_all) (hfin : (TT f).2.2.2 = true) (hin2 : isInit E) (hdecl : (TT f).1 = own) (hd : parseFieldDescriptor (TT f).2.2.1 = some ty) (hn : narrow ty (va_rf x) = va_rf x) (hfit : fits ty (va_rf x) = true) (ht : xtag T a = t) (d : decode cc pc = .ok (.putfield idx, 3)) (h : GX E X T I (uR R a fi x) L k n (pc + 3) lv st) : GX E X T I R L k n pc lv (aR x :: aR (some a) :: st) := by
  obtain ⟨p, l, e, Rm, s, m, args, below, meth, c, A, Q, D, cl, tys⟩ := E
  obtain ⟨⟨hx, hb, hml, hown, hts, hr, hlk, hK, hA⟩, ⟨rfl, rfl, rfl, rfl⟩, hAb, hbs, hEX⟩ := hE
  intro hok H locs ls hz hP hD hS hl
  have hdm := hok.dom ht h0 (by omega) (by omega)
  obtain ⟨q, hq0, hq1⟩ := wsX_at X T I R L hdm
  have hst := wsX_set (I' := I) (R' := (uR R a fi x)) (L' := L) hD hq0 (fun b hb n t => ceX_R b hb n t)
  rw [ht, ceX_obj (by omega)] at hq1 hst
  refine va_putF (ci := t - 1) (v := va_rf x) (ty := ty) (C := C) (T := TT) (N := N) hx hb hts hin tyT htyT hnm hown hK hP hD hS q hq1 hc f hf (hts _ hq) (fun x h9 => hs.elim (fun e8 => by rw [e8]; exact h9) (fun e8 => u_same (hts _ e8) x h9)) hfin hin2 hdecl hd hn hfit (by rw [List.length_map, List.length_range, hnf]; exact hf) d (fun H1 locs1 hP1 hD1 hS1 => ?_)
  have e9 := fsX_set (t := t) (I := I) (I' := I) (R := R) (R' := (uR R a fi x)) (L := L) (L' := L) (a := a) (k := f) (v := va_rf x) (fun _ => by rw [hkd, hfi]; show _ = va_rf (uR R a fi x a fi); unfold uR; rw [if_pos ⟨rfl, rfl⟩]) (fun j hj => by
    have hj2 : ¬ ((j : Nat) : Int) = fi := by rw [← hfi]; omega
    unfold fvX uR
    simp only [hj2, and_false, if_false])
  rw [e9, hst] at hP1 hD1
  exact h (hok.uR hdm fi x) H1 locs1 ls zno hP1 hD1 hS1 hl
theorem gx_putiS {E : GE} {X : XT} {own : String} {cc : ByteArray} {nL : Nat} {ret : Option FieldType} (hE : OkX E X own cc nL ret) {T : xT} {I : xI} {R : xR} {L : xL} {k n pc : Nat} {lv : List LV} {st : List AV} {a : Nat} {C : String} {TT : u_T} {N t idx : Nat} (hin : ∀ w ∈ u_ws C TT N, w ∈ lw_all) (hc : xCl[t - 1]? = some (C, TT, N)) (h0 : 0 < t) (f : Nat) (fi : Int) (hfi : ((f : Nat) : Int) = fi) (hf : f < N) (hnf : xnf t = N) (ht1 : t = 25) (hbb : bsX X ≤ a) {ref : String} {x : Int} {ty : FieldType} (tyT : Nat → FieldType) (htyT : ∀ k, k < N → parseFieldDescriptor (TT k).2.2.1 = some (tyT k)) (hnm : ∀ a, a < N → ∀ b, b < N → a ≠ b → (TT a).2.1 ≠ (TT b).2.1) (hkd : xkd t f = 0) (hq : Cond.fieldLink own idx ref (TT f).2.1 (TT f).2.2.1 ∈ lw_all) (hs : ref = (TT f).1 ∨ Cond.sameField ref (TT f).1 (TT f).2.1 (TT f).2.2.1 ∈ lw_all) (hfin : (TT f).2.2.2 = false) (hd : parseFieldDescriptor (TT f).2.2.1 = some ty) (hn : narrow ty (.int (iI x)) = .int (iI x)) (hfit : fits ty (.int (iI x)) = true) (ht : xtag T a = t) (d : decode cc pc = .ok (.putfield idx, 3)) (h : GX E X T (uI I a fi x) R L k n (pc + 3) lv st) : GX E X T I R L k n pc lv (aI x :: aR (some a) :: st) := by
  obtain ⟨p, l, e, Rm, s, m, args, below, meth, c, A, Q, D, cl, tys⟩ := E
  obtain ⟨⟨hx, hb, hml, hown, hts, hr, hlk, hK, hA⟩, ⟨rfl, rfl, rfl, rfl⟩, hAb, hbs, hEX⟩ := hE
  intro hok H locs ls hz hP hD hS hl
  have hdm := hok.domW ht h0 hbb
  obtain ⟨q, hq0, hq1⟩ := wsX_at X T I R L hdm
  have hst := wsX_set (I' := (uI I a fi x)) (R' := R) (L' := L) hD hq0 (fun b hb n t => ceX_I b hb n t)
  rw [ht, ceX_obj (by omega)] at hq1 hst
  refine va_put (ci := t - 1) (v := .int (iI x)) (ty := ty) (C := C) (T := TT) (N := N) hx hb hts hin tyT htyT hnm hown hK hP hD hS q hq1 hc f hf (hts _ hq) (fun x h9 => hs.elim (fun e8 => by rw [e8]; exact h9) (fun e8 => u_same (hts _ e8) x h9)) hfin hd hn hfit (by rw [List.length_map, List.length_range, hnf]; exact hf) d (fun H1 locs1 hP1 hD1 hS1 => ?_)
  have e9 := fsX_set (t := t) (I := I) (I' := (uI I a fi x)) (R := R) (R' := R) (L := L) (L' := L) (a := a) (k := f) (v := .int (iI x)) (fun _ => by rw [hkd, hfi]; show _ = Value.int (iI (uI I a fi x a fi)); unfold uI; rw [if_pos ⟨rfl, rfl⟩]) (fun j hj => by
    have hj2 : ¬ ((j : Nat) : Int) = fi := by rw [← hfi]; omega
    unfold fvX uI
    simp only [hj2, and_false, if_false])
  rw [e9, hst] at hP1 hD1
  exact h (hok.uI hdm fi x) H1 locs1 ls zno hP1 hD1 hS1 hl
theorem gx_putrS {E : GE} {X : XT} {own : String} {cc : ByteArray} {nL : Nat} {ret : Option FieldType} (hE : OkX E X own cc nL ret) {T : xT} {I : xI} {R : xR} {L : xL} {k n pc : Nat} {lv : List LV} {st : List AV} {a : Nat} {C : String} {TT : u_T} {N t idx : Nat} (hin : ∀ w ∈ u_ws C TT N, w ∈ lw_all) (hc : xCl[t - 1]? = some (C, TT, N)) (h0 : 0 < t) (f : Nat) (fi : Int) (hfi : ((f : Nat) : Int) = fi) (hf : f < N) (hnf : xnf t = N) (ht1 : t = 25) (hbb : bsX X ≤ a) {ref : String} {x : Option Nat} {ty : FieldType} (tyT : Nat → FieldType) (htyT : ∀ k, k < N → parseFieldDescriptor (TT k).2.2.1 = some (tyT k)) (hnm : ∀ a, a < N → ∀ b, b < N → a ≠ b → (TT a).2.1 ≠ (TT b).2.1) (hkd : xkd t f = 1) (hq : Cond.fieldLink own idx ref (TT f).2.1 (TT f).2.2.1 ∈ lw_all) (hs : ref = (TT f).1 ∨ Cond.sameField ref (TT f).1 (TT f).2.1 (TT f).2.2.1 ∈ lw_all) (hfin : (TT f).2.2.2 = false) (hd : parseFieldDescriptor (TT f).2.2.1 = some ty) (hn : narrow ty (va_rf x) = va_rf x) (hfit : fits ty (va_rf x) = true) (ht : xtag T a = t) (d : decode cc pc = .ok (.putfield idx, 3)) (h : GX E X T I (uR R a fi x) L k n (pc + 3) lv st) : GX E X T I R L k n pc lv (aR x :: aR (some a) :: st) := by
  obtain ⟨p, l, e, Rm, s, m, args, below, meth, c, A, Q, D, cl, tys⟩ := E
  obtain ⟨⟨hx, hb, hml, hown, hts, hr, hlk, hK, hA⟩, ⟨rfl, rfl, rfl, rfl⟩, hAb, hbs, hEX⟩ := hE
  intro hok H locs ls hz hP hD hS hl
  have hdm := hok.domW ht h0 hbb
  obtain ⟨q, hq0, hq1⟩ := wsX_at X T I R L hdm
  have hst := wsX_set (I' := I) (R' := (uR R a fi x)) (L' := L) hD hq0 (fun b hb n t => ceX_R b hb n t)
  rw [ht, ceX_obj (by omega)] at hq1 hst
  refine va_put (ci := t - 1) (v := va_rf x) (ty := ty) (C := C) (T := TT) (N := N) hx hb hts hin tyT htyT hnm hown hK hP hD hS q hq1 hc f hf (hts _ hq) (fun x h9 => hs.elim (fun e8 => by rw [e8]; exact h9) (fun e8 => u_same (hts _ e8) x h9)) hfin hd hn hfit (by rw [List.length_map, List.length_range, hnf]; exact hf) d (fun H1 locs1 hP1 hD1 hS1 => ?_)
  have e9 := fsX_set (t := t) (I := I) (I' := I) (R := R) (R' := (uR R a fi x)) (L := L) (L' := L) (a := a) (k := f) (v := va_rf x) (fun _ => by rw [hkd, hfi]; show _ = va_rf (uR R a fi x a fi); unfold uR; rw [if_pos ⟨rfl, rfl⟩]) (fun j hj => by
    have hj2 : ¬ ((j : Nat) : Int) = fi := by rw [← hfi]; omega
    unfold fvX uR
    simp only [hj2, and_false, if_false])
  rw [e9, hst] at hP1 hD1
  exact h (hok.uR hdm fi x) H1 locs1 ls zno hP1 hD1 hS1 hl
theorem gx_putiFS {E : GE} {X : XT} {own : String} {cc : ByteArray} {nL : Nat} {ret : Option FieldType} (hE : OkX E X own cc nL ret) {T : xT} {I : xI} {R : xR} {L : xL} {k n pc : Nat} {lv : List LV} {st : List AV} {a : Nat} {C : String} {TT : u_T} {N t idx : Nat} (hin : ∀ w ∈ u_ws C TT N, w ∈ lw_all) (hc : xCl[t - 1]? = some (C, TT, N)) (h0 : 0 < t) (f : Nat) (fi : Int) (hfi : ((f : Nat) : Int) = fi) (hf : f < N) (hnf : xnf t = N) (ht1 : t = 25) (hbb : bsX X ≤ a) {ref : String} {x : Int} {ty : FieldType} (tyT : Nat → FieldType) (htyT : ∀ k, k < N → parseFieldDescriptor (TT k).2.2.1 = some (tyT k)) (hnm : ∀ a, a < N → ∀ b, b < N → a ≠ b → (TT a).2.1 ≠ (TT b).2.1) (hkd : xkd t f = 0) (hq : Cond.fieldLink own idx ref (TT f).2.1 (TT f).2.2.1 ∈ lw_all) (hs : ref = (TT f).1 ∨ Cond.sameField ref (TT f).1 (TT f).2.1 (TT f).2.2.1 ∈ lw_all) (hfin : (TT f).2.2.2 = true) (hin2 : isInit E) (hdecl : (TT f).1 = own) (hd : parseFieldDescriptor (TT f).2.2.1 = some ty) (hn : narrow ty (.int (iI x)) = .int (iI x)) (hfit : fits ty (.int (iI x)) = true) (ht : xtag T a = t) (d : decode cc pc = .ok (.putfield idx, 3)) (h : GX E X T (uI I a fi x) R L k n (pc + 3) lv st) : GX E X T I R L k n pc lv (aI x :: aR (some a) :: st) := by
  obtain ⟨p, l, e, Rm, s, m, args, below, meth, c, A, Q, D, cl, tys⟩ := E
  obtain ⟨⟨hx, hb, hml, hown, hts, hr, hlk, hK, hA⟩, ⟨rfl, rfl, rfl, rfl⟩, hAb, hbs, hEX⟩ := hE
  intro hok H locs ls hz hP hD hS hl
  have hdm := hok.domW ht h0 hbb
  obtain ⟨q, hq0, hq1⟩ := wsX_at X T I R L hdm
  have hst := wsX_set (I' := (uI I a fi x)) (R' := R) (L' := L) hD hq0 (fun b hb n t => ceX_I b hb n t)
  rw [ht, ceX_obj (by omega)] at hq1 hst
  refine va_putF (ci := t - 1) (v := .int (iI x)) (ty := ty) (C := C) (T := TT) (N := N) hx hb hts hin tyT htyT hnm hown hK hP hD hS q hq1 hc f hf (hts _ hq) (fun x h9 => hs.elim (fun e8 => by rw [e8]; exact h9) (fun e8 => u_same (hts _ e8) x h9)) hfin hin2 hdecl hd hn hfit (by rw [List.length_map, List.length_range, hnf]; exact hf) d (fun H1 locs1 hP1 hD1 hS1 => ?_)
  have e9 := fsX_set (t := t) (I := I) (I' := (uI I a fi x)) (R := R) (R' := R) (L := L) (L' := L) (a := a) (k := f) (v := .int (iI x)) (fun _ => by rw [hkd, hfi]; show _ = Value.int (iI (uI I a fi x a fi)); unfold uI; rw [if_pos ⟨rfl, rfl⟩]) (fun j hj => by
    have hj2 : ¬ ((j : Nat) : Int) = fi := by rw [← hfi]; omega
    unfold fvX uI
    simp only [hj2, and_false, if_false])
  rw [e9, hst] at hP1 hD1
  exact h (hok.uI hdm fi x) H1 locs1 ls zno hP1 hD1 hS1 hl
theorem gx_putrFS {E : GE} {X : XT} {own : String} {cc : ByteArray} {nL : Nat} {ret : Option FieldType} (hE : OkX E X own cc nL ret) {T : xT} {I : xI} {R : xR} {L : xL} {k n pc : Nat} {lv : List LV} {st : List AV} {a : Nat} {C : String} {TT : u_T} {N t idx : Nat} (hin : ∀ w ∈ u_ws C TT N, w ∈ lw_all) (hc : xCl[t - 1]? = some (C, TT, N)) (h0 : 0 < t) (f : Nat) (fi : Int) (hfi : ((f : Nat) : Int) = fi) (hf : f < N) (hnf : xnf t = N) (ht1 : t = 25) (hbb : bsX X ≤ a) {ref : String} {x : Option Nat} {ty : FieldType} (tyT : Nat → FieldType) (htyT : ∀ k, k < N → parseFieldDescriptor (TT k).2.2.1 = some (tyT k)) (hnm : ∀ a, a < N → ∀ b, b < N → a ≠ b → (TT a).2.1 ≠ (TT b).2.1) (hkd : xkd t f = 1) (hq : Cond.fieldLink own idx ref (TT f).2.1 (TT f).2.2.1 ∈ lw_all) (hs : ref = (TT f).1 ∨ Cond.sameField ref (TT f).1 (TT f).2.1 (TT f).2.2.1 ∈ lw_all) (hfin : (TT f).2.2.2 = true) (hin2 : isInit E) (hdecl : (TT f).1 = own) (hd : parseFieldDescriptor (TT f).2.2.1 = some ty) (hn : narrow ty (va_rf x) = va_rf x) (hfit : fits ty (va_rf x) = true) (ht : xtag T a = t) (d : decode cc pc = .ok (.putfield idx, 3)) (h : GX E X T I (uR R a fi x) L k n (pc + 3) lv st) : GX E X T I R L k n pc lv (aR x :: aR (some a) :: st) := by
  obtain ⟨p, l, e, Rm, s, m, args, below, meth, c, A, Q, D, cl, tys⟩ := E
  obtain ⟨⟨hx, hb, hml, hown, hts, hr, hlk, hK, hA⟩, ⟨rfl, rfl, rfl, rfl⟩, hAb, hbs, hEX⟩ := hE
  intro hok H locs ls hz hP hD hS hl
  have hdm := hok.domW ht h0 hbb
  obtain ⟨q, hq0, hq1⟩ := wsX_at X T I R L hdm
  have hst := wsX_set (I' := I) (R' := (uR R a fi x)) (L' := L) hD hq0 (fun b hb n t => ceX_R b hb n t)
  rw [ht, ceX_obj (by omega)] at hq1 hst
  refine va_putF (ci := t - 1) (v := va_rf x) (ty := ty) (C := C) (T := TT) (N := N) hx hb hts hin tyT htyT hnm hown hK hP hD hS q hq1 hc f hf (hts _ hq) (fun x h9 => hs.elim (fun e8 => by rw [e8]; exact h9) (fun e8 => u_same (hts _ e8) x h9)) hfin hin2 hdecl hd hn hfit (by rw [List.length_map, List.length_range, hnf]; exact hf) d (fun H1 locs1 hP1 hD1 hS1 => ?_)
  have e9 := fsX_set (t := t) (I := I) (I' := I) (R := R) (R' := (uR R a fi x)) (L := L) (L' := L) (a := a) (k := f) (v := va_rf x) (fun _ => by rw [hkd, hfi]; show _ = va_rf (uR R a fi x a fi); unfold uR; rw [if_pos ⟨rfl, rfl⟩]) (fun j hj => by
    have hj2 : ¬ ((j : Nat) : Int) = fi := by rw [← hfi]; omega
    unfold fvX uR
    simp only [hj2, and_false, if_false])
  rw [e9, hst] at hP1 hD1
  exact h (hok.uR hdm fi x) H1 locs1 ls zno hP1 hD1 hS1 hl
theorem gx_putiN {E : GE} {X : XT} {own : String} {cc : ByteArray} {nL : Nat} {ret : Option FieldType} (hE : OkX E X own cc nL ret) {T : xT} {I : xI} {R : xR} {L : xL} {k n pc : Nat} {lv : List LV} {st : List AV} {a : Nat} {C : String} {TT : u_T} {N t idx : Nat} (hin : ∀ w ∈ u_ws C TT N, w ∈ lw_all) (hc : xCl[t - 1]? = some (C, TT, N)) (h0 : 0 < t) (f : Nat) (fi : Int) (hfi : ((f : Nat) : Int) = fi) (hf : f < N) (hnf : xnf t = N) (ht1 : t < 25 ∨ t = 26) {ref : String} {x : Int} {ty : FieldType} (tyT : Nat → FieldType) (htyT : ∀ k, k < N → parseFieldDescriptor (TT k).2.2.1 = some (tyT k)) (hnm : ∀ a, a < N → ∀ b, b < N → a ≠ b → (TT a).2.1 ≠ (TT b).2.1) (hkd : xkd t f = 0) {host : String} (hq : Cond.fieldLinkNest own idx ref (TT f).2.1 (TT f).2.2.1 host ∈ lw_tbl) (hs : ref = (TT f).1 ∨ Cond.sameField ref (TT f).1 (TT f).2.1 (TT f).2.2.1 ∈ lw_all) (hfin : (TT f).2.2.2 = false) (hd : parseFieldDescriptor (TT f).2.2.1 = some ty) (hn : narrow ty (.int (iI x)) = .int (iI x)) (hfit : fits ty (.int (iI x)) = true) (ht : xtag T a = t) (d : decode cc pc = .ok (.putfield idx, 3)) (h : GX E X T (uI I a fi x) R L k n (pc + 3) lv st) : GX E X T I R L k n pc lv (aI x :: aR (some a) :: st) := by
  obtain ⟨p, l, e, Rm, s, m, args, below, meth, c, A, Q, D, cl, tys⟩ := E
  obtain ⟨⟨hx, hb, hml, hown, hts, hr, hlk, hK, hA⟩, ⟨rfl, rfl, rfl, rfl⟩, hAb, hbs, hEX⟩ := hE
  intro hok H locs ls hz hP hD hS hl
  have hdm := hok.dom ht h0 (by omega) (by omega)
  obtain ⟨q, hq0, hq1⟩ := wsX_at X T I R L hdm
  have hst := wsX_set (I' := (uI I a fi x)) (R' := R) (L' := L) hD hq0 (fun b hb n t => ceX_I b hb n t)
  rw [ht, ceX_obj (by omega)] at hq1 hst
  refine va_putN (ci := t - 1) (v := .int (iI x)) (ty := ty) (C := C) (T := TT) (N := N) hx hb hts hin tyT htyT hnm hown hK hP hD hS q hq1 hc f hf (va_Nw.use rfl (hEX.nw _ hq rfl)) (fun x h9 => hs.elim (fun e8 => by rw [e8]; exact h9) (fun e8 => u_same (hts _ e8) x h9)) hfin hd hn hfit (by rw [List.length_map, List.length_range, hnf]; exact hf) d (fun H1 locs1 hP1 hD1 hS1 => ?_)
  have e9 := fsX_set (t := t) (I := I) (I' := (uI I a fi x)) (R := R) (R' := R) (L := L) (L' := L) (a := a) (k := f) (v := .int (iI x)) (fun _ => by rw [hkd, hfi]; show _ = Value.int (iI (uI I a fi x a fi)); unfold uI; rw [if_pos ⟨rfl, rfl⟩]) (fun j hj => by
    have hj2 : ¬ ((j : Nat) : Int) = fi := by rw [← hfi]; omega
    unfold fvX uI
    simp only [hj2, and_false, if_false])
  rw [e9, hst] at hP1 hD1
  exact h (hok.uI hdm fi x) H1 locs1 ls zno hP1 hD1 hS1 hl
theorem gx_putrN {E : GE} {X : XT} {own : String} {cc : ByteArray} {nL : Nat} {ret : Option FieldType} (hE : OkX E X own cc nL ret) {T : xT} {I : xI} {R : xR} {L : xL} {k n pc : Nat} {lv : List LV} {st : List AV} {a : Nat} {C : String} {TT : u_T} {N t idx : Nat} (hin : ∀ w ∈ u_ws C TT N, w ∈ lw_all) (hc : xCl[t - 1]? = some (C, TT, N)) (h0 : 0 < t) (f : Nat) (fi : Int) (hfi : ((f : Nat) : Int) = fi) (hf : f < N) (hnf : xnf t = N) (ht1 : t < 25 ∨ t = 26) {ref : String} {x : Option Nat} {ty : FieldType} (tyT : Nat → FieldType) (htyT : ∀ k, k < N → parseFieldDescriptor (TT k).2.2.1 = some (tyT k)) (hnm : ∀ a, a < N → ∀ b, b < N → a ≠ b → (TT a).2.1 ≠ (TT b).2.1) (hkd : xkd t f = 1) {host : String} (hq : Cond.fieldLinkNest own idx ref (TT f).2.1 (TT f).2.2.1 host ∈ lw_tbl) (hs : ref = (TT f).1 ∨ Cond.sameField ref (TT f).1 (TT f).2.1 (TT f).2.2.1 ∈ lw_all) (hfin : (TT f).2.2.2 = false) (hd : parseFieldDescriptor (TT f).2.2.1 = some ty) (hn : narrow ty (va_rf x) = va_rf x) (hfit : fits ty (va_rf x) = true) (ht : xtag T a = t) (d : decode cc pc = .ok (.putfield idx, 3)) (h : GX E X T I (uR R a fi x) L k n (pc + 3) lv st) : GX E X T I R L k n pc lv (aR x :: aR (some a) :: st) := by
  obtain ⟨p, l, e, Rm, s, m, args, below, meth, c, A, Q, D, cl, tys⟩ := E
  obtain ⟨⟨hx, hb, hml, hown, hts, hr, hlk, hK, hA⟩, ⟨rfl, rfl, rfl, rfl⟩, hAb, hbs, hEX⟩ := hE
  intro hok H locs ls hz hP hD hS hl
  have hdm := hok.dom ht h0 (by omega) (by omega)
  obtain ⟨q, hq0, hq1⟩ := wsX_at X T I R L hdm
  have hst := wsX_set (I' := I) (R' := (uR R a fi x)) (L' := L) hD hq0 (fun b hb n t => ceX_R b hb n t)
  rw [ht, ceX_obj (by omega)] at hq1 hst
  refine va_putN (ci := t - 1) (v := va_rf x) (ty := ty) (C := C) (T := TT) (N := N) hx hb hts hin tyT htyT hnm hown hK hP hD hS q hq1 hc f hf (va_Nw.use rfl (hEX.nw _ hq rfl)) (fun x h9 => hs.elim (fun e8 => by rw [e8]; exact h9) (fun e8 => u_same (hts _ e8) x h9)) hfin hd hn hfit (by rw [List.length_map, List.length_range, hnf]; exact hf) d (fun H1 locs1 hP1 hD1 hS1 => ?_)
  have e9 := fsX_set (t := t) (I := I) (I' := I) (R := R) (R' := (uR R a fi x)) (L := L) (L' := L) (a := a) (k := f) (v := va_rf x) (fun _ => by rw [hkd, hfi]; show _ = va_rf (uR R a fi x a fi); unfold uR; rw [if_pos ⟨rfl, rfl⟩]) (fun j hj => by
    have hj2 : ¬ ((j : Nat) : Int) = fi := by rw [← hfi]; omega
    unfold fvX uR
    simp only [hj2, and_false, if_false])
  rw [e9, hst] at hP1 hD1
  exact h (hok.uR hdm fi x) H1 locs1 ls zno hP1 hD1 hS1 hl
