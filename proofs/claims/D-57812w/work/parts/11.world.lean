/-! ===== the classes whose objects are followed, by their tags; the arrays; the world of the machine that a run's numbers stand for ===== -/
abbrev vz_C : Type := String × u_T × Nat × (Nat → FieldType)
/-- by tag - 1 -/
def gcl : List vz_C := [(RX1, TX1, 8, tyX1), (RX2, TX2, 16, tyX2), (RX3, TX3, 4, tyX3), (RX4, TX4, 4, tyX4), (RX5, TX5, 4, tyX5), (RJ3, TJ3, 3, tyJ3), (RJ20, TJ20, 3, tyJ20), (RJ24, TJ24, 4, tyJ24), (RX9, TX9, 1, tyX9), (RX10, TX10, 2, tyX10), (RX11, TX11, 2, tyX11), (RX7, TX7, 7, tyX7), (RX8, TX8, 8, tyX8), (RJ10, TJ10, 4, tyJ10), (RJ9, TJ9, 4, tyJ9), (RJ18, TJ18, 1, tyJ18), (RX6, TX6, 23, tyX6)]
theorem gcl_ok : ∀ (t : Nat) (r : vz_C), gcl[t]? = some r → (∀ w ∈ u_ws r.1 r.2.1 r.2.2.1, w ∈ lw_all) ∧ (∀ k, k < r.2.2.1 → parseFieldDescriptor (r.2.1 k).2.2.1 = some (r.2.2.2 k)) ∧ (∀ a, a < r.2.2.1 → ∀ b, b < r.2.2.1 → a ≠ b → (r.2.1 a).2.1 ≠ (r.2.1 b).2.1) := by
  intro t r h
  match t, h with
  | 0, h => cases h; exact ⟨in_X1, tyX1_ok, nmX1⟩
  | 1, h => cases h; exact ⟨in_X2, tyX2_ok, nmX2⟩
  | 2, h => cases h; exact ⟨in_X3, tyX3_ok, nmX3⟩
  | 3, h => cases h; exact ⟨in_X4, tyX4_ok, nmX4⟩
  | 4, h => cases h; exact ⟨in_X5, tyX5_ok, nmX5⟩
  | 5, h => cases h; exact ⟨in_J3, tyJ3_ok, nmJ3⟩
  | 6, h => cases h; exact ⟨in_J20, tyJ20_ok, nmJ20⟩
  | 7, h => cases h; exact ⟨in_J24, tyJ24_ok, nmJ24⟩
  | 8, h => cases h; exact ⟨in_X9, tyX9_ok, nmX9⟩
  | 9, h => cases h; exact ⟨in_X10, tyX10_ok, nmX10⟩
  | 10, h => cases h; exact ⟨in_X11, tyX11_ok, nmX11⟩
  | 11, h => cases h; exact ⟨in_X7, tyX7_ok, nmX7⟩
  | 12, h => cases h; exact ⟨in_X8, tyX8_ok, nmX8⟩
  | 13, h => cases h; exact ⟨in_J10, tyJ10_ok, nmJ10⟩
  | 14, h => cases h; exact ⟨in_J9, tyJ9_ok, nmJ9⟩
  | 15, h => cases h; exact ⟨in_J18, tyJ18_ok, nmJ18⟩
  | 16, h => cases h; exact ⟨in_X6, tyX6_ok, nmX6⟩
  | t + 17, h => simp [gcl] at h
/-- the element types of the arrays, by tag -/
def gaT (t : Nat) : Option FieldType := if t = 100 then some .int else if t = 101 then some .byte else if t = 102 then some .long else if t = 200 then some (.object "java/lang/Object") else if t = 201 then some (.object "HedgeMessages$Twig") else if t = 202 then some (.object "HedgeMessages$Message") else if t = 203 then some (.object "HedgeMessages$Counters") else if t = 204 then some (.object "HedgeMessages$Operation") else if t = 205 then some (.object "java/lang/Integer") else none
/-- what a lambda's object holds, by tag (310 .. 317: the parser's, 320 .. 327: the operations') -/
def capT (t k : Nat) : Option FieldType := match t, k with
  | 310, 0 => some .int | 310, 1 => some .char
  | 311, 0 => some .int
  | 312, 0 => some .int | 312, 1 => some .int
  | 313, 0 => some .int | 313, 1 => some .int
  | 314, 0 => some .int | 314, 1 => some (.object "java/lang/String")
  | 315, 0 => some .int | 315, 1 => some .int
  | 316, 0 => some .int
  | 317, 0 => some .int
  | 320, 0 => some .int | 320, 1 => some .int
  | 321, 0 => some .int
  | 322, 0 => some .int | 322, 1 => some .int
  | 323, 0 => some .int | 323, 1 => some .int
  | 324, 0 => some .int | 324, 1 => some (.object "java/lang/String")
  | 325, 0 => some .int | 325, 1 => some .int
  | 326, 0 => some .int
  | 327, 0 => some .int
  | _, _ => none
/-- the type of the k-th field of an object of tag t -/
def fTy (t k : Nat) : Option FieldType := if t < 100 then (match gcl[t - 1]? with | some r => if 1 ≤ t ∧ k < r.2.2.1 then some (r.2.2.2 k) else none | none => none) else capT t k
/-- launch, the least address of the run's own cells, the constants' addresses, the classes by tag, the fields' slots, the heap at the start -/
abbrev Wd : Type := Launch × Nat × (Nat → Option Nat) × (Nat → ClassId) × (Nat → Nat → Nat) × Heap
def wdL (w : Wd) : Launch := w.1
def wdN (w : Wd) : Nat := w.2.1
def wdK (w : Wd) : Nat → Option Nat := w.2.2.1
def wdA (w : Wd) : Nat → ClassId := w.2.2.2.1
def wdS (w : Wd) : Nat → Nat → Nat := w.2.2.2.2.1
def wdH (w : Wd) : Heap := w.2.2.2.2.2
/-- a ghost address as the machine has it -/
def rvo (w : Wd) (r : Nat) : Option Nat := if r = 0 then none else if r < NC then wdK w r else some (wdN w + (r - NC))
def rv (w : Wd) (r : Nat) : Value := va_rf (rvo w r)
theorem rv_0 (w : Wd) : rv w 0 = .null := rfl
theorem rvo_new {w : Wd} {r : Nat} (h : NC ≤ r) : rvo w r = some (wdN w + (r - NC)) := by
  have h0 : r ≠ 0 := by unfold NC at h; omega
  unfold rvo
  rw [if_neg h0, if_neg (by omega)]
theorem rv_new {w : Wd} {r : Nat} (h : NC ≤ r) : rv w r = .ref (wdN w + (r - NC)) := by
  unfold rv
  rw [rvo_new h]
  rfl
theorem rv_cat (w : Wd) (r : Nat) : (rv w r).category = 1 := by
  unfold rv va_rf
  cases rvo w r <;> rfl
theorem rv_ref (w : Wd) (r : Nat) : rv w r = .null ∨ ∃ a, rv w r = .ref a := by
  unfold rv va_rf
  cases rvo w r with
  | none => exact Or.inl rfl
  | some a => exact Or.inr ⟨a, rfl⟩
theorem rv_some {w : Wd} {r q : Nat} : rv w r = .ref q ↔ rvo w r = some q := by
  unfold rv va_rf
  cases rvo w r with
  | none => simp
  | some a => simp
/-- a field's value -/
def fvl (w : Wd) (h : PH) (t k : Nat) (ty : FieldType) (a : Nat) : Value := if ty.isReference = true then rv w (gR h (100 * t + k) a) else .int (gI h (100 * t + k) a)
def evl (w : Wd) (h : PH) (t a i : Nat) : Value := if t < 200 then .int (gA h t a i) else rv w (gB h t a i)
/-- the cell is the object or array a of the ghost heap -/
def Ro (w : Wd) (h : PH) (a : Nat) (cell : Cell) : Prop :=
  cell.cls = wdA w (gT h a) ∧ (∀ (k : Nat) (ty : FieldType), fTy (gT h a) k = some ty → cell.slots[wdS w (gT h a) k]? = some (fvl w h (gT h a) k ty a)) ∧
  (100 ≤ gT h a → gT h a < 300 → cell.slots.size = gL h a ∧ ∀ i, i < gL h a → cell.slots[i]? = some (evl w h (gT h a) a i))
def Rp1 (w : Wd) (h : PH) (H : Heap) (a : Nat) : Prop :=
  ∃ (q : Nat) (cell : Cell), rvo w a = some q ∧ (a < NC → q < wdN w) ∧ H[q]? = some cell ∧ cell.vm ≠ .unknown ∧ cell.vm.isStatics = false ∧ (NC ≤ a → cell.vm = .none) ∧ Ro w h a cell
/-- the machine's heap holds the ghost heap -/
def Rep (w : Wd) (h : PH) (H : Heap) : Prop :=
  H.size = wdN w + (gN h - NC) ∧ NC ≤ gN h ∧ gT h 0 = 0 ∧ (∀ a, gN h ≤ a → gT h a = 0) ∧ (∀ q, q < wdN w → H[q]? = (wdH w)[q]?) ∧ ∀ a, gT h a ≠ 0 → Rp1 w h H a
/-- since h0, H0: no cell that h0 doesn't follow has changed, no tag has changed -/
def Fr (w : Wd) (h0 : PH) (H0 : Heap) (h : PH) (H : Heap) : Prop :=
  H0.size = wdN w + (gN h0 - NC) ∧ gN h0 ≤ gN h ∧ (∀ a, a < gN h0 → gT h a = gT h0 a) ∧ ∀ q, q < H0.size → (∀ a, gT h0 a ≠ 0 → rvo w a ≠ some q) → H[q]? = H0[q]?
theorem Fr.refl {w : Wd} {h : PH} {H : Heap} (r : Rep w h H) : Fr w h H h H := ⟨r.1, Nat.le_refl _, fun _ _ => rfl, fun _ _ _ => rfl⟩
theorem Fr.trans {w : Wd} {h0 h1 h2 : PH} {H0 H1 H2 : Heap} (a : Fr w h0 H0 h1 H1) (b : Fr w h1 H1 h2 H2) (z : NC ≤ gN h0) : Fr w h0 H0 h2 H2 := by
  obtain ⟨a1, a2, a3, a4⟩ := a
  obtain ⟨b1, b2, b3, b4⟩ := b
  refine ⟨a1, Nat.le_trans a2 b2, fun x hx => ?_, fun q hq hn => ?_⟩
  · rw [b3 x (Nat.lt_of_lt_of_le hx a2), a3 x hx]
  · have h1 : q < H1.size := by rw [b1]; rw [a1] at hq; omega
    rw [b4 q h1 ?_, a4 q hq hn]
    intro x hx e
    by_cases hl : x < gN h0
    · exact hn x (by rw [← a3 x hl]; exact hx) e
    · have hx1 : NC ≤ x := by omega
      rw [rvo_new hx1] at e
      have := Option.some.inj e
      omega
/-! what the tables say, all through a run -/
def nwk : Cond → Bool
  | .fieldLinkNest _ _ _ _ _ _ => true
  | .methodLinkNest _ _ _ _ => true
  | .castable _ _ => true
  | .declares _ => true
  | .privateMethod _ => true
  | _ => false
theorem nwk_warmP {x : MethodName} {s U : State} (hW : s.WarmedH U.vm) (hZ : va_Nw (.privateMethod x) s) : va_Nw (.privateMethod x) U := va_tabs rfl (rfl : (s.setVm U.vm).vm = U.vm) (by rw [Cond.privateMethod_setVm hW.alike]; exact hZ)
theorem nwk_warm {wd : Cond} (hk : nwk wd = true) {s U : State} (hW : s.WarmedH U.vm) (h : va_Nw wd s) : va_Nw wd U := by
  cases wd <;> first | exact absurd hk (by decide) | exact va_Nw.warmF hW h | exact va_Nw.warmM hW h | exact va_Nw.warmC hW h | exact va_Nw.warmD hW h | exact nwk_warmP hW h | (simp [nwk] at hk)
/-- classes and their slots; arrays; the words that don't ride in the lists -/
def KW1 (w : Wd) (U : State) : Prop := ∀ (t : Nat) (r : vz_C), 1 ≤ t → t < 100 → gcl[t - 1]? = some r → u_Kn U r.1 r.2.1 r.2.2.1 (wdA w t) (wdS w t)
def KW2 (w : Wd) (U : State) : Prop := ∀ (t : Nat) (ty : FieldType), gaT t = some ty → ∃ (kA : Class) (comp : ClassId), U.vm.classes[wdA w t]? = some kA ∧ kA.kind = .array comp ty ∧ (t < 205 → U.vm.findClass ("[" ++ ty.toString) = some (wdA w t) ∧ ∀ C, ty = .object C → U.vm.findClass C = some comp)
def KW3 (U : State) : Prop := ∀ wd ∈ lw_tbl, nwk wd = true → va_Nw wd U
def KW4 (U : State) : Prop := ∀ C ∈ (["java/lang/Object", "HedgeMessages$Twig", "HedgeMessages$Message", "HedgeMessages$Counters", "HedgeMessages$Operation"] : List String), va_AO C U
/-- constants of one group: none is null, each is old, they differ -/
def KW5 (w : Wd) : Prop := (∀ a, a < NC → grp a ≠ 0 → ∃ q, wdK w a = some q ∧ q < wdN w) ∧ ∀ a b, a < NC → b < NC → grp a ≠ 0 → grp a = grp b → wdK w a = wdK w b → a = b
/-- static fields: class, name, type, the constant -/
def stTab : List (String × String × String × Nat) := [("HedgeMessages$TokenKind", "END", "LHedgeMessages$TokenKind;", 1), ("HedgeMessages$TokenKind", "WORD", "LHedgeMessages$TokenKind;", 2), ("HedgeMessages$TokenKind", "NUMBER", "LHedgeMessages$TokenKind;", 3), ("HedgeMessages$TokenKind", "OTHER", "LHedgeMessages$TokenKind;", 4),
  ("java/util/ArrayList", "DEFAULTCAPACITY_EMPTY_ELEMENTDATA", "[Ljava/lang/Object;", 5), ("java/util/ArrayList", "EMPTY_ELEMENTDATA", "[Ljava/lang/Object;", 6), ("java/lang/Integer$IntegerCache", "cache", "[Ljava/lang/Integer;", 10), ("java/lang/Throwable", "UNASSIGNED_STACK", "[Ljava/lang/StackTraceElement;", 20), ("java/lang/Throwable", "SUPPRESSED_SENTINEL", "Ljava/util/List;", 21), ("jdk/internal/util/Preconditions", "SIOOBE_FORMATTER", "Ljava/util/function/BiFunction;", 22)]
def siTab : List (String × String × String × Int32) := [("java/lang/Integer$IntegerCache", "high", "I", 127), ("java/lang/String", "COMPACT_STRINGS", "Z", 1)]
def KW6 (w : Wd) (U : State) : Prop := (∀ z ∈ stTab, va_Z z.1 z.2.1 z.2.2.1 (rv w z.2.2.2) (fun q => wdN w ≤ q) U (wdH w)) ∧ (∀ z ∈ siTab, va_Z z.1 z.2.1 z.2.2.1 (.int z.2.2.2) (fun q => wdN w ≤ q) U (wdH w)) ∧ vx_L Bundle.tN "UNASSIGNED_STACK" Bundle.steD (fun q => wdN w ≤ q) U (wdH w) ∧ vx_L Bundle.tN "SUPPRESSED_SENTINEL" Bundle.listD (fun q => wdN w ≤ q) U (wdH w)
/-- the String constants that the code loads: class, entry, text, the constant -/
def strTab : List (String × Nat × String × Nat) := [("HedgeMessages$Parser", 22, "", 7), ("HedgeMessages", 461, "", 7), ("HedgeMessages$Parser", 116, "hedge", 8), ("HedgeMessages$Parser", 140, "twig", 30), ("HedgeMessages$Parser", 142, "nest", 31), ("HedgeMessages$Parser", 144, "message", 32), ("HedgeMessages$Parser", 202, "plant", 33), ("HedgeMessages$Parser", 203, "remove", 34), ("HedgeMessages$Parser", 205, "trim", 35), ("HedgeMessages$Parser", 207, "cancel", 36), ("HedgeMessages$Parser", 209, "work", 37),
  ("HedgeMessages", 131, "plant", 33), ("HedgeMessages", 136, "remove", 34), ("HedgeMessages", 138, "trim", 35), ("HedgeMessages", 140, "nest", 31), ("HedgeMessages", 142, "message", 32), ("HedgeMessages", 144, "cancel", 36), ("HedgeMessages", 146, "work", 37), ("HedgeMessages", 148, "end", 38), ("HedgeMessages", 70, "hello", 39), ("HedgeMessages", 79, "yes", 40), ("HedgeMessages", 81, "no", 41),
  ("HedgeMessagesModel", 272, "hedge", 8), ("HedgeMessagesModel", 293, "twig", 30), ("HedgeMessagesModel", 298, "nest", 31), ("HedgeMessagesModel", 303, "message", 32), ("HedgeMessagesModel", 324, "cancel", 36), ("HedgeMessagesModel", 326, "work", 37), ("HedgeMessagesModel", 328, "end", 38), ("HedgeMessagesModel", 330, "plant", 33), ("HedgeMessagesModel", 332, "remove", 34), ("HedgeMessagesModel", 334, "trim", 35),
  ("HedgeMessagesModel", 41, "hedge 16 4 2 5 3 4;twig 2 q 0 3;twig 9 r 1 6;nest 10 5;message 0 hello;message 1 yes;message 0 no;", 42)]
def KW7 (w : Wd) (U : State) : Prop := ∀ z ∈ strTab, ∃ q, wdK w z.2.2.2 = some q ∧ vk_R z.1 z.2.1 z.2.2.1 q U
/-- the Class object of Object[], the constant 9 -/
def exTab : List (String × Nat) := [("java/lang/IllegalArgumentException", 300), ("java/lang/IllegalStateException", 301), ("java/lang/IndexOutOfBoundsException", 302)]
/-- pairs of exceptions' classes: the first is not the second nor below it -/
def ncTab : List (String × String) := [("java/lang/IllegalArgumentException", "java/lang/IllegalStateException"), ("java/lang/IllegalArgumentException", "java/lang/IndexOutOfBoundsException"), ("java/lang/IllegalStateException", "java/lang/IllegalArgumentException"), ("java/lang/IllegalStateException", "java/lang/IndexOutOfBoundsException"), ("java/lang/IndexOutOfBoundsException", "java/lang/IllegalArgumentException"), ("java/lang/IndexOutOfBoundsException", "java/lang/IllegalStateException")]
def KW8 (w : Wd) (U : State) : Prop := (∃ mi, wdK w 9 = some mi ∧ va_Mi "[Ljava/lang/Object;" mi U) ∧ va_Dc U ∧ (∀ z ∈ exTab, U.vm.findClass z.1 = some (wdA w z.2)) ∧ ∀ z ∈ ncTab, va_Nc z.1 z.2 U
/-- calls through an interface: the receiver's class, the named method, the one that runs -/
def ifTab : List (String × MethodName × MethodName) := [
  ("java/util/ArrayList", ⟨"java/util/List", "add", "(Ljava/lang/Object;)Z"⟩, ⟨"java/util/ArrayList", "add", "(Ljava/lang/Object;)Z"⟩), ("java/util/ArrayList", ⟨"java/util/List", "addAll", "(Ljava/util/Collection;)Z"⟩, ⟨"java/util/ArrayList", "addAll", "(Ljava/util/Collection;)Z"⟩),
  ("java/util/ArrayList", ⟨"java/util/List", "get", "(I)Ljava/lang/Object;"⟩, ⟨"java/util/ArrayList", "get", "(I)Ljava/lang/Object;"⟩), ("java/util/ArrayList", ⟨"java/util/List", "isEmpty", "()Z"⟩, ⟨"java/util/ArrayList", "isEmpty", "()Z"⟩), ("java/util/ArrayList", ⟨"java/util/List", "iterator", "()Ljava/util/Iterator;"⟩, ⟨"java/util/ArrayList", "iterator", "()Ljava/util/Iterator;"⟩),
  ("java/util/ArrayList", ⟨"java/util/List", "remove", "(I)Ljava/lang/Object;"⟩, ⟨"java/util/ArrayList", "remove", "(I)Ljava/lang/Object;"⟩), ("java/util/ArrayList", ⟨"java/util/List", "size", "()I"⟩, ⟨"java/util/ArrayList", "size", "()I"⟩), ("java/util/ArrayList", ⟨"java/util/Collection", "toArray", "()[Ljava/lang/Object;"⟩, ⟨"java/util/ArrayList", "toArray", "()[Ljava/lang/Object;"⟩),
  ("java/util/ArrayList$Itr", ⟨"java/util/Iterator", "hasNext", "()Z"⟩, ⟨"java/util/ArrayList$Itr", "hasNext", "()Z"⟩), ("java/util/ArrayList$Itr", ⟨"java/util/Iterator", "next", "()Ljava/lang/Object;"⟩, ⟨"java/util/ArrayList$Itr", "next", "()Ljava/lang/Object;"⟩),
  ("HedgeMessages$OccupiedSlots", ⟨"java/util/Iterator", "hasNext", "()Z"⟩, ⟨"HedgeMessages$OccupiedSlots", "hasNext", "()Z"⟩), ("HedgeMessages$OccupiedSlots", ⟨"java/util/Iterator", "next", "()Ljava/lang/Object;"⟩, ⟨"HedgeMessages$OccupiedSlots", "next", "()Ljava/lang/Object;"⟩),
  ("HedgeMessages$State$1", ⟨"java/lang/Iterable", "iterator", "()Ljava/util/Iterator;"⟩, ⟨"HedgeMessages$State$1", "iterator", "()Ljava/util/Iterator;"⟩)]
def KW9 (U : State) : Prop := ∀ z ∈ ifTab, va_Fw z.1 z.2.1 z.2.2 U
/-- the sites of lambdas, by the tag of what they make -/
def lamTab : List (Cond × Nat) := [(siteWord_1_1, 310), (siteWord_1_2, 311), (siteWord_1_3, 312), (siteWord_1_4, 313), (siteWord_1_5, 314), (siteWord_1_6, 315), (siteWord_1_7, 316), (siteWord_1_8, 317), (siteWord_1_9, 320), (siteWord_1_10, 321), (siteWord_1_11, 322), (siteWord_1_12, 323), (siteWord_1_13, 324), (siteWord_1_14, 325), (siteWord_1_15, 326), (siteWord_1_16, 327)]
def lamAt (U : State) (x : MethodName) (pc index : Nat) (σ : Lambda.Shape) (c : ClassId) : Prop := ∃ (m : MethodId) (k : Class) (cf : ClassFile) (i0 p0 : Nat), U.methodNamed? x = some m ∧ U.vm.classes[m.cls]? = some k ∧ k.cf = some cf ∧ Lambda.shapeOf? cf index = some σ ∧ (m.idx, pc, index, σ) ∈ Lambda.sitesOf k ∧
  (k.callSites.find? fun y => y.1 == m.idx && y.2.1 == pc) = some (i0, p0, .makes c) ∧ Lambda.isMade { classPath := fun _ => none } U.vm m.cls σ c = true ∧ U.lambdaCallable σ c = true
def KWl (w : Wd) (U : State) : Prop := (∀ t k : Nat, 310 ≤ t → wdS w t k = k) ∧ ∀ z ∈ lamTab, ∀ (x : MethodName) (pc index : Nat) (σ : Lambda.Shape), z.1 = .lambdaSite x pc index σ → lamAt U x pc index σ (wdA w z.2)
def KW (w : Wd) (U : State) : Prop := KW1 w U ∧ KW2 w U ∧ KW3 U ∧ KW4 U ∧ KW5 w ∧ KW6 w U ∧ KW7 w U ∧ KW8 w U ∧ KW9 U ∧ KWl w U ∧ (wdL w).stackTraces = false
theorem lamAt.warm {x : MethodName} {pc index : Nat} {σ : Lambda.Shape} {c : ClassId} {s U : State} (hW : s.WarmedH U.vm) (h : lamAt s x pc index σ c) : lamAt U x pc index σ c := by
  obtain ⟨m, k, cf, i0, p0, hm, hk, hcf, hsh, hin, hfind, hmade, hcall⟩ := h
  obtain ⟨k', hk', he⟩ := hW.alike.2.2 _ _ hk
  have hm' : U.methodNamed? x = some m := by
    have := State.methodNamed?_setVm (s := s) hW.alike x
    rw [hm] at this
    exact this
  refine ⟨m, k', cf, i0, p0, hm', hk', by rw [he]; exact hcf, hsh, by rw [he]; exact hin, by rw [he]; exact hfind, Lambda.isMade_warmer hW hmade, ?_⟩
  have hA := hW.alike
  simp only [State.lambdaCallable, hA.findClass, hA.assignable, hA.superclasses, hA.declaredIn] at hcall ⊢
  exact hcall
theorem lamAt.vm {x : MethodName} {pc index : Nat} {σ : Lambda.Shape} {c : ClassId} {u U : State} (hv : u.vm = U.vm) (h : lamAt u x pc index σ c) : lamAt U x pc index σ c := by
  obtain ⟨m, k, cf, i0, p0, hm, hk, hcf, hsh, hin, hfind, hmade, hcall⟩ := h
  have hA : u.vm.Alike U.vm := by rw [hv]; exact Vm.Alike.refl _
  have hm' : U.methodNamed? x = some m := by
    have := State.methodNamed?_setVm (s := u) hA x
    rw [hm] at this
    exact this
  refine ⟨m, k, cf, i0, p0, hm', by rw [← hv]; exact hk, hcf, hsh, hin, hfind, by rw [← hv]; exact hmade, ?_⟩
  simp only [State.lambdaCallable, hA.findClass, hA.assignable, hA.superclasses, hA.declaredIn] at hcall ⊢
  exact hcall
theorem ifTab_ok : ∀ z ∈ ifTab, z.2.1.cls ≠ "java/lang/invoke/MethodHandle" ∧ z.2.1.cls ≠ "java/lang/invoke/VarHandle" := by decide +kernel
theorem KW2.moved {w : Wd} {u U : State} (hA : u.vm.Alike U.vm) (h2 : KW2 w u) : KW2 w U := by
  intro t ty e
  obtain ⟨kA, comp, a, b, c⟩ := h2 t ty e
  obtain ⟨k', hk', he⟩ := hA.2.2 _ _ a
  exact ⟨k', comp, hk', by rw [he]; exact b, fun ht => ⟨by rw [hA.findClass]; exact (c ht).1, fun C hC => by rw [hA.findClass]; exact (c ht).2 C hC⟩⟩
theorem KW.warm {w : Wd} {s U : State} (hW : s.WarmedH U.vm) (h : KW w s) : KW w U := by
  obtain ⟨h1, h2, h3, h4, h5, h6, h7, h8, h9, h10, h11⟩ := h
  refine ⟨fun t r a b c => u_Kn_moved hW.alike (h1 t r a b c), h2.moved hW.alike, fun wd hw hk => nwk_warm hk hW (h3 wd hw hk), fun C hC => (h4 C hC).moved hW.alike, h5, ⟨fun z hz => va_Z.moved hW.alike (h6.1 z hz), fun z hz => va_Z.moved hW.alike (h6.2.1 z hz), vx_L.moved hW.alike h6.2.2.1, vx_L.moved hW.alike h6.2.2.2⟩,
    fun z hz => ?_, ?_, fun z hz => (h9 z hz).moved (ifTab_ok z hz) hW.alike, ⟨h10.1, fun z hz x pc index σ e => (h10.2 z hz x pc index σ e).warm hW⟩, h11⟩
  · obtain ⟨q, a, b⟩ := h7 z hz
    exact ⟨q, a, b.warm hW⟩
  · obtain ⟨⟨mi, a, b⟩, c, d, f⟩ := h8
    exact ⟨⟨mi, a, b.moved hW.alike⟩, c.moved hW.alike, fun z hz => by rw [hW.alike.findClass]; exact d z hz, fun z hz => (f z hz).moved hW.alike⟩
theorem KW.vm {w : Wd} {u U : State} (hv : u.vm = U.vm) (h : KW w u) : KW w U := by
  have hA : u.vm.Alike U.vm := by rw [hv]; exact Vm.Alike.refl _
  obtain ⟨h1, h2, h3, h4, h5, h6, h7, h8, h9, h10, h11⟩ := h
  refine ⟨fun t r a b c => u_Kn_moved hA (h1 t r a b c), h2.moved hA, fun wd hw hk => ?_, fun C hC => (h4 C hC).moved hA, h5, ⟨fun z hz => va_Z.moved hA (h6.1 z hz), fun z hz => va_Z.moved hA (h6.2.1 z hz), vx_L.moved hA h6.2.2.1, vx_L.moved hA h6.2.2.2⟩,
    fun z hz => ?_, ?_, fun z hz => (h9 z hz).moved (ifTab_ok z hz) hA, ⟨h10.1, fun z hz x pc index σ e => (h10.2 z hz x pc index σ e).vm hv⟩, h11⟩
  · have := h3 wd hw hk
    cases wd <;> first | exact absurd hk (by decide) | exact va_Nw.same rfl hv this | (simp [nwk] at hk)
  · obtain ⟨q, a, b⟩ := h7 z hz
    exact ⟨q, a, b.same hv.symm⟩
  · obtain ⟨⟨mi, a, b⟩, c, d, f⟩ := h8
    exact ⟨⟨mi, a, b.moved hA⟩, c.moved hA, fun z hz => by rw [hA.findClass]; exact d z hz, fun z hz => (f z hz).moved hA⟩
