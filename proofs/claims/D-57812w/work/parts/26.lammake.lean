set_option maxRecDepth 100000
/-! ===== invokedynamic: a lambda's object is made ===== -/
def o_lamI {α : Type} (t : Nat) (a : Int32) (h : PH) (k : Nat → PH → Option α) : Option α := k (gN h) (wI (100 * t + 0) (gN h) a (nO t 1 h))
def o_lamII {α : Type} (t : Nat) (a b : Int32) (h : PH) (k : Nat → PH → Option α) : Option α := k (gN h) (wI (100 * t + 1) (gN h) b (wI (100 * t + 0) (gN h) a (nO t 2 h)))
def o_lamIC {α : Type} (t : Nat) (a b : Int32) (h : PH) (k : Nat → PH → Option α) : Option α := if fitK 3 b = true then k (gN h) (wI (100 * t + 1) (gN h) b (wI (100 * t + 0) (gN h) a (nO t 2 h))) else none
def o_lamIR {α : Type} (t : Nat) (a : Int32) (b : Nat) (h : PH) (k : Nat → PH → Option α) : Option α := k (gN h) (wR (100 * t + 1) (gN h) b (wI (100 * t + 0) (gN h) a (nO t 2 h)))
theorem shape_site {cf : ClassFile} {index : Nat} {σ : Lambda.Shape} (h : Lambda.shapeOf? cf index = some σ) : ∃ (b nt : Nat) (name desc : String) (sig : MethodDescriptor), cf.constantPool[index]? = some (.invokeDynamic b nt) ∧ cf.constantPool.nameAndType? nt = some (name, desc) ∧ parseLongMethodDescriptor desc = some sig ∧ sig.parameters = σ.captured := by
  unfold Lambda.shapeOf? at h
  generalize hc : cf.constantPool[index]? = X at h
  match X, hc, h with
  | some (.invokeDynamic b nt), hc, h =>
    obtain ⟨entries, -, h⟩ := Option.bind_eq_some_iff.mp h
    obtain ⟨bm, -, h⟩ := Option.bind_eq_some_iff.mp h
    generalize cf.constantPool[bm.bootstrapMethodRef]? = X2 at h
    match X2, h with
    | some (.methodHandle 6 r), h =>
      obtain ⟨_, -, h⟩ := Option.bind_eq_some_iff.mp h
      generalize bm.bootstrapArguments = X3 at h
      obtain ⟨X3⟩ := X3
      match X3, h with
      | [a0, a1, a2], h =>
        conv at h => lhs; whnf
        split at h
        next d0 heq4 =>
          split at h
          next kind r1 heq5 =>
            split at h
            next d2 heq6 =>
              obtain ⟨⟨name, desc⟩, hnt, h⟩ := Option.bind_eq_some_iff.mp h
              obtain ⟨site, hsite, h⟩ := Option.bind_eq_some_iff.mp h
              refine ⟨b, nt, name, desc, site, rfl, hnt, parseLong_of_parse hsite, ?_⟩
              split at h
              next iface heq7 =>
                obtain ⟨_, -, h⟩ := Option.bind_eq_some_iff.mp h
                obtain ⟨_, -, h⟩ := Option.bind_eq_some_iff.mp h
                obtain ⟨_, -, h⟩ := Option.bind_eq_some_iff.mp h
                obtain ⟨_, -, h⟩ := Option.bind_eq_some_iff.mp h
                obtain ⟨_, -, h⟩ := Option.bind_eq_some_iff.mp h
                obtain ⟨_, -, h⟩ := Option.bind_eq_some_iff.mp h
                cases h
                rfl
              next => cases h
            next => cases h
          next => cases h
        next => cases h

