set_option maxRecDepth 100000
/-! ===== invokedynamic: a lambda's object is made ===== -/
def o_lamI {α : Type} (t : Nat) (a : Int32) (h : PH) (k : Nat → PH → Option α) : Option α := k (gN h) (wI (100 * t + 0) (gN h) a (nO t 1 h))
def o_lamII {α : Type} (t : Nat) (a b : Int32) (h : PH) (k : Nat → PH → Option α) : Option α := k (gN h) (wI (100 * t + 1) (gN h) b (wI (100 * t + 0) (gN h) a (nO t 2 h)))
def o_lamIC {α : Type} (t : Nat) (a b : Int32) (h : PH) (k : Nat → PH → Option α) : Option α := if fitK 3 b = true then k (gN h) (wI (100 * t + 1) (gN h) b (wI (100 * t + 0) (gN h) a (nO t 2 h))) else none
def o_lamIR {α : Type} (t : Nat) (a : Int32) (b : Nat) (h : PH) (k : Nat → PH → Option α) : Option α := k (gN h) (wR (100 * t + 1) (gN h) b (wI (100 * t + 0) (gN h) a (nO t 2 h)))
theorem shape_site {cf : ClassFile} {index : Nat} {σ : Lambda.Shape} (h : Lambda.shapeOf? cf index = some σ) : ∃ (b nt : Nat) (name desc : String) (sig : MethodDescriptor), cf.constantPool[index]? = some (.invokeDynamic b nt) ∧ cf.constantPool.nameAndType? nt = some (name, desc) ∧ parseLongMethodDescriptor desc = some sig ∧ sig.parameters = σ.captured := by
  unfold Lambda.shapeOf? at h
  split at h
  next b nt heq =>
    simp only [Option.bind_eq_bind, Option.bind_eq_some_iff] at h
    obtain ⟨entries, -, bm, -, h⟩ := h
    split at h
    next r heq2 =>
      simp only [Option.bind_eq_some_iff] at h
      obtain ⟨_, -, h⟩ := h
      split at h
      next a0 a1 a2 heq3 =>
        split at h
        next d0 heq4 =>
          split at h
          next kind r1 heq5 =>
            split at h
            next d2 heq6 =>
              simp only [Option.bind_eq_some_iff] at h
              obtain ⟨⟨name, desc⟩, hnt, site, hsite, h⟩ := h
              split at h
              next iface heq7 =>
                simp only [Option.bind_eq_some_iff, Option.pure_def, Option.some.injEq] at h
                obtain ⟨⟨ic, iname, idesc, iitf⟩, -, h⟩ := h
                simp only [Option.bind_eq_some_iff, Option.some.injEq] at h
                refine ⟨b, nt, name, desc, site, heq, hnt, parseLong_of_parse hsite, ?_⟩
                obtain ⟨_, _, _, _, _, _, rfl⟩ := h
                rfl
              next => cases h
            next => cases h
          next => cases h
        next => cases h
      next => cases h
    next => cases h
  next => cases h

