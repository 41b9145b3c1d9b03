/-! ===== the ghost heap: next address, slots in use, tags, lengths, int fields, reference fields, int arrays, reference arrays ===== -/
abbrev PH : Type := Nat × Nat × (Nat → Nat) × (Nat → Nat) × (Nat → Nat → Int32) × (Nat → Nat → Nat) × (Nat → Nat → Nat → Int32) × (Nat → Nat → Nat → Nat)
def gN (h : PH) : Nat := h.1
def gS (h : PH) : Nat := h.2.1
def gT (h : PH) : Nat → Nat := h.2.2.1
def gL (h : PH) : Nat → Nat := h.2.2.2.1
def gI (h : PH) : Nat → Nat → Int32 := h.2.2.2.2.1
def gR (h : PH) : Nat → Nat → Nat := h.2.2.2.2.2.1
def gA (h : PH) : Nat → Nat → Nat → Int32 := h.2.2.2.2.2.2.1
def gB (h : PH) : Nat → Nat → Nat → Nat := h.2.2.2.2.2.2.2
def u1 {α : Type} (m : Nat → α) (x : Nat) (v : α) : Nat → α := fun a => if a = x then v else m a
def u2 {α : Type} (m : Nat → Nat → α) (x y : Nat) (v : α) : Nat → Nat → α := fun a b => if a = x ∧ b = y then v else m a b
def u3 {α : Type} (m : Nat → Nat → Nat → α) (x y z : Nat) (v : α) : Nat → Nat → Nat → α := fun a b c => if a = x ∧ b = y ∧ c = z then v else m a b c
/-- the writers: an int field, a reference field, an int array's place, a reference array's place -/
def wI (f a : Nat) (v : Int32) (h : PH) : PH := (gN h, gS h, gT h, gL h, u2 (gI h) f a v, gR h, gA h, gB h)
def wR (f a : Nat) (v : Nat) (h : PH) : PH := (gN h, gS h, gT h, gL h, gI h, u2 (gR h) f a v, gA h, gB h)
def wA (t a i : Nat) (v : Int32) (h : PH) : PH := (gN h, gS h, gT h, gL h, gI h, gR h, u3 (gA h) t a i v, gB h)
def wB (t a i : Nat) (v : Nat) (h : PH) : PH := (gN h, gS h, gT h, gL h, gI h, gR h, gA h, u3 (gB h) t a i v)
/-- a new object of tag t with n slots; a new array of tag t with n places -/
def nO (t n : Nat) (h : PH) : PH := (gN h + 1, gS h + n, u1 (gT h) (gN h) t, u1 (gL h) (gN h) 0, (fun f a => if a = gN h then 0 else gI h f a), (fun f a => if a = gN h then 0 else gR h f a), gA h, gB h)
def nY (t n : Nat) (h : PH) : PH := (gN h + 1, gS h + n, u1 (gT h) (gN h) t, u1 (gL h) (gN h) n, gI h, gR h, (fun k a i => if a = gN h then 0 else gA h k a i), (fun k a i => if a = gN h then 0 else gB h k a i))
/-- a piece of an int array, a reference array copied -/
def cA (t a i b j n : Nat) (h : PH) : PH := (gN h, gS h, gT h, gL h, gI h, gR h, (fun k q z => if k = t ∧ q = b ∧ j ≤ z ∧ z < j + n then gA h t a (i + (z - j)) else gA h k q z), gB h)
def cB (t a i b j n : Nat) (h : PH) : PH := (gN h, gS h, gT h, gL h, gI h, gR h, gA h, (fun k q z => if k = t ∧ q = b ∧ j ≤ z ∧ z < j + n then gB h t a (i + (z - j)) else gB h k q z))
theorem gN_wI (f a : Nat) (v : Int32) (h : PH) : gN (wI f a v h) = gN h := rfl
theorem gS_wI (f a : Nat) (v : Int32) (h : PH) : gS (wI f a v h) = gS h := rfl
theorem gT_wI (f a : Nat) (v : Int32) (h : PH) : gT (wI f a v h) = gT h := rfl
theorem gL_wI (f a : Nat) (v : Int32) (h : PH) : gL (wI f a v h) = gL h := rfl
theorem gI_wI (f a : Nat) (v : Int32) (h : PH) (g b : Nat) : gI (wI f a v h) g b = if g = f ∧ b = a then v else gI h g b := rfl
theorem gR_wI (f a : Nat) (v : Int32) (h : PH) : gR (wI f a v h) = gR h := rfl
theorem gA_wI (f a : Nat) (v : Int32) (h : PH) : gA (wI f a v h) = gA h := rfl
theorem gB_wI (f a : Nat) (v : Int32) (h : PH) : gB (wI f a v h) = gB h := rfl
theorem gN_wR (f a : Nat) (v : Nat) (h : PH) : gN (wR f a v h) = gN h := rfl
theorem gS_wR (f a : Nat) (v : Nat) (h : PH) : gS (wR f a v h) = gS h := rfl
theorem gT_wR (f a : Nat) (v : Nat) (h : PH) : gT (wR f a v h) = gT h := rfl
theorem gL_wR (f a : Nat) (v : Nat) (h : PH) : gL (wR f a v h) = gL h := rfl
theorem gI_wR (f a : Nat) (v : Nat) (h : PH) : gI (wR f a v h) = gI h := rfl
theorem gR_wR (f a : Nat) (v : Nat) (h : PH) (g b : Nat) : gR (wR f a v h) g b = if g = f ∧ b = a then v else gR h g b := rfl
theorem gA_wR (f a : Nat) (v : Nat) (h : PH) : gA (wR f a v h) = gA h := rfl
theorem gB_wR (f a : Nat) (v : Nat) (h : PH) : gB (wR f a v h) = gB h := rfl
theorem gN_wA (t a i : Nat) (v : Int32) (h : PH) : gN (wA t a i v h) = gN h := rfl
theorem gS_wA (t a i : Nat) (v : Int32) (h : PH) : gS (wA t a i v h) = gS h := rfl
theorem gT_wA (t a i : Nat) (v : Int32) (h : PH) : gT (wA t a i v h) = gT h := rfl
theorem gL_wA (t a i : Nat) (v : Int32) (h : PH) : gL (wA t a i v h) = gL h := rfl
theorem gI_wA (t a i : Nat) (v : Int32) (h : PH) : gI (wA t a i v h) = gI h := rfl
theorem gR_wA (t a i : Nat) (v : Int32) (h : PH) : gR (wA t a i v h) = gR h := rfl
theorem gA_wA (t a i : Nat) (v : Int32) (h : PH) (k b j : Nat) : gA (wA t a i v h) k b j = if k = t ∧ b = a ∧ j = i then v else gA h k b j := rfl
theorem gB_wA (t a i : Nat) (v : Int32) (h : PH) : gB (wA t a i v h) = gB h := rfl
theorem gN_wB (t a i : Nat) (v : Nat) (h : PH) : gN (wB t a i v h) = gN h := rfl
theorem gS_wB (t a i : Nat) (v : Nat) (h : PH) : gS (wB t a i v h) = gS h := rfl
theorem gT_wB (t a i : Nat) (v : Nat) (h : PH) : gT (wB t a i v h) = gT h := rfl
theorem gL_wB (t a i : Nat) (v : Nat) (h : PH) : gL (wB t a i v h) = gL h := rfl
theorem gI_wB (t a i : Nat) (v : Nat) (h : PH) : gI (wB t a i v h) = gI h := rfl
theorem gR_wB (t a i : Nat) (v : Nat) (h : PH) : gR (wB t a i v h) = gR h := rfl
theorem gA_wB (t a i : Nat) (v : Nat) (h : PH) : gA (wB t a i v h) = gA h := rfl
theorem gB_wB (t a i : Nat) (v : Nat) (h : PH) (k b j : Nat) : gB (wB t a i v h) k b j = if k = t ∧ b = a ∧ j = i then v else gB h k b j := rfl
theorem gN_nO (t n : Nat) (h : PH) : gN (nO t n h) = gN h + 1 := rfl
theorem gS_nO (t n : Nat) (h : PH) : gS (nO t n h) = gS h + n := rfl
theorem gT_nO (t n : Nat) (h : PH) (b : Nat) : gT (nO t n h) b = if b = gN h then t else gT h b := rfl
theorem gL_nO (t n : Nat) (h : PH) (b : Nat) : gL (nO t n h) b = if b = gN h then 0 else gL h b := rfl
theorem gI_nO (t n : Nat) (h : PH) (f b : Nat) : gI (nO t n h) f b = if b = gN h then 0 else gI h f b := rfl
theorem gR_nO (t n : Nat) (h : PH) (f b : Nat) : gR (nO t n h) f b = if b = gN h then 0 else gR h f b := rfl
theorem gA_nO (t n : Nat) (h : PH) : gA (nO t n h) = gA h := rfl
theorem gB_nO (t n : Nat) (h : PH) : gB (nO t n h) = gB h := rfl
theorem gN_nY (t n : Nat) (h : PH) : gN (nY t n h) = gN h + 1 := rfl
theorem gS_nY (t n : Nat) (h : PH) : gS (nY t n h) = gS h + n := rfl
theorem gT_nY (t n : Nat) (h : PH) (b : Nat) : gT (nY t n h) b = if b = gN h then t else gT h b := rfl
theorem gL_nY (t n : Nat) (h : PH) (b : Nat) : gL (nY t n h) b = if b = gN h then n else gL h b := rfl
theorem gI_nY (t n : Nat) (h : PH) : gI (nY t n h) = gI h := rfl
theorem gR_nY (t n : Nat) (h : PH) : gR (nY t n h) = gR h := rfl
theorem gA_nY (t n : Nat) (h : PH) (k b i : Nat) : gA (nY t n h) k b i = if b = gN h then 0 else gA h k b i := rfl
theorem gB_nY (t n : Nat) (h : PH) (k b i : Nat) : gB (nY t n h) k b i = if b = gN h then 0 else gB h k b i := rfl
theorem gN_cA (t a i b j n : Nat) (h : PH) : gN (cA t a i b j n h) = gN h := rfl
theorem gS_cA (t a i b j n : Nat) (h : PH) : gS (cA t a i b j n h) = gS h := rfl
theorem gT_cA (t a i b j n : Nat) (h : PH) : gT (cA t a i b j n h) = gT h := rfl
theorem gL_cA (t a i b j n : Nat) (h : PH) : gL (cA t a i b j n h) = gL h := rfl
theorem gI_cA (t a i b j n : Nat) (h : PH) : gI (cA t a i b j n h) = gI h := rfl
theorem gR_cA (t a i b j n : Nat) (h : PH) : gR (cA t a i b j n h) = gR h := rfl
theorem gA_cA (t a i b j n : Nat) (h : PH) (k q z : Nat) : gA (cA t a i b j n h) k q z = if k = t ∧ q = b ∧ j ≤ z ∧ z < j + n then gA h t a (i + (z - j)) else gA h k q z := rfl
theorem gB_cA (t a i b j n : Nat) (h : PH) : gB (cA t a i b j n h) = gB h := rfl
theorem gN_cB (t a i b j n : Nat) (h : PH) : gN (cB t a i b j n h) = gN h := rfl
theorem gS_cB (t a i b j n : Nat) (h : PH) : gS (cB t a i b j n h) = gS h := rfl
theorem gT_cB (t a i b j n : Nat) (h : PH) : gT (cB t a i b j n h) = gT h := rfl
theorem gL_cB (t a i b j n : Nat) (h : PH) : gL (cB t a i b j n h) = gL h := rfl
theorem gI_cB (t a i b j n : Nat) (h : PH) : gI (cB t a i b j n h) = gI h := rfl
theorem gR_cB (t a i b j n : Nat) (h : PH) : gR (cB t a i b j n h) = gR h := rfl
theorem gA_cB (t a i b j n : Nat) (h : PH) : gA (cB t a i b j n h) = gA h := rfl
theorem gB_cB (t a i b j n : Nat) (h : PH) (k q z : Nat) : gB (cB t a i b j n h) k q z = if k = t ∧ q = b ∧ j ≤ z ∧ z < j + n then gB h t a (i + (z - j)) else gB h k q z := rfl
/-! ===== the operations of the pure functions: each asks what the machine asks, and fails (none) where it isn't so ===== -/
/-- the least address of a new cell; below it stand the constants -/
def NC : Nat := 1000
/-- constants that are known not to be null and to differ among their group -/
def grp (r : Nat) : Nat := if r = 0 then 0 else if r < 5 then 1 else if r < 7 then 2 else if r < 9 then 3 else 0
def o_gi {α : Type} (t f a : Nat) (h : PH) (k : Int32 → Option α) : Option α := if gT h a = t then k (gI h f a) else none
def o_gr {α : Type} (t f a : Nat) (h : PH) (k : Nat → Option α) : Option α := if gT h a = t then k (gR h f a) else none
/-- what an int of the kind c may be: int, boolean, byte, char, short -/
def fitK (c : Nat) (v : Int32) : Bool := if c = 0 then true else if c = 1 then (v == 0 || v == 1) else if c = 2 then v.toInt8.toInt32 == v else if c = 3 then (v.toUInt32 % 65536).toInt32 == v else v.toInt16.toInt32 == v
def o_pi {α : Type} (t f c a : Nat) (v : Int32) (h : PH) (k : PH → Option α) : Option α := if gT h a = t ∧ NC ≤ a ∧ fitK c v = true then k (wI f a v h) else none
def o_pr {α : Type} (t f a v : Nat) (h : PH) (k : PH → Option α) : Option α := if gT h a = t ∧ NC ≤ a then k (wR f a v h) else none
def inB (i : Int32) (n : Nat) : Bool := decide (0 ≤ i.toInt) && decide (i.toInt < n)
def o_al {α : Type} (t a : Nat) (h : PH) (k : Int32 → Option α) : Option α := if gT h a = t then k (Int32.ofNat (gL h a)) else none
def o_ai {α : Type} (t a : Nat) (i : Int32) (h : PH) (k : Int32 → Option α) : Option α := if gT h a = t ∧ inB i (gL h a) = true then k (gA h t a i.toNatClampNeg) else none
def o_ab {α : Type} (t a : Nat) (i : Int32) (h : PH) (k : Nat → Option α) : Option α := if gT h a = t ∧ inB i (gL h a) = true then k (gB h t a i.toNatClampNeg) else none
def o_si {α : Type} (t a : Nat) (i : Int32) (v : Int32) (h : PH) (k : PH → Option α) : Option α := if gT h a = t ∧ NC ≤ a ∧ inB i (gL h a) = true then k (wA t a i.toNatClampNeg v h) else none
/-- what an array of references takes, by the tags -/
def asg (t te : Nat) : Bool := if t = 200 then te == 2 || te == 5 || te == 6 else if t = 201 then te == 4 else if t = 202 then te == 5 else if t = 203 then te == 3 else if t = 204 then decide (310 ≤ te) && decide (te < 318) else false
def o_sb {α : Type} (t a : Nat) (i : Int32) (v : Nat) (h : PH) (k : PH → Option α) : Option α := if gT h a = t ∧ NC ≤ a ∧ inB i (gL h a) = true ∧ (v = 0 ∨ asg t (gT h v) = true) then k (wB t a i.toNatClampNeg v h) else none
def o_no {α : Type} (t n : Nat) (h : PH) (k : Nat → PH → Option α) : Option α := k (gN h) (nO t n h)
def o_ny {α : Type} (t : Nat) (i : Int32) (h : PH) (k : Nat → PH → Option α) : Option α := if 0 ≤ i.toInt ∧ i.toInt < 1000000 then k (gN h) (nY t i.toNatClampNeg h) else none
def o_nul {α : Type} (a : Nat) (h : PH) (k : Option α) (kn : Option α) : Option α := if a = 0 then k else if gT h a ≠ 0 ∨ NC ≤ a then kn else none
def okne (a b : Nat) : Bool := (a == 0 || decide (NC ≤ a) || grp a != 0) && (b == 0 || decide (NC ≤ b) || grp b != 0) && (a == 0 || b == 0 || decide (NC ≤ a) || decide (NC ≤ b) || grp a == grp b)
def o_acmp {α : Type} (a b : Nat) (k : Option α) (kn : Option α) : Option α := if a = b then k else if okne a b = true then kn else none
def o_ck {α : Type} (t a : Nat) (h : PH) (k : Option α) : Option α := if gT h a = t then k else none
def o_cast {α : Type} (t a : Nat) (h : PH) (k : Option α) : Option α := if a = 0 ∨ gT h a = t then k else none
def o_div {α : Type} (y : Int32) (k : Option α) : Option α := if y = 0 then none else k
def o_fit {α : Type} (c : Nat) (v : Int32) (k : Option α) : Option α := if fitK c v = true then k else none
/-- a call: its answer and heap go on; a call that may throw -/
def o_call {α β : Type} (o : Option (β × PH)) (k : β → PH → Option α) : Option α := match o with | none => none | some x => k x.1 x.2
def o_callX {α β : Type} (o : Option ((Nat ⊕ β) × PH)) (k : β → PH → Option α) (kx : Nat → PH → Option α) : Option α := match o with | none => none | some (.inl q, h) => kx q h | some (.inr x, h) => k x h
theorem o_call_some {α β : Type} (x : β) (h : PH) (k : β → PH → Option α) : o_call (some (x, h)) k = k x h := rfl
theorem o_callX_inr {α β : Type} (x : β) (h : PH) (k : β → PH → Option α) (kx : Nat → PH → Option α) : o_callX (some (.inr x, h)) k kx = k x h := rfl
theorem o_callX_inl {α β : Type} (q : Nat) (h : PH) (k : β → PH → Option α) (kx : Nat → PH → Option α) : o_callX (some (.inl q, h)) k kx = kx q h := rfl
