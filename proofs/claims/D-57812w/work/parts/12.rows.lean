/-! ===== the judgement ===== -/
def lh (w : Wd) (ls : Array Slot) (nL : Nat) (L : List (Nat × Value)) (G : List (Nat × Nat)) : Prop := lv_has ls nL L ∧ ∀ q ∈ G, ls[q.1]? = some (.val (rv w q.2))
/-- a method's constants: class, code, locals, name, answer, frames and words of its room -/
abbrev Mc : Type := String × ByteArray × Nat × String × Option FieldType × Nat × Nat
/-- the methods that have a table of exceptions -/
def tabL : List (String × String × List (Nat × Nat × Nat × Nat)) := [("HedgeMessagesLaw", "append", [(0, 16, 19, 13)]), ("HedgeMessagesLaw", "truncate", [(0, 9, 12, 19)]), ("HedgeMessagesLaw", "load", [(0, 8, 11, 19)]), ("HedgeMessagesLaw", "executeCommands", [(0, 8, 11, 19)]), ("HedgeMessagesLaw", "letterAt", [(0, 9, 12, 31)]), ("HedgeMessagesLaw", "ownerAt", [(0, 9, 12, 31)]), ("HedgeMessagesLaw", "lengthAt", [(0, 9, 12, 31)]), ("HedgeMessagesLaw", "isReserved", [(0, 16, 19, 31)]), ("HedgeMessagesLaw", "nestDays", [(0, 9, 12, 31)]), ("HedgeMessagesLaw", "isProtected", [(0, 16, 19, 31)]), ("HedgeMessagesLaw", "pendingCount", [(0, 9, 12, 19)]), ("HedgeMessagesLaw", "pendingLetter", [(0, 12, 15, 19)]), ("HedgeMessagesLaw", "lettersWritten", [(0, 9, 12, 19)]), ("HedgeMessagesLaw", "startSlot", [(0, 9, 12, 19)]), ("HedgeMessagesLaw", "postedCount", [(0, 9, 12, 19)]), ("HedgeMessagesLaw", "nextStartSlot", [(0, 9, 12, 19)]), ("HedgeMessagesLaw", "plantReason", [(0, 9, 12, 31)]), ("HedgeMessagesLaw", "removeReason", [(0, 9, 12, 31)]), ("HedgeMessagesLaw", "trimReason", [(0, 9, 12, 31)]), ("HedgeMessagesLaw", "writeReason", [(0, 9, 12, 19)]), ("HedgeMessagesLaw", "keepReason", [(0, 9, 12, 31)]), ("HedgeMessagesLaw", "daysUntilPruned", [(0, 9, 12, 31)]), ("HedgeMessagesLaw", "deliveredAfter", [(0, 10, 13, 19)]), ("HedgeMessagesLaw", "pendingAfter", [(0, 10, 13, 19)]), ("HedgeMessagesLaw", "leastWorkLimit", [(0, 10, 13, 19)]), ("HedgeMessagesLaw", "messagesQueued", [(0, 9, 12, 19)]), ("HedgeMessagesLaw", "messagesDelivered", [(0, 9, 12, 19)]), ("HedgeMessagesLaw", "messagesFailed", [(0, 9, 12, 19)]), ("HedgeMessagesLaw", "messagesDropped", [(0, 9, 12, 19)]), ("HedgeMessagesLaw", "plant", [(0, 10, 13, 31), (0, 10, 17, 19), (0, 10, 21, 13)]), ("HedgeMessagesLaw", "remove", [(0, 9, 12, 31), (0, 9, 15, 13)]), ("HedgeMessagesLaw", "trim", [(0, 10, 13, 31), (0, 10, 17, 19), (0, 10, 21, 13)]), ("HedgeMessagesLaw", "addNest", [(0, 10, 13, 31), (0, 10, 17, 19), (0, 10, 21, 13)]), ("HedgeMessagesLaw", "queueMessage", [(0, 9, 12, 19), (0, 9, 15, 13)]), ("HedgeMessagesLaw", "cancelMessage", [(0, 10, 13, 19), (0, 10, 17, 31)]), ("HedgeMessagesLaw", "setWorkLimit", [(0, 9, 12, 19)]), ("HedgeMessagesLaw", "endDays", [(0, 9, 12, 19)]), ("HedgeMessagesLaw", "undo", [(0, 8, 11, 13)]), ("HedgeMessagesLaw", "restore", [(0, 8, 11, 13)]), ("HedgeMessages", "load", [(0, 12, 20, 151), (0, 12, 27, 0), (20, 28, 27, 0)]), ("HedgeMessages", "executeCommands", [(0, 12, 20, 151), (0, 12, 27, 0), (20, 28, 27, 0)]), ("HedgeMessages", "execute", [(2, 24, 27, 1), (2, 24, 27, 10)])]
def tabN (o n : String) : List (Nat × Nat × Nat × Nat) := match tabL.find? (fun z => z.1 == o && z.2.1 == n) with | some z => z.2.2 | none => []
/-- the descriptors of the methods that make lambdas -/
def dscL : List (String × String × String) := [("HedgeMessages", "addNest", "(II)I"), ("HedgeMessages", "cancelMessage", "(II)I"), ("HedgeMessages", "endDays", "(I)I"), ("HedgeMessages", "plant", "(II)I"), ("HedgeMessages", "queueMessage", "(I)I"), ("HedgeMessages", "remove", "(I)I"), ("HedgeMessages", "setWorkLimit", "(I)I"), ("HedgeMessages", "trim", "(II)I"), ("HedgeMessages$Parser", "cancelCommand", "(I)LHedgeMessages$Operation;"), ("HedgeMessages$Parser", "endCommand", "(I)LHedgeMessages$Operation;"), ("HedgeMessages$Parser", "messageCommand", "(I)LHedgeMessages$Operation;"), ("HedgeMessages$Parser", "nestCommand", "(I)LHedgeMessages$Operation;"), ("HedgeMessages$Parser", "plantCommand", "(I)LHedgeMessages$Operation;"), ("HedgeMessages$Parser", "removeCommand", "(I)LHedgeMessages$Operation;"), ("HedgeMessages$Parser", "trimCommand", "(I)LHedgeMessages$Operation;"), ("HedgeMessages$Parser", "workCommand", "(I)LHedgeMessages$Operation;")]
def dscN (o n : String) : Option String := (dscL.find? (fun z => z.1 == o && z.2.1 == n)).map (fun z => z.2.2)
def Cx (p : Program) (s : State) (m : MethodId) (args : Array Value) (meth : Method) (c : Code) (w : Wd) (M : Mc) : Prop :=
  p.tables.exec = Jvm.exec ∧ c.code = M.2.1 ∧ c.maxLocals = M.2.2.1 ∧ s.vm.findClass M.1 = some m.cls ∧ (∀ x ∈ lw_all, x.before args s = true) ∧ KW w s ∧ meth.locks = false ∧ meth.name = M.2.2.2.1 ∧ (meth.sig.returnType = M.2.2.2.2.1 ∧ c.exceptionTable.toList = tableOf (tabN M.1 M.2.2.2.1) ∧ ∀ ds : String, dscN M.1 M.2.2.2.1 = some ds → s.methodNamed? ⟨M.1, M.2.2.2.1, ds⟩ = some m)
def mkR (fr lw : Nat) (h0 hE : PH) : Room := { frames := fr, cells := gN hE - gN h0, slots := gS hE - gS h0, locals := lw }
/-- what a method that came to the heap hE and answered r leaves -/
def qc (w : Wd) (h0 hE : PH) (r : Option Value) : Array Value → State → Outcome → State → Prop := fun _ st o t => o = .returned r ∧ Rep w hE t.heap ∧ Fr w h0 st.heap hE t.heap
/-- ... and one that threw the object of the ghost address q -/
def xq (w : Wd) (h0 hE : PH) (q : Nat) (mc ms : Nat) (free : Addr → Prop) (st : State) (o : Outcome) (t : State) : Prop :=
  ∃ (a : Nat) (ce : Cell) (L : List Loc), rvo w q = some a ∧ NC ≤ q ∧ gT hE q ≠ 0 ∧ o = .threw a ∧ t.heap[a]? = some ce ∧ ce.vm = .none ∧ Rep w hE t.heap ∧ Fr w h0 st.heap hE t.heap ∧ st.WarmedH t.vm ∧ st.sameButNew ({ t with vm := st.vm } : State) L mc ms ∧ ∀ z ∈ L, free z.base
def QQ (w : Wd) (below : List Frame) (args : Array Value) (s : State) (h0 hE : PH) (r : Option Value ⊕ Nat) : State → Prop := match r with
  | .inl v => MQ below (qc w h0 hE v) args s (gN hE - gN h0) (gS hE - gS h0) (fun q => wdN w ≤ q)
  | .inr q => fun t => ∃ o, t.status = .running ∧ Ended t below o ∧ xq w h0 hE q (gN hE - gN h0) (gS hE - gS h0) (fun q => wdN w ≤ q) s o t
/-- from pc, with the locals L, G and the operands st, the machine comes to what the pure function o gives -/
def Pf {α : Type} (w : Wd) (M : Mc) (en : α → Option Value ⊕ Nat) (pc : Nat) (L : List (Nat × Value)) (G : List (Nat × Nat)) (st : List Value) (o : Option (α × PH)) (h : PH) : Prop :=
  ∀ (rE : α) (hE : PH), o = some (rE, hE) → (gN h ≤ gN hE ∧ gS h ≤ gS hE) ∧ ∀ (p : Program) (e : Env) (s : State) (m : MethodId) (args : Array Value) (below : List Frame) (meth : Method) (c : Code) (h0 : PH), Cx p s m args meth c w M → NC ≤ gN h0 → gN h0 ≤ gN h → gS h0 ≤ gS h →
    ∀ (ls : Array Slot), lh w ls M.2.2.1 L G → ∀ (H : Heap) (locs : List Loc), Rep w h H → Fr w h0 s.heap h H → (∀ q ∈ locs, wdN w ≤ q.base) →
      W p (wdL w) e (mkR M.2.2.2.2.2.1 M.2.2.2.2.2.2 h0 hE) s m args below meth c H locs (gN h - gN h0) (gS h - gS h0) (QQ w below args s h0 hE (en rE)) (F0 m pc ls st)
section LH
variable {w : Wd} {nL : Nat} {ls : Array Slot} {L L' : List (Nat × Value)} {G G' : List (Nat × Nat)}
theorem lh.at (hl : lh w ls nL L G) (k : Nat) {i : Nat} {v : Value} (hk : L[k]? = some (i, v)) : ls[i]? = some (.val v) := lv_at hl.1 k hk
theorem lh.atR (hl : lh w ls nL L G) (k : Nat) {i : Nat} {r : Nat} (hk : G[k]? = some (i, r)) : ls[i]? = some (.val (rv w r)) := hl.2 (i, r) (List.mem_of_getElem? hk)
theorem lh.sub (hl : lh w ls nL L G) (ks gs : List Nat) (h1 : lv_pick L ks = L') (h2 : gs.filterMap (fun k => G[k]?) = G') : lh w ls nL L' G' := by
  refine ⟨lv_sub hl.1 ks h1, fun q hq => ?_⟩
  rw [← h2] at hq
  obtain ⟨k, -, hk⟩ := List.mem_filterMap.mp hq
  exact hl.2 q (List.mem_of_getElem? hk)
theorem lh.size (hl : lh w ls nL L G) : ls.size = nL := hl.1.1
/-- as the kit's lists have it -/
theorem lh.all (hl : lh w ls nL L G) : lv_has ls nL (L ++ G.map (fun q => (q.1, rv w q.2))) := by
  refine ⟨hl.1.1, hl.1.2.1, fun q hq => ?_⟩
  rcases List.mem_append.mp hq with h9 | h9
  · exact hl.1.2.2 q h9
  · obtain ⟨z, hz, rfl⟩ := List.mem_map.mp h9
    exact hl.2 z hz
theorem lh.st1 {i : Nat} {v : Value} {ls' : Array Slot} (h9 : lv_has ls' nL ((i, v) :: (L ++ G.map (fun q => (q.1, rv w q.2))).filter (fun q => !(q.1 == i) && !(q.1 + 1 == i && q.2.category == 2)))) (hL : L.filter (fun q => !(q.1 == i) && !(q.1 + 1 == i && q.2.category == 2)) = L') (hG : G.filter (fun q => !(q.1 == i)) = G') :
    lh w ls' nL ((i, v) :: L') G' ∧ ls'[i]? = some (.val v) ∧ lh w ls' nL L' G' := by
  obtain ⟨a1, a2, a3⟩ := h9
  have b1 : ∀ q ∈ L', ls'[q.1]? = some (.val q.2) := fun q hq => by
    rw [← hL] at hq
    obtain ⟨c1, c2⟩ := List.mem_filter.mp hq
    exact a3 q (List.mem_cons_of_mem _ (List.mem_filter.mpr ⟨List.mem_append_left _ c1, c2⟩))
  have b2 : ∀ q ∈ G', ls'[q.1]? = some (.val (rv w q.2)) := fun q hq => by
    rw [← hG] at hq
    obtain ⟨c1, c2⟩ := List.mem_filter.mp hq
    have c3 : (!(q.1 == i)) = true := c2
    refine a3 (q.1, rv w q.2) (List.mem_cons_of_mem _ (List.mem_filter.mpr ⟨List.mem_append_right _ (List.mem_map.mpr ⟨q, c1, rfl⟩), ?_⟩))
    show (!(q.1 == i) && !(q.1 + 1 == i && (rv w q.2).category == 2)) = true
    rw [rv_cat, c3]
    simp
  have b3 : ls'[i]? = some (.val v) := a3 (i, v) List.mem_cons_self
  exact ⟨⟨⟨a1, a2, fun q hq => (List.mem_cons.mp hq).elim (fun z => by rw [z]; exact b3) (b1 q)⟩, b2⟩, b3, ⟨a1, a2, b1⟩, b2⟩
theorem lh.st2 {i : Nat} {v : Value} {ls' : Array Slot} (h9 : lv_has ls' nL ((i, v) :: (L ++ G.map (fun q => (q.1, rv w q.2))).filter (fun q => !(q.1 == i) && (!(q.1 == i + 1) && !(q.1 + 1 == i && q.2.category == 2))))) (hL : L.filter (fun q => !(q.1 == i) && (!(q.1 == i + 1) && !(q.1 + 1 == i && q.2.category == 2))) = L') (hG : G.filter (fun q => !(q.1 == i) && !(q.1 == i + 1)) = G') :
    lh w ls' nL ((i, v) :: L') G' := by
  obtain ⟨a1, a2, a3⟩ := h9
  refine ⟨⟨a1, a2, fun q hq => (List.mem_cons.mp hq).elim (fun z => by rw [z]; exact a3 _ List.mem_cons_self) (fun hq => ?_)⟩, fun q hq => ?_⟩
  · rw [← hL] at hq
    obtain ⟨c1, c2⟩ := List.mem_filter.mp hq
    exact a3 q (List.mem_cons_of_mem _ (List.mem_filter.mpr ⟨List.mem_append_left _ c1, c2⟩))
  · rw [← hG] at hq
    obtain ⟨c1, c2⟩ := List.mem_filter.mp hq
    have c3 : (!(q.1 == i) && !(q.1 == i + 1)) = true := c2
    refine a3 (q.1, rv w q.2) (List.mem_cons_of_mem _ (List.mem_filter.mpr ⟨List.mem_append_right _ (List.mem_map.mpr ⟨q, c1, rfl⟩), ?_⟩))
    show (!(q.1 == i) && (!(q.1 == i + 1) && !(q.1 + 1 == i && (rv w q.2).category == 2))) = true
    rw [rv_cat]
    simpa using c3
end LH
section PF
variable {w : Wd} {own nm : String} {cc : ByteArray} {nL fr lw : Nat} {ret : Option FieldType} {α β : Type} {en : α → Option Value ⊕ Nat} {o : Option (α × PH)} {h : PH} {pc : Nat} {rest : List Value} {L L' : List (Nat × Value)} {G G' : List (Nat × Nat)}
theorem Pf.none {st : List Value} {M : Mc} : Pf w M en pc L G st none h := fun _ _ q => by cases q
theorem Pf.lift {M : Mc} {pc2 : Nat} {st st2 : List Value} (k : ∀ (p : Program) (e : Env) (R : Room) (s : State) (m : MethodId) (args : Array Value) (below : List Frame) (meth : Method) (c : Code) (Q : State → Prop) (H : Heap) (locs : List Loc) (cells slots : Nat) (ls : Array Slot), Cx p s m args meth c w M → lh w ls M.2.2.1 L G → W p (wdL w) e R s m args below meth c H locs cells slots Q (F0 m pc2 ls st2) → W p (wdL w) e R s m args below meth c H locs cells slots Q (F0 m pc ls st))
    (r : Pf w M en pc2 L G st2 o h) : Pf w M en pc L G st o h := fun rE hE q =>
  ⟨(r rE hE q).1, fun p e s m args below meth c h0 X z1 z2 z3 ls hl H locs a b d => k p e _ s m args below meth c _ H locs _ _ ls X hl ((r rE hE q).2 p e s m args below meth c h0 X z1 z2 z3 ls hl H locs a b d)⟩
theorem Pf.ite {M : Mc} {pc2 pc3 : Nat} {st st2 st3 : List Value} {C : Prop} [Decidable C] {o1 o2 : Option (α × PH)}
    (k : ∀ (p : Program) (e : Env) (R : Room) (s : State) (m : MethodId) (args : Array Value) (below : List Frame) (meth : Method) (c : Code) (Q : State → Prop) (H : Heap) (locs : List Loc) (cells slots : Nat) (ls : Array Slot), Cx p s m args meth c w M → lh w ls M.2.2.1 L G → (C → W p (wdL w) e R s m args below meth c H locs cells slots Q (F0 m pc2 ls st2)) → (¬ C → W p (wdL w) e R s m args below meth c H locs cells slots Q (F0 m pc3 ls st3)) → W p (wdL w) e R s m args below meth c H locs cells slots Q (F0 m pc ls st))
    (r2 : C → Pf w M en pc2 L G st2 o1 h) (r3 : ¬ C → Pf w M en pc3 L G st3 o2 h) : Pf w M en pc L G st (if C then o1 else o2) h := by
  intro rE hE q
  by_cases hc : C
  · rw [if_pos hc] at q
    have x := r2 hc rE hE q
    exact ⟨x.1, fun p e s m args below meth c h0 X z1 z2 z3 ls hl H locs a b d => k p e _ s m args below meth c _ H locs _ _ ls X hl (fun _ => x.2 p e s m args below meth c h0 X z1 z2 z3 ls hl H locs a b d) (fun n => absurd hc n)⟩
  · rw [if_neg hc] at q
    have x := r3 hc rE hE q
    exact ⟨x.1, fun p e s m args below meth c h0 X z1 z2 z3 ls hl H locs a b d => k p e _ s m args below meth c _ H locs _ _ ls X hl (fun n => absurd n hc) (fun _ => x.2 p e s m args below meth c h0 X z1 z2 z3 ls hl H locs a b d)⟩
/-- a value is chosen -/
theorem Pf.sel {M : Mc} {pc2 pc3 : Nat} {st st2 st3 : List Value} {C : Prop} [Decidable C] {β : Type} {f : β → Option (α × PH)} {a b : β}
    (k : ∀ (p : Program) (e : Env) (R : Room) (s : State) (m : MethodId) (args : Array Value) (below : List Frame) (meth : Method) (c : Code) (Q : State → Prop) (H : Heap) (locs : List Loc) (cells slots : Nat) (ls : Array Slot), Cx p s m args meth c w M → lh w ls M.2.2.1 L G → (C → W p (wdL w) e R s m args below meth c H locs cells slots Q (F0 m pc2 ls st2)) → (¬ C → W p (wdL w) e R s m args below meth c H locs cells slots Q (F0 m pc3 ls st3)) → W p (wdL w) e R s m args below meth c H locs cells slots Q (F0 m pc ls st))
    (r2 : C → Pf w M en pc2 L G st2 (f a) h) (r3 : ¬ C → Pf w M en pc3 L G st3 (f b) h) : Pf w M en pc L G st (f (if C then a else b)) h := by
  have x := Pf.ite (C := C) k r2 r3
  by_cases hc : C
  · rw [if_pos hc] at x ⊢; exact x
  · rw [if_neg hc] at x ⊢; exact x
theorem Pf.sub {M : Mc} {st : List Value} (ks gs : List Nat) (h1 : lv_pick L ks = L') (h2 : gs.filterMap (fun k => G[k]?) = G') (r : Pf w M en pc L' G' st o h) : Pf w M en pc L G st o h := fun rE hE q =>
  ⟨(r rE hE q).1, fun p e s m args below meth c h0 X z1 z2 z3 ls hl H locs a b d => (r rE hE q).2 p e s m args below meth c h0 X z1 z2 z3 ls (hl.sub ks gs h1 h2) H locs a b d⟩
theorem r_iconst {n : Int} {v : Int32} (d : decode cc pc = .ok (.iconst n, 1)) (hv : Int32.ofInt n = v) (r : Pf w (own, cc, nL, nm, ret, fr, lw) en (pc + 1) L G (.int v :: rest) o h) : Pf w (own, cc, nL, nm, ret, fr, lw) en pc L G (rest) o h := Pf.lift (fun p e R s m args below meth c Q H locs cells slots ls X hl k => lv_iconst X.1 X.2.1 d hv k) r
theorem r_bipush {n : Int} {v : Int32} (d : decode cc pc = .ok (.bipush n, 2)) (hv : (Int8.ofInt n).toInt32 = v) (r : Pf w (own, cc, nL, nm, ret, fr, lw) en (pc + 2) L G (.int v :: rest) o h) : Pf w (own, cc, nL, nm, ret, fr, lw) en pc L G (rest) o h := Pf.lift (fun p e R s m args below meth c Q H locs cells slots ls X hl k => lv_bipush X.1 X.2.1 d hv k) r
theorem r_sipush {n : Int} {v : Int32} (d : decode cc pc = .ok (.sipush n, 3)) (hv : (Int16.ofInt n).toInt32 = v) (r : Pf w (own, cc, nL, nm, ret, fr, lw) en (pc + 3) L G (.int v :: rest) o h) : Pf w (own, cc, nL, nm, ret, fr, lw) en pc L G (rest) o h := Pf.lift (fun p e R s m args below meth c Q H locs cells slots ls X hl k => lv_sipush X.1 X.2.1 d hv k) r
theorem r_lconst {n : Fin 2} {v : Int64} (d : decode cc pc = .ok (.lconst n, 1)) (hv : Int64.ofNat (n : Nat) = v) (r : Pf w (own, cc, nL, nm, ret, fr, lw) en (pc + 1) L G (.long v :: rest) o h) : Pf w (own, cc, nL, nm, ret, fr, lw) en pc L G (rest) o h := Pf.lift (fun p e R s m args below meth c Q H locs cells slots ls X hl k => lv_lconst X.1 X.2.1 d hv k) r
theorem r_null  (d : decode cc pc = .ok (.aconst_null, 1))  (r : Pf w (own, cc, nL, nm, ret, fr, lw) en (pc + 1) L G (rv w 0 :: rest) o h) : Pf w (own, cc, nL, nm, ret, fr, lw) en pc L G (rest) o h := Pf.lift (fun p e R s m args below meth c Q H locs cells slots ls X hl k => lv_null X.1 X.2.1 d k) r
theorem r_fconst0  (d : decode cc pc = .ok (.fconst 0, 1))  (r : Pf w (own, cc, nL, nm, ret, fr, lw) en (pc + 1) L G (.float FP.fconst0 :: rest) o h) : Pf w (own, cc, nL, nm, ret, fr, lw) en pc L G (rest) o h := Pf.lift (fun p e R s m args below meth c Q H locs cells slots ls X hl k => lv_fconst0 X.1 X.2.1 d k) r
theorem r_iload_n {j : Fin 4} {i : Nat} {x : Int32} (d : decode cc pc = .ok (.iload_n j, 1)) (hi : (j : Nat) = i) (z : Nat) (hz : L[z]? = some (i, .int x)) (r : Pf w (own, cc, nL, nm, ret, fr, lw) en (pc + 1) L G (.int x :: rest) o h) : Pf w (own, cc, nL, nm, ret, fr, lw) en pc L G (rest) o h := Pf.lift (fun p e R s m args below meth c Q H locs cells slots ls X hl k => lv_iload_n X.1 X.2.1 d hi (hl.at z hz) k) r
theorem r_iload {i : Nat} {x : Int32} (d : decode cc pc = .ok (.iload i, 2)) (z : Nat) (hz : L[z]? = some (i, .int x)) (r : Pf w (own, cc, nL, nm, ret, fr, lw) en (pc + 2) L G (.int x :: rest) o h) : Pf w (own, cc, nL, nm, ret, fr, lw) en pc L G (rest) o h := Pf.lift (fun p e R s m args below meth c Q H locs cells slots ls X hl k => lv_iload X.1 X.2.1 d (hl.at z hz) k) r
theorem r_lload_n {j : Fin 4} {i : Nat} {x : Int64} (d : decode cc pc = .ok (.lload_n j, 1)) (hi : (j : Nat) = i) (z : Nat) (hz : L[z]? = some (i, .long x)) (r : Pf w (own, cc, nL, nm, ret, fr, lw) en (pc + 1) L G (.long x :: rest) o h) : Pf w (own, cc, nL, nm, ret, fr, lw) en pc L G (rest) o h := Pf.lift (fun p e R s m args below meth c Q H locs cells slots ls X hl k => lv_lload_n X.1 X.2.1 d hi (hl.at z hz) k) r
theorem r_lload {i : Nat} {x : Int64} (d : decode cc pc = .ok (.lload i, 2)) (z : Nat) (hz : L[z]? = some (i, .long x)) (r : Pf w (own, cc, nL, nm, ret, fr, lw) en (pc + 2) L G (.long x :: rest) o h) : Pf w (own, cc, nL, nm, ret, fr, lw) en pc L G (rest) o h := Pf.lift (fun p e R s m args below meth c Q H locs cells slots ls X hl k => lv_lload X.1 X.2.1 d (hl.at z hz) k) r
theorem r_dload_n {j : Fin 4} {i : Nat} {x : UInt64} (d : decode cc pc = .ok (.dload_n j, 1)) (hi : (j : Nat) = i) (z : Nat) (hz : L[z]? = some (i, .double x)) (r : Pf w (own, cc, nL, nm, ret, fr, lw) en (pc + 1) L G (.double x :: rest) o h) : Pf w (own, cc, nL, nm, ret, fr, lw) en pc L G (rest) o h := Pf.lift (fun p e R s m args below meth c Q H locs cells slots ls X hl k => lv_dload_n X.1 X.2.1 d hi (hl.at z hz) k) r
theorem r_dload {i : Nat} {x : UInt64} (d : decode cc pc = .ok (.dload i, 2)) (z : Nat) (hz : L[z]? = some (i, .double x)) (r : Pf w (own, cc, nL, nm, ret, fr, lw) en (pc + 2) L G (.double x :: rest) o h) : Pf w (own, cc, nL, nm, ret, fr, lw) en pc L G (rest) o h := Pf.lift (fun p e R s m args below meth c Q H locs cells slots ls X hl k => lv_dload X.1 X.2.1 d (hl.at z hz) k) r
theorem v_aload_n {p : Program} {e : Env} {R : Room} {s : State} {m : MethodId} {args : Array Value} {below : List Frame} {meth : Method} {c : Code} {Q : State → Prop} {ls : Array Slot} {l : Launch} {H : Heap} {locs : List Loc} {cells slots : Nat} (hexec : p.tables.exec = Jvm.exec) (hb : c.code = cc) {j : Fin 4} {i r : Nat} (hdg : decode cc pc = .ok (.aload_n j, 1)) (hi : (j : Nat) = i) (hl : ls[i]? = some (.val (rv w r)))
    (k : W p l e R s m args below meth c H locs cells slots Q (F0 m (pc + 1) ls (rv w r :: rest))) : W p l e R s m args below meth c H locs cells slots Q (F0 m pc ls rest) := by
  rcases rv_ref w r with q | ⟨a, q⟩
  · rw [q] at hl k
    exact lv_aload_nN hexec hb hdg hi hl k
  · rw [q] at hl k
    exact lv_aload_n hexec hb hdg hi hl k
theorem v_aload {p : Program} {e : Env} {R : Room} {s : State} {m : MethodId} {args : Array Value} {below : List Frame} {meth : Method} {c : Code} {Q : State → Prop} {ls : Array Slot} {l : Launch} {H : Heap} {locs : List Loc} {cells slots : Nat} (hexec : p.tables.exec = Jvm.exec) (hb : c.code = cc) {i r : Nat} (hdg : decode cc pc = .ok (.aload i, 2)) (hl : ls[i]? = some (.val (rv w r)))
    (k : W p l e R s m args below meth c H locs cells slots Q (F0 m (pc + 2) ls (rv w r :: rest))) : W p l e R s m args below meth c H locs cells slots Q (F0 m pc ls rest) := by
  rcases rv_ref w r with q | ⟨a, q⟩
  · rw [q] at hl k
    exact lv_aloadN hexec hb hdg hl k
  · rw [q] at hl k
    exact lv_aload hexec hb hdg hl k
theorem r_aload_n {j : Fin 4} {i r9 : Nat} (d : decode cc pc = .ok (.aload_n j, 1)) (hi : (j : Nat) = i) (z : Nat) (hz : G[z]? = some (i, r9)) (r : Pf w (own, cc, nL, nm, ret, fr, lw) en (pc + 1) L G (rv w r9 :: rest) o h) : Pf w (own, cc, nL, nm, ret, fr, lw) en pc L G (rest) o h := Pf.lift (fun p e R s m args below meth c Q H locs cells slots ls X hl k => v_aload_n X.1 X.2.1 d hi (hl.atR z hz) k) r
theorem r_aload {i r9 : Nat} (d : decode cc pc = .ok (.aload i, 2)) (z : Nat) (hz : G[z]? = some (i, r9)) (r : Pf w (own, cc, nL, nm, ret, fr, lw) en (pc + 2) L G (rv w r9 :: rest) o h) : Pf w (own, cc, nL, nm, ret, fr, lw) en pc L G (rest) o h := Pf.lift (fun p e R s m args below meth c Q H locs cells slots ls X hl k => v_aload X.1 X.2.1 d (hl.atR z hz) k) r
theorem r_iadd {x y : Int32} (d : decode cc pc = .ok (.iadd, 1))  (r : Pf w (own, cc, nL, nm, ret, fr, lw) en (pc + 1) L G (.int (x + y) :: rest) o h) : Pf w (own, cc, nL, nm, ret, fr, lw) en pc L G (.int y :: .int x :: rest) o h := Pf.lift (fun p e R s m args below meth c Q H locs cells slots ls X hl k => lv_iadd X.1 X.2.1 d k) r
theorem r_isub {x y : Int32} (d : decode cc pc = .ok (.isub, 1))  (r : Pf w (own, cc, nL, nm, ret, fr, lw) en (pc + 1) L G (.int (x - y) :: rest) o h) : Pf w (own, cc, nL, nm, ret, fr, lw) en pc L G (.int y :: .int x :: rest) o h := Pf.lift (fun p e R s m args below meth c Q H locs cells slots ls X hl k => lv_isub X.1 X.2.1 d k) r
theorem r_imul {x y : Int32} (d : decode cc pc = .ok (.imul, 1))  (r : Pf w (own, cc, nL, nm, ret, fr, lw) en (pc + 1) L G (.int (x * y) :: rest) o h) : Pf w (own, cc, nL, nm, ret, fr, lw) en pc L G (.int y :: .int x :: rest) o h := Pf.lift (fun p e R s m args below meth c Q H locs cells slots ls X hl k => lv_imul X.1 X.2.1 d k) r
theorem r_iand {x y : Int32} (d : decode cc pc = .ok (.iand, 1))  (r : Pf w (own, cc, nL, nm, ret, fr, lw) en (pc + 1) L G (.int (x &&& y) :: rest) o h) : Pf w (own, cc, nL, nm, ret, fr, lw) en pc L G (.int y :: .int x :: rest) o h := Pf.lift (fun p e R s m args below meth c Q H locs cells slots ls X hl k => lv_iand X.1 X.2.1 d k) r
theorem r_ior {x y : Int32} (d : decode cc pc = .ok (.ior, 1))  (r : Pf w (own, cc, nL, nm, ret, fr, lw) en (pc + 1) L G (.int (x ||| y) :: rest) o h) : Pf w (own, cc, nL, nm, ret, fr, lw) en pc L G (.int y :: .int x :: rest) o h := Pf.lift (fun p e R s m args below meth c Q H locs cells slots ls X hl k => lv_ior X.1 X.2.1 d k) r
theorem r_ixor {x y : Int32} (d : decode cc pc = .ok (.ixor, 1))  (r : Pf w (own, cc, nL, nm, ret, fr, lw) en (pc + 1) L G (.int (x ^^^ y) :: rest) o h) : Pf w (own, cc, nL, nm, ret, fr, lw) en pc L G (.int y :: .int x :: rest) o h := Pf.lift (fun p e R s m args below meth c Q H locs cells slots ls X hl k => lv_ixor X.1 X.2.1 d k) r
theorem r_ishl {x y : Int32} (d : decode cc pc = .ok (.ishl, 1))  (r : Pf w (own, cc, nL, nm, ret, fr, lw) en (pc + 1) L G (.int (x <<< (y &&& 31)) :: rest) o h) : Pf w (own, cc, nL, nm, ret, fr, lw) en pc L G (.int y :: .int x :: rest) o h := Pf.lift (fun p e R s m args below meth c Q H locs cells slots ls X hl k => lv_ishl X.1 X.2.1 d k) r
theorem r_ishr {x y : Int32} (d : decode cc pc = .ok (.ishr, 1))  (r : Pf w (own, cc, nL, nm, ret, fr, lw) en (pc + 1) L G (.int (x >>> (y &&& 31)) :: rest) o h) : Pf w (own, cc, nL, nm, ret, fr, lw) en pc L G (.int y :: .int x :: rest) o h := Pf.lift (fun p e R s m args below meth c Q H locs cells slots ls X hl k => lv_ishr X.1 X.2.1 d k) r
theorem r_iushr {x y v : Int32} (d : decode cc pc = .ok (.iushr, 1)) (hv : (x.toUInt32 >>> (y.toUInt32 &&& Int32.toUInt32 31)).toInt32 = v) (r : Pf w (own, cc, nL, nm, ret, fr, lw) en (pc + 1) L G (.int v :: rest) o h) : Pf w (own, cc, nL, nm, ret, fr, lw) en pc L G (.int y :: .int x :: rest) o h := Pf.lift (fun p e R s m args below meth c Q H locs cells slots ls X hl k => lv_iushr X.1 X.2.1 d hv k) r
theorem r_ineg {x : Int32} (d : decode cc pc = .ok (.ineg, 1))  (r : Pf w (own, cc, nL, nm, ret, fr, lw) en (pc + 1) L G (.int (-x) :: rest) o h) : Pf w (own, cc, nL, nm, ret, fr, lw) en pc L G (.int x :: rest) o h := Pf.lift (fun p e R s m args below meth c Q H locs cells slots ls X hl k => lv_ineg X.1 X.2.1 d k) r
theorem r_ladd {x y : Int64} (d : decode cc pc = .ok (.ladd, 1))  (r : Pf w (own, cc, nL, nm, ret, fr, lw) en (pc + 1) L G (.long (x + y) :: rest) o h) : Pf w (own, cc, nL, nm, ret, fr, lw) en pc L G (.long y :: .long x :: rest) o h := Pf.lift (fun p e R s m args below meth c Q H locs cells slots ls X hl k => lv_ladd X.1 X.2.1 d k) r
theorem r_lsub {x y : Int64} (d : decode cc pc = .ok (.lsub, 1))  (r : Pf w (own, cc, nL, nm, ret, fr, lw) en (pc + 1) L G (.long (x - y) :: rest) o h) : Pf w (own, cc, nL, nm, ret, fr, lw) en pc L G (.long y :: .long x :: rest) o h := Pf.lift (fun p e R s m args below meth c Q H locs cells slots ls X hl k => lv_lsub X.1 X.2.1 d k) r
theorem r_lmul {x y : Int64} (d : decode cc pc = .ok (.lmul, 1))  (r : Pf w (own, cc, nL, nm, ret, fr, lw) en (pc + 1) L G (.long (x * y) :: rest) o h) : Pf w (own, cc, nL, nm, ret, fr, lw) en pc L G (.long y :: .long x :: rest) o h := Pf.lift (fun p e R s m args below meth c Q H locs cells slots ls X hl k => lv_lmul X.1 X.2.1 d k) r
theorem r_lcmp {x y : Int64} (d : decode cc pc = .ok (.lcmp, 1))  (r : Pf w (own, cc, nL, nm, ret, fr, lw) en (pc + 1) L G (.int (lg_cmp x y) :: rest) o h) : Pf w (own, cc, nL, nm, ret, fr, lw) en pc L G (.long y :: .long x :: rest) o h := Pf.lift (fun p e R s m args below meth c Q H locs cells slots ls X hl k => W.lcmp X.1 X.2.1 d k) r
theorem r_i2l {x : Int32} (d : decode cc pc = .ok (.i2l, 1))  (r : Pf w (own, cc, nL, nm, ret, fr, lw) en (pc + 1) L G (.long x.toInt64 :: rest) o h) : Pf w (own, cc, nL, nm, ret, fr, lw) en pc L G (.int x :: rest) o h := Pf.lift (fun p e R s m args below meth c Q H locs cells slots ls X hl k => lv_i2l X.1 X.2.1 d rfl k) r
theorem r_l2i {x : Int64} (d : decode cc pc = .ok (.l2i, 1))  (r : Pf w (own, cc, nL, nm, ret, fr, lw) en (pc + 1) L G (.int x.toInt32 :: rest) o h) : Pf w (own, cc, nL, nm, ret, fr, lw) en pc L G (.long x :: rest) o h := Pf.lift (fun p e R s m args below meth c Q H locs cells slots ls X hl k => lv_l2i X.1 X.2.1 d rfl k) r
theorem r_i2b {x : Int32} (d : decode cc pc = .ok (.i2b, 1))  (r : Pf w (own, cc, nL, nm, ret, fr, lw) en (pc + 1) L G (.int x.toInt8.toInt32 :: rest) o h) : Pf w (own, cc, nL, nm, ret, fr, lw) en pc L G (.int x :: rest) o h := Pf.lift (fun p e R s m args below meth c Q H locs cells slots ls X hl k => lv_i2b X.1 X.2.1 d rfl k) r
theorem r_i2s {x : Int32} (d : decode cc pc = .ok (.i2s, 1))  (r : Pf w (own, cc, nL, nm, ret, fr, lw) en (pc + 1) L G (.int x.toInt16.toInt32 :: rest) o h) : Pf w (own, cc, nL, nm, ret, fr, lw) en pc L G (.int x :: rest) o h := Pf.lift (fun p e R s m args below meth c Q H locs cells slots ls X hl k => lv_i2s X.1 X.2.1 d rfl k) r
theorem r_i2c {x : Int32} (d : decode cc pc = .ok (.i2c, 1))  (r : Pf w (own, cc, nL, nm, ret, fr, lw) en (pc + 1) L G (.int (x.toUInt32 % 65536).toInt32 :: rest) o h) : Pf w (own, cc, nL, nm, ret, fr, lw) en pc L G (.int x :: rest) o h := Pf.lift (fun p e R s m args below meth c Q H locs cells slots ls X hl k => lv_i2c X.1 X.2.1 d rfl k) r
theorem r_i2f {x : Int32} (d : decode cc pc = .ok (.i2f, 1))  (r : Pf w (own, cc, nL, nm, ret, fr, lw) en (pc + 1) L G (.float (FP.i2f x) :: rest) o h) : Pf w (own, cc, nL, nm, ret, fr, lw) en pc L G (.int x :: rest) o h := Pf.lift (fun p e R s m args below meth c Q H locs cells slots ls X hl k => lv_i2f X.1 X.2.1 d k) r
theorem r_i2d {x : Int32} (d : decode cc pc = .ok (.i2d, 1))  (r : Pf w (own, cc, nL, nm, ret, fr, lw) en (pc + 1) L G (.double (FP.i2d x) :: rest) o h) : Pf w (own, cc, nL, nm, ret, fr, lw) en pc L G (.int x :: rest) o h := Pf.lift (fun p e R s m args below meth c Q H locs cells slots ls X hl k => lv_i2d X.1 X.2.1 d k) r
theorem r_dup {va : Value} (d : decode cc pc = .ok (.dup, 1)) (h1 : va.category = 1) (r : Pf w (own, cc, nL, nm, ret, fr, lw) en (pc + 1) L G (va :: va :: rest) o h) : Pf w (own, cc, nL, nm, ret, fr, lw) en pc L G (va :: rest) o h := Pf.lift (fun p e R s m args below meth c Q H locs cells slots ls X hl k => lv_dup X.1 X.2.1 d h1 k) r
theorem r_pop {va : Value} (d : decode cc pc = .ok (.pop, 1)) (h1 : va.category = 1) (r : Pf w (own, cc, nL, nm, ret, fr, lw) en (pc + 1) L G (rest) o h) : Pf w (own, cc, nL, nm, ret, fr, lw) en pc L G (va :: rest) o h := Pf.lift (fun p e R s m args below meth c Q H locs cells slots ls X hl k => lv_pop X.1 X.2.1 d h1 k) r
theorem r_pop2_2 {va : Value} (d : decode cc pc = .ok (.pop2, 1)) (h1 : va.category = 2) (r : Pf w (own, cc, nL, nm, ret, fr, lw) en (pc + 1) L G (rest) o h) : Pf w (own, cc, nL, nm, ret, fr, lw) en pc L G (va :: rest) o h := Pf.lift (fun p e R s m args below meth c Q H locs cells slots ls X hl k => lv_pop2_2 X.1 X.2.1 d h1 k) r
theorem r_dup_x1 {va vb : Value} (d : decode cc pc = .ok (.dup_x1, 1)) (h1 : va.category = 1) (h2 : vb.category = 1) (r : Pf w (own, cc, nL, nm, ret, fr, lw) en (pc + 1) L G (va :: vb :: va :: rest) o h) : Pf w (own, cc, nL, nm, ret, fr, lw) en pc L G (va :: vb :: rest) o h := Pf.lift (fun p e R s m args below meth c Q H locs cells slots ls X hl k => lv_dup_x1 X.1 X.2.1 d h1 h2 k) r
theorem r_dup_x2 {va vb vd : Value} (d : decode cc pc = .ok (.dup_x2, 1)) (h1 : va.category = 1) (h2 : vb.category = 1) (h3 : vd.category = 1) (r : Pf w (own, cc, nL, nm, ret, fr, lw) en (pc + 1) L G (va :: vb :: vd :: va :: rest) o h) : Pf w (own, cc, nL, nm, ret, fr, lw) en pc L G (va :: vb :: vd :: rest) o h := Pf.lift (fun p e R s m args below meth c Q H locs cells slots ls X hl k => lv_dup_x2 X.1 X.2.1 d h1 h2 h3 k) r
theorem r_dup2_11 {va vb : Value} (d : decode cc pc = .ok (.dup2, 1)) (h1 : va.category = 1) (h2 : vb.category = 1) (r : Pf w (own, cc, nL, nm, ret, fr, lw) en (pc + 1) L G (va :: vb :: va :: vb :: rest) o h) : Pf w (own, cc, nL, nm, ret, fr, lw) en pc L G (va :: vb :: rest) o h := Pf.lift (fun p e R s m args below meth c Q H locs cells slots ls X hl k => lv_dup2_11 X.1 X.2.1 d h1 h2 k) r
theorem r_goto {off : Int} {tgt : Nat} (d : decode cc pc = .ok (.goto off, 3)) (ht : (pc : Int) + off = (tgt : Int)) (r : Pf w (own, cc, nL, nm, ret, fr, lw) en tgt L G (rest) o h) : Pf w (own, cc, nL, nm, ret, fr, lw) en pc L G (rest) o h := Pf.lift (fun p e R s m args below meth c Q H locs cells slots ls X hl k => lv_goto X.1 X.2.1 d ht k) r
theorem r_ldc {index : Nat} {v : Int32} (d : decode cc pc = .ok (.ldc index, 2)) (hc : Cond.constant own index v ∈ lw_all) (r : Pf w (own, cc, nL, nm, ret, fr, lw) en (pc + 2) L G (.int v :: rest) o h) : Pf w (own, cc, nL, nm, ret, fr, lw) en pc L G (rest) o h := Pf.lift (fun p e R s m args below meth c Q H locs cells slots ls X hl k => lv_ldc X.1 X.2.1 X.2.2.2.1 (X.2.2.2.2.1 _ hc) d k) r
theorem r_ldcw {index : Nat} {v : Int32} (d : decode cc pc = .ok (.ldc_w index, 3)) (hc : Cond.constant own index v ∈ lw_all) (r : Pf w (own, cc, nL, nm, ret, fr, lw) en (pc + 3) L G (.int v :: rest) o h) : Pf w (own, cc, nL, nm, ret, fr, lw) en pc L G (rest) o h := Pf.lift (fun p e R s m args below meth c Q H locs cells slots ls X hl k => lv_ldcw X.1 X.2.1 X.2.2.2.1 (X.2.2.2.2.1 _ hc) d k) r
theorem r_ldc2 {index : Nat} {v : Int64} (d : decode cc pc = .ok (.ldc2_w index, 3)) (hc : Cond.constantLong own index v ∈ lw_all) (r : Pf w (own, cc, nL, nm, ret, fr, lw) en (pc + 3) L G (.long v :: rest) o h) : Pf w (own, cc, nL, nm, ret, fr, lw) en pc L G (rest) o h := Pf.lift (fun p e R s m args below meth c Q H locs cells slots ls X hl k => lv_ldc2 X.1 X.2.1 X.2.2.2.1 (X.2.2.2.2.1 _ hc) d k) r
theorem r_idiv {x y : Int32} (d : decode cc pc = .ok (.idiv, 1)) (r : Pf w (own, cc, nL, nm, ret, fr, lw) en (pc + 1) L G (.int (x / y) :: rest) o h) : Pf w (own, cc, nL, nm, ret, fr, lw) en pc L G (.int y :: .int x :: rest) (o_div y o) h := by
  unfold o_div
  by_cases hy : y = 0
  · rw [if_pos hy]; exact Pf.none
  · rw [if_neg hy]; exact Pf.lift (fun p e R s m args below meth c Q H locs cells slots ls X hl k => lv_idiv X.1 X.2.1 d hy k) r
theorem r_irem {x y : Int32} (d : decode cc pc = .ok (.irem, 1)) (r : Pf w (own, cc, nL, nm, ret, fr, lw) en (pc + 1) L G (.int (x - x / y * y) :: rest) o h) : Pf w (own, cc, nL, nm, ret, fr, lw) en pc L G (.int y :: .int x :: rest) (o_div y o) h := by
  unfold o_div
  by_cases hy : y = 0
  · rw [if_pos hy]; exact Pf.none
  · rw [if_neg hy]; exact Pf.lift (fun p e R s m args below meth c Q H locs cells slots ls X hl k => lv_irem X.1 X.2.1 d hy k) r
theorem r_if_eq {x : Int32} {off : Int} {tgt : Nat} {o1 o2 : Option (α × PH)} (d : decode cc pc = .ok (.ifCond .eq off, 3)) (ht : (pc : Int) + off = (tgt : Int)) (r1 : x = 0 → Pf w (own, cc, nL, nm, ret, fr, lw) en tgt L G (rest) o1 h) (r2 : ¬ (x = 0) → Pf w (own, cc, nL, nm, ret, fr, lw) en (pc + 3) L G (rest) o2 h) : Pf w (own, cc, nL, nm, ret, fr, lw) en pc L G (.int x :: rest) (if x = 0 then o1 else o2) h := Pf.ite (fun p e R s m args below meth c Q H locs cells slots ls X hl k1 k2 => lv_if_eq X.1 X.2.1 d ht k1 k2) r1 r2
theorem s_if_eq {x : Int32} {off : Int} {tgt : Nat} (f : β → Option (α × PH)) {a b : β} (d : decode cc pc = .ok (.ifCond .eq off, 3)) (ht : (pc : Int) + off = (tgt : Int)) (r1 : x = 0 → Pf w (own, cc, nL, nm, ret, fr, lw) en tgt L G (rest) (f a) h) (r2 : ¬ (x = 0) → Pf w (own, cc, nL, nm, ret, fr, lw) en (pc + 3) L G (rest) (f b) h) : Pf w (own, cc, nL, nm, ret, fr, lw) en pc L G (.int x :: rest) (f (if x = 0 then a else b)) h := Pf.sel (fun p e R s m args below meth c Q H locs cells slots ls X hl k1 k2 => lv_if_eq X.1 X.2.1 d ht k1 k2) r1 r2
theorem r_if_lt {x : Int32} {off : Int} {tgt : Nat} {o1 o2 : Option (α × PH)} (d : decode cc pc = .ok (.ifCond .lt off, 3)) (ht : (pc : Int) + off = (tgt : Int)) (r1 : x < 0 → Pf w (own, cc, nL, nm, ret, fr, lw) en tgt L G (rest) o1 h) (r2 : ¬ (x < 0) → Pf w (own, cc, nL, nm, ret, fr, lw) en (pc + 3) L G (rest) o2 h) : Pf w (own, cc, nL, nm, ret, fr, lw) en pc L G (.int x :: rest) (if x < 0 then o1 else o2) h := Pf.ite (fun p e R s m args below meth c Q H locs cells slots ls X hl k1 k2 => lv_if_lt X.1 X.2.1 d ht k1 k2) r1 r2
theorem s_if_lt {x : Int32} {off : Int} {tgt : Nat} (f : β → Option (α × PH)) {a b : β} (d : decode cc pc = .ok (.ifCond .lt off, 3)) (ht : (pc : Int) + off = (tgt : Int)) (r1 : x < 0 → Pf w (own, cc, nL, nm, ret, fr, lw) en tgt L G (rest) (f a) h) (r2 : ¬ (x < 0) → Pf w (own, cc, nL, nm, ret, fr, lw) en (pc + 3) L G (rest) (f b) h) : Pf w (own, cc, nL, nm, ret, fr, lw) en pc L G (.int x :: rest) (f (if x < 0 then a else b)) h := Pf.sel (fun p e R s m args below meth c Q H locs cells slots ls X hl k1 k2 => lv_if_lt X.1 X.2.1 d ht k1 k2) r1 r2
theorem r_if_ge {x : Int32} {off : Int} {tgt : Nat} {o1 o2 : Option (α × PH)} (d : decode cc pc = .ok (.ifCond .ge off, 3)) (ht : (pc : Int) + off = (tgt : Int)) (r1 : 0 ≤ x → Pf w (own, cc, nL, nm, ret, fr, lw) en tgt L G (rest) o1 h) (r2 : ¬ (0 ≤ x) → Pf w (own, cc, nL, nm, ret, fr, lw) en (pc + 3) L G (rest) o2 h) : Pf w (own, cc, nL, nm, ret, fr, lw) en pc L G (.int x :: rest) (if 0 ≤ x then o1 else o2) h := Pf.ite (fun p e R s m args below meth c Q H locs cells slots ls X hl k1 k2 => lv_if_ge X.1 X.2.1 d ht k1 k2) r1 r2
theorem s_if_ge {x : Int32} {off : Int} {tgt : Nat} (f : β → Option (α × PH)) {a b : β} (d : decode cc pc = .ok (.ifCond .ge off, 3)) (ht : (pc : Int) + off = (tgt : Int)) (r1 : 0 ≤ x → Pf w (own, cc, nL, nm, ret, fr, lw) en tgt L G (rest) (f a) h) (r2 : ¬ (0 ≤ x) → Pf w (own, cc, nL, nm, ret, fr, lw) en (pc + 3) L G (rest) (f b) h) : Pf w (own, cc, nL, nm, ret, fr, lw) en pc L G (.int x :: rest) (f (if 0 ≤ x then a else b)) h := Pf.sel (fun p e R s m args below meth c Q H locs cells slots ls X hl k1 k2 => lv_if_ge X.1 X.2.1 d ht k1 k2) r1 r2
theorem r_if_gt {x : Int32} {off : Int} {tgt : Nat} {o1 o2 : Option (α × PH)} (d : decode cc pc = .ok (.ifCond .gt off, 3)) (ht : (pc : Int) + off = (tgt : Int)) (r1 : 0 < x → Pf w (own, cc, nL, nm, ret, fr, lw) en tgt L G (rest) o1 h) (r2 : ¬ (0 < x) → Pf w (own, cc, nL, nm, ret, fr, lw) en (pc + 3) L G (rest) o2 h) : Pf w (own, cc, nL, nm, ret, fr, lw) en pc L G (.int x :: rest) (if 0 < x then o1 else o2) h := Pf.ite (fun p e R s m args below meth c Q H locs cells slots ls X hl k1 k2 => lv_if_gt X.1 X.2.1 d ht k1 k2) r1 r2
theorem s_if_gt {x : Int32} {off : Int} {tgt : Nat} (f : β → Option (α × PH)) {a b : β} (d : decode cc pc = .ok (.ifCond .gt off, 3)) (ht : (pc : Int) + off = (tgt : Int)) (r1 : 0 < x → Pf w (own, cc, nL, nm, ret, fr, lw) en tgt L G (rest) (f a) h) (r2 : ¬ (0 < x) → Pf w (own, cc, nL, nm, ret, fr, lw) en (pc + 3) L G (rest) (f b) h) : Pf w (own, cc, nL, nm, ret, fr, lw) en pc L G (.int x :: rest) (f (if 0 < x then a else b)) h := Pf.sel (fun p e R s m args below meth c Q H locs cells slots ls X hl k1 k2 => lv_if_gt X.1 X.2.1 d ht k1 k2) r1 r2
theorem r_if_le {x : Int32} {off : Int} {tgt : Nat} {o1 o2 : Option (α × PH)} (d : decode cc pc = .ok (.ifCond .le off, 3)) (ht : (pc : Int) + off = (tgt : Int)) (r1 : x ≤ 0 → Pf w (own, cc, nL, nm, ret, fr, lw) en tgt L G (rest) o1 h) (r2 : ¬ (x ≤ 0) → Pf w (own, cc, nL, nm, ret, fr, lw) en (pc + 3) L G (rest) o2 h) : Pf w (own, cc, nL, nm, ret, fr, lw) en pc L G (.int x :: rest) (if x ≤ 0 then o1 else o2) h := Pf.ite (fun p e R s m args below meth c Q H locs cells slots ls X hl k1 k2 => lv_if_le X.1 X.2.1 d ht k1 k2) r1 r2
theorem s_if_le {x : Int32} {off : Int} {tgt : Nat} (f : β → Option (α × PH)) {a b : β} (d : decode cc pc = .ok (.ifCond .le off, 3)) (ht : (pc : Int) + off = (tgt : Int)) (r1 : x ≤ 0 → Pf w (own, cc, nL, nm, ret, fr, lw) en tgt L G (rest) (f a) h) (r2 : ¬ (x ≤ 0) → Pf w (own, cc, nL, nm, ret, fr, lw) en (pc + 3) L G (rest) (f b) h) : Pf w (own, cc, nL, nm, ret, fr, lw) en pc L G (.int x :: rest) (f (if x ≤ 0 then a else b)) h := Pf.sel (fun p e R s m args below meth c Q H locs cells slots ls X hl k1 k2 => lv_if_le X.1 X.2.1 d ht k1 k2) r1 r2
theorem r_if_ne {x : Int32} {off : Int} {tgt : Nat} {o1 o2 : Option (α × PH)} (d : decode cc pc = .ok (.ifCond .ne off, 3)) (ht : (pc : Int) + off = (tgt : Int)) (r1 : x = 0 → Pf w (own, cc, nL, nm, ret, fr, lw) en (pc + 3) L G (rest) o1 h) (r2 : ¬ (x = 0) → Pf w (own, cc, nL, nm, ret, fr, lw) en tgt L G (rest) o2 h) : Pf w (own, cc, nL, nm, ret, fr, lw) en pc L G (.int x :: rest) (if x = 0 then o1 else o2) h := Pf.ite (fun p e R s m args below meth c Q H locs cells slots ls X hl k1 k2 => lv_if_ne X.1 X.2.1 d ht k2 k1) r1 r2
theorem s_if_ne {x : Int32} {off : Int} {tgt : Nat} (f : β → Option (α × PH)) {a b : β} (d : decode cc pc = .ok (.ifCond .ne off, 3)) (ht : (pc : Int) + off = (tgt : Int)) (r1 : x = 0 → Pf w (own, cc, nL, nm, ret, fr, lw) en (pc + 3) L G (rest) (f a) h) (r2 : ¬ (x = 0) → Pf w (own, cc, nL, nm, ret, fr, lw) en tgt L G (rest) (f b) h) : Pf w (own, cc, nL, nm, ret, fr, lw) en pc L G (.int x :: rest) (f (if x = 0 then a else b)) h := Pf.sel (fun p e R s m args below meth c Q H locs cells slots ls X hl k1 k2 => lv_if_ne X.1 X.2.1 d ht k2 k1) r1 r2
theorem r_icmp_eq {x y : Int32} {off : Int} {tgt : Nat} {o1 o2 : Option (α × PH)} (d : decode cc pc = .ok (.if_icmp .eq off, 3)) (ht : (pc : Int) + off = (tgt : Int)) (r1 : x = y → Pf w (own, cc, nL, nm, ret, fr, lw) en tgt L G (rest) o1 h) (r2 : ¬ (x = y) → Pf w (own, cc, nL, nm, ret, fr, lw) en (pc + 3) L G (rest) o2 h) : Pf w (own, cc, nL, nm, ret, fr, lw) en pc L G (.int y :: .int x :: rest) (if x = y then o1 else o2) h := Pf.ite (fun p e R s m args below meth c Q H locs cells slots ls X hl k1 k2 => lv_icmp_eq X.1 X.2.1 d ht k1 k2) r1 r2
theorem s_icmp_eq {x y : Int32} {off : Int} {tgt : Nat} (f : β → Option (α × PH)) {a b : β} (d : decode cc pc = .ok (.if_icmp .eq off, 3)) (ht : (pc : Int) + off = (tgt : Int)) (r1 : x = y → Pf w (own, cc, nL, nm, ret, fr, lw) en tgt L G (rest) (f a) h) (r2 : ¬ (x = y) → Pf w (own, cc, nL, nm, ret, fr, lw) en (pc + 3) L G (rest) (f b) h) : Pf w (own, cc, nL, nm, ret, fr, lw) en pc L G (.int y :: .int x :: rest) (f (if x = y then a else b)) h := Pf.sel (fun p e R s m args below meth c Q H locs cells slots ls X hl k1 k2 => lv_icmp_eq X.1 X.2.1 d ht k1 k2) r1 r2
theorem r_icmp_lt {x y : Int32} {off : Int} {tgt : Nat} {o1 o2 : Option (α × PH)} (d : decode cc pc = .ok (.if_icmp .lt off, 3)) (ht : (pc : Int) + off = (tgt : Int)) (r1 : x < y → Pf w (own, cc, nL, nm, ret, fr, lw) en tgt L G (rest) o1 h) (r2 : ¬ (x < y) → Pf w (own, cc, nL, nm, ret, fr, lw) en (pc + 3) L G (rest) o2 h) : Pf w (own, cc, nL, nm, ret, fr, lw) en pc L G (.int y :: .int x :: rest) (if x < y then o1 else o2) h := Pf.ite (fun p e R s m args below meth c Q H locs cells slots ls X hl k1 k2 => lv_icmp_lt X.1 X.2.1 d ht k1 k2) r1 r2
theorem s_icmp_lt {x y : Int32} {off : Int} {tgt : Nat} (f : β → Option (α × PH)) {a b : β} (d : decode cc pc = .ok (.if_icmp .lt off, 3)) (ht : (pc : Int) + off = (tgt : Int)) (r1 : x < y → Pf w (own, cc, nL, nm, ret, fr, lw) en tgt L G (rest) (f a) h) (r2 : ¬ (x < y) → Pf w (own, cc, nL, nm, ret, fr, lw) en (pc + 3) L G (rest) (f b) h) : Pf w (own, cc, nL, nm, ret, fr, lw) en pc L G (.int y :: .int x :: rest) (f (if x < y then a else b)) h := Pf.sel (fun p e R s m args below meth c Q H locs cells slots ls X hl k1 k2 => lv_icmp_lt X.1 X.2.1 d ht k1 k2) r1 r2
theorem r_icmp_ge {x y : Int32} {off : Int} {tgt : Nat} {o1 o2 : Option (α × PH)} (d : decode cc pc = .ok (.if_icmp .ge off, 3)) (ht : (pc : Int) + off = (tgt : Int)) (r1 : y ≤ x → Pf w (own, cc, nL, nm, ret, fr, lw) en tgt L G (rest) o1 h) (r2 : ¬ (y ≤ x) → Pf w (own, cc, nL, nm, ret, fr, lw) en (pc + 3) L G (rest) o2 h) : Pf w (own, cc, nL, nm, ret, fr, lw) en pc L G (.int y :: .int x :: rest) (if y ≤ x then o1 else o2) h := Pf.ite (fun p e R s m args below meth c Q H locs cells slots ls X hl k1 k2 => lv_icmp_ge X.1 X.2.1 d ht k1 k2) r1 r2
theorem s_icmp_ge {x y : Int32} {off : Int} {tgt : Nat} (f : β → Option (α × PH)) {a b : β} (d : decode cc pc = .ok (.if_icmp .ge off, 3)) (ht : (pc : Int) + off = (tgt : Int)) (r1 : y ≤ x → Pf w (own, cc, nL, nm, ret, fr, lw) en tgt L G (rest) (f a) h) (r2 : ¬ (y ≤ x) → Pf w (own, cc, nL, nm, ret, fr, lw) en (pc + 3) L G (rest) (f b) h) : Pf w (own, cc, nL, nm, ret, fr, lw) en pc L G (.int y :: .int x :: rest) (f (if y ≤ x then a else b)) h := Pf.sel (fun p e R s m args below meth c Q H locs cells slots ls X hl k1 k2 => lv_icmp_ge X.1 X.2.1 d ht k1 k2) r1 r2
theorem r_icmp_gt {x y : Int32} {off : Int} {tgt : Nat} {o1 o2 : Option (α × PH)} (d : decode cc pc = .ok (.if_icmp .gt off, 3)) (ht : (pc : Int) + off = (tgt : Int)) (r1 : y < x → Pf w (own, cc, nL, nm, ret, fr, lw) en tgt L G (rest) o1 h) (r2 : ¬ (y < x) → Pf w (own, cc, nL, nm, ret, fr, lw) en (pc + 3) L G (rest) o2 h) : Pf w (own, cc, nL, nm, ret, fr, lw) en pc L G (.int y :: .int x :: rest) (if y < x then o1 else o2) h := Pf.ite (fun p e R s m args below meth c Q H locs cells slots ls X hl k1 k2 => lv_icmp_gt X.1 X.2.1 d ht k1 k2) r1 r2
theorem s_icmp_gt {x y : Int32} {off : Int} {tgt : Nat} (f : β → Option (α × PH)) {a b : β} (d : decode cc pc = .ok (.if_icmp .gt off, 3)) (ht : (pc : Int) + off = (tgt : Int)) (r1 : y < x → Pf w (own, cc, nL, nm, ret, fr, lw) en tgt L G (rest) (f a) h) (r2 : ¬ (y < x) → Pf w (own, cc, nL, nm, ret, fr, lw) en (pc + 3) L G (rest) (f b) h) : Pf w (own, cc, nL, nm, ret, fr, lw) en pc L G (.int y :: .int x :: rest) (f (if y < x then a else b)) h := Pf.sel (fun p e R s m args below meth c Q H locs cells slots ls X hl k1 k2 => lv_icmp_gt X.1 X.2.1 d ht k1 k2) r1 r2
theorem r_icmp_le {x y : Int32} {off : Int} {tgt : Nat} {o1 o2 : Option (α × PH)} (d : decode cc pc = .ok (.if_icmp .le off, 3)) (ht : (pc : Int) + off = (tgt : Int)) (r1 : x ≤ y → Pf w (own, cc, nL, nm, ret, fr, lw) en tgt L G (rest) o1 h) (r2 : ¬ (x ≤ y) → Pf w (own, cc, nL, nm, ret, fr, lw) en (pc + 3) L G (rest) o2 h) : Pf w (own, cc, nL, nm, ret, fr, lw) en pc L G (.int y :: .int x :: rest) (if x ≤ y then o1 else o2) h := Pf.ite (fun p e R s m args below meth c Q H locs cells slots ls X hl k1 k2 => lv_icmp_le X.1 X.2.1 d ht k1 k2) r1 r2
theorem s_icmp_le {x y : Int32} {off : Int} {tgt : Nat} (f : β → Option (α × PH)) {a b : β} (d : decode cc pc = .ok (.if_icmp .le off, 3)) (ht : (pc : Int) + off = (tgt : Int)) (r1 : x ≤ y → Pf w (own, cc, nL, nm, ret, fr, lw) en tgt L G (rest) (f a) h) (r2 : ¬ (x ≤ y) → Pf w (own, cc, nL, nm, ret, fr, lw) en (pc + 3) L G (rest) (f b) h) : Pf w (own, cc, nL, nm, ret, fr, lw) en pc L G (.int y :: .int x :: rest) (f (if x ≤ y then a else b)) h := Pf.sel (fun p e R s m args below meth c Q H locs cells slots ls X hl k1 k2 => lv_icmp_le X.1 X.2.1 d ht k1 k2) r1 r2
theorem r_icmp_ne {x y : Int32} {off : Int} {tgt : Nat} {o1 o2 : Option (α × PH)} (d : decode cc pc = .ok (.if_icmp .ne off, 3)) (ht : (pc : Int) + off = (tgt : Int)) (r1 : x = y → Pf w (own, cc, nL, nm, ret, fr, lw) en (pc + 3) L G (rest) o1 h) (r2 : ¬ (x = y) → Pf w (own, cc, nL, nm, ret, fr, lw) en tgt L G (rest) o2 h) : Pf w (own, cc, nL, nm, ret, fr, lw) en pc L G (.int y :: .int x :: rest) (if x = y then o1 else o2) h := Pf.ite (fun p e R s m args below meth c Q H locs cells slots ls X hl k1 k2 => lv_icmp_ne X.1 X.2.1 d ht k2 k1) r1 r2
theorem s_icmp_ne {x y : Int32} {off : Int} {tgt : Nat} (f : β → Option (α × PH)) {a b : β} (d : decode cc pc = .ok (.if_icmp .ne off, 3)) (ht : (pc : Int) + off = (tgt : Int)) (r1 : x = y → Pf w (own, cc, nL, nm, ret, fr, lw) en (pc + 3) L G (rest) (f a) h) (r2 : ¬ (x = y) → Pf w (own, cc, nL, nm, ret, fr, lw) en tgt L G (rest) (f b) h) : Pf w (own, cc, nL, nm, ret, fr, lw) en pc L G (.int y :: .int x :: rest) (f (if x = y then a else b)) h := Pf.sel (fun p e R s m args below meth c Q H locs cells slots ls X hl k1 k2 => lv_icmp_ne X.1 X.2.1 d ht k2 k1) r1 r2
theorem r_istore_n {j : Fin 4} {i : Nat} {x : Int32} (d : decode cc pc = .ok (.istore_n j, 1)) (hi : (j : Nat) = i) (hn : i < nL) (hL : L.filter (fun q => !(q.1 == i) && !(q.1 + 1 == i && q.2.category == 2)) = L') (hG : G.filter (fun q => !(q.1 == i)) = G')
    (r : Pf w (own, cc, nL, nm, ret, fr, lw) en (pc + 1) ((i, .int x) :: L') G' (rest) o h) : Pf w (own, cc, nL, nm, ret, fr, lw) en pc L G (.int x :: rest) o h := by
  intro rE hE q
  refine ⟨(r rE hE q).1, fun p e s m args below meth c h0 X y1 y2 y3 ls hl H locs a b f => ?_⟩
  exact lv_istore_n X.1 X.2.1 d hi hl.all hn rfl (fun l1 z1 => (r rE hE q).2 p e s m args below meth c h0 X y1 y2 y3 l1 (lh.st1 z1 hL hG).1 H locs a b f)
theorem r_istore {i : Nat} {x : Int32} (d : decode cc pc = .ok (.istore i, 2)) (hn : i < nL) (hL : L.filter (fun q => !(q.1 == i) && !(q.1 + 1 == i && q.2.category == 2)) = L') (hG : G.filter (fun q => !(q.1 == i)) = G')
    (r : Pf w (own, cc, nL, nm, ret, fr, lw) en (pc + 2) ((i, .int x) :: L') G' (rest) o h) : Pf w (own, cc, nL, nm, ret, fr, lw) en pc L G (.int x :: rest) o h := by
  intro rE hE q
  refine ⟨(r rE hE q).1, fun p e s m args below meth c h0 X y1 y2 y3 ls hl H locs a b f => ?_⟩
  exact lv_istore X.1 X.2.1 d hl.all hn rfl (fun l1 z1 => (r rE hE q).2 p e s m args below meth c h0 X y1 y2 y3 l1 (lh.st1 z1 hL hG).1 H locs a b f)
theorem r_astore_n {j : Fin 4} {i r9 : Nat} (d : decode cc pc = .ok (.astore_n j, 1)) (hi : (j : Nat) = i) (hn : i < nL) (hL : L.filter (fun q => !(q.1 == i) && !(q.1 + 1 == i && q.2.category == 2)) = L') (hG : G.filter (fun q => !(q.1 == i)) = G')
    (r : Pf w (own, cc, nL, nm, ret, fr, lw) en (pc + 1) L' ((i, r9) :: G') (rest) o h) : Pf w (own, cc, nL, nm, ret, fr, lw) en pc L G (rv w r9 :: rest) o h := by
  intro rE hE q
  refine ⟨(r rE hE q).1, fun p e s m args below meth c h0 X y1 y2 y3 ls hl H locs a b f => ?_⟩
  have hs : ∀ l1 : Array Slot, lv_has l1 nL ((i, rv w r9) :: (L ++ G.map (fun q => (q.1, rv w q.2))).filter (fun q => !(q.1 == i) && !(q.1 + 1 == i && q.2.category == 2))) → lh w l1 nL L' ((i, r9) :: G') := fun l1 z1 =>
    ⟨(lh.st1 z1 hL hG).2.2.1, fun q hq => (List.mem_cons.mp hq).elim (fun y => by rw [y]; exact (lh.st1 z1 hL hG).2.1) ((lh.st1 z1 hL hG).2.2.2 q)⟩
  rcases rv_ref w r9 with y | ⟨a9, y⟩
  · rw [y] at hs ⊢
    exact lv_astore_nN X.1 X.2.1 d hi hl.all hn rfl (fun l1 z1 => (r rE hE q).2 p e s m args below meth c h0 X y1 y2 y3 l1 (hs l1 z1) H locs a b f)
  · rw [y] at hs ⊢
    exact lv_astore_n X.1 X.2.1 d hi hl.all hn rfl (fun l1 z1 => (r rE hE q).2 p e s m args below meth c h0 X y1 y2 y3 l1 (hs l1 z1) H locs a b f)
theorem r_astore {i r9 : Nat} (d : decode cc pc = .ok (.astore i, 2)) (hn : i < nL) (hL : L.filter (fun q => !(q.1 == i) && !(q.1 + 1 == i && q.2.category == 2)) = L') (hG : G.filter (fun q => !(q.1 == i)) = G')
    (r : Pf w (own, cc, nL, nm, ret, fr, lw) en (pc + 2) L' ((i, r9) :: G') (rest) o h) : Pf w (own, cc, nL, nm, ret, fr, lw) en pc L G (rv w r9 :: rest) o h := by
  intro rE hE q
  refine ⟨(r rE hE q).1, fun p e s m args below meth c h0 X y1 y2 y3 ls hl H locs a b f => ?_⟩
  have hs : ∀ l1 : Array Slot, lv_has l1 nL ((i, rv w r9) :: (L ++ G.map (fun q => (q.1, rv w q.2))).filter (fun q => !(q.1 == i) && !(q.1 + 1 == i && q.2.category == 2))) → lh w l1 nL L' ((i, r9) :: G') := fun l1 z1 =>
    ⟨(lh.st1 z1 hL hG).2.2.1, fun q hq => (List.mem_cons.mp hq).elim (fun y => by rw [y]; exact (lh.st1 z1 hL hG).2.1) ((lh.st1 z1 hL hG).2.2.2 q)⟩
  rcases rv_ref w r9 with y | ⟨a9, y⟩
  · rw [y] at hs ⊢
    exact lv_astoreN X.1 X.2.1 d hl.all hn rfl (fun l1 z1 => (r rE hE q).2 p e s m args below meth c h0 X y1 y2 y3 l1 (hs l1 z1) H locs a b f)
  · rw [y] at hs ⊢
    exact lv_astore X.1 X.2.1 d hl.all hn rfl (fun l1 z1 => (r rE hE q).2 p e s m args below meth c h0 X y1 y2 y3 l1 (hs l1 z1) H locs a b f)
theorem r_lstore_n {j : Fin 4} {i : Nat} {x : Int64} (d : decode cc pc = .ok (.lstore_n j, 1)) (hi : (j : Nat) = i) (hn : i + 1 < nL) (hL : L.filter (fun q => !(q.1 == i) && (!(q.1 == i + 1) && !(q.1 + 1 == i && q.2.category == 2))) = L') (hG : G.filter (fun q => !(q.1 == i) && !(q.1 == i + 1)) = G')
    (r : Pf w (own, cc, nL, nm, ret, fr, lw) en (pc + 1) ((i, .long x) :: L') G' (rest) o h) : Pf w (own, cc, nL, nm, ret, fr, lw) en pc L G (.long x :: rest) o h := by
  intro rE hE q
  refine ⟨(r rE hE q).1, fun p e s m args below meth c h0 X y1 y2 y3 ls hl H locs a b f => ?_⟩
  exact lv_lstore_n X.1 X.2.1 d hi hl.all hn rfl (fun l1 z1 => (r rE hE q).2 p e s m args below meth c h0 X y1 y2 y3 l1 (lh.st2 z1 hL hG) H locs a b f)
theorem r_lstore {i : Nat} {x : Int64} (d : decode cc pc = .ok (.lstore i, 2)) (hn : i + 1 < nL) (hL : L.filter (fun q => !(q.1 == i) && (!(q.1 == i + 1) && !(q.1 + 1 == i && q.2.category == 2))) = L') (hG : G.filter (fun q => !(q.1 == i) && !(q.1 == i + 1)) = G')
    (r : Pf w (own, cc, nL, nm, ret, fr, lw) en (pc + 2) ((i, .long x) :: L') G' (rest) o h) : Pf w (own, cc, nL, nm, ret, fr, lw) en pc L G (.long x :: rest) o h := by
  intro rE hE q
  refine ⟨(r rE hE q).1, fun p e s m args below meth c h0 X y1 y2 y3 ls hl H locs a b f => ?_⟩
  exact lv_lstore X.1 X.2.1 d hl.all hn rfl (fun l1 z1 => (r rE hE q).2 p e s m args below meth c h0 X y1 y2 y3 l1 (lh.st2 z1 hL hG) H locs a b f)
theorem r_dstore_n {j : Fin 4} {i : Nat} {x : UInt64} (d : decode cc pc = .ok (.dstore_n j, 1)) (hi : (j : Nat) = i) (hn : i + 1 < nL) (hL : L.filter (fun q => !(q.1 == i) && (!(q.1 == i + 1) && !(q.1 + 1 == i && q.2.category == 2))) = L') (hG : G.filter (fun q => !(q.1 == i) && !(q.1 == i + 1)) = G')
    (r : Pf w (own, cc, nL, nm, ret, fr, lw) en (pc + 1) ((i, .double x) :: L') G' (rest) o h) : Pf w (own, cc, nL, nm, ret, fr, lw) en pc L G (.double x :: rest) o h := by
  intro rE hE q
  refine ⟨(r rE hE q).1, fun p e s m args below meth c h0 X y1 y2 y3 ls hl H locs a b f => ?_⟩
  exact lv_dstore_n X.1 X.2.1 d hi hl.all hn rfl (fun l1 z1 => (r rE hE q).2 p e s m args below meth c h0 X y1 y2 y3 l1 (lh.st2 z1 hL hG) H locs a b f)
theorem r_dstore {i : Nat} {x : UInt64} (d : decode cc pc = .ok (.dstore i, 2)) (hn : i + 1 < nL) (hL : L.filter (fun q => !(q.1 == i) && (!(q.1 == i + 1) && !(q.1 + 1 == i && q.2.category == 2))) = L') (hG : G.filter (fun q => !(q.1 == i) && !(q.1 == i + 1)) = G')
    (r : Pf w (own, cc, nL, nm, ret, fr, lw) en (pc + 2) ((i, .double x) :: L') G' (rest) o h) : Pf w (own, cc, nL, nm, ret, fr, lw) en pc L G (.double x :: rest) o h := by
  intro rE hE q
  refine ⟨(r rE hE q).1, fun p e s m args below meth c h0 X y1 y2 y3 ls hl H locs a b f => ?_⟩
  exact lv_dstore X.1 X.2.1 d hl.all hn rfl (fun l1 z1 => (r rE hE q).2 p e s m args below meth c h0 X y1 y2 y3 l1 (lh.st2 z1 hL hG) H locs a b f)
theorem r_iinc {i k : Nat} {n : Int} {x v : Int32} (d : decode cc pc = .ok (.iinc i n, 3)) (hk : L[k]? = some (i, .int x)) (hv : x + Int32.ofInt n = v) (hn : i < nL) (hL : L.filter (fun q => !(q.1 == i) && !(q.1 + 1 == i && q.2.category == 2)) = L') (hG : G.filter (fun q => !(q.1 == i)) = G')
    (r : Pf w (own, cc, nL, nm, ret, fr, lw) en (pc + 3) ((i, .int v) :: L') G' (rest) o h) : Pf w (own, cc, nL, nm, ret, fr, lw) en pc L G (rest) o h := by
  intro rE hE q
  refine ⟨(r rE hE q).1, fun p e s m args below meth c h0 X y1 y2 y3 ls hl H locs a b f => ?_⟩
  have hk2 : (L ++ G.map (fun q => (q.1, rv w q.2)))[k]? = some (i, .int x) := by
    rw [List.getElem?_append_left (List.getElem?_eq_some_iff.mp hk).1]
    exact hk
  exact lv_iinc X.1 X.2.1 d hl.all hk2 hv hn rfl (fun l1 z1 => (r rE hE q).2 p e s m args below meth c h0 X y1 y2 y3 l1 (lh.st1 z1 hL hG).1 H locs a b f)
/-! ===== fields ===== -/
/-- a field's entry is linked: the class's own road, or a nest mate's -/
def fLk (own : String) (index : Nat) (ref name desc : String) : Prop := Cond.fieldLink own index ref name desc ∈ lw_all ∨ ∃ host, Cond.fieldLinkNest own index ref name desc host ∈ lw_tbl
/-- the name's class is the declarer, or the tables say that it means the same -/
def fSm (ref owner name desc : String) : Prop := ref = owner ∨ Cond.sameField ref owner name desc ∈ lw_all
theorem fSm.use {p : Program} {s : State} {m : MethodId} {args : Array Value} {meth : Method} {c : Code} {ref owner name desc : String} (X : Cx p s m args meth c w (own, cc, nL, nm, ret, fr, lw)) (h : fSm ref owner name desc) : ∀ x, s.fieldFound? owner name desc = some x → s.fieldFound? ref name desc = some x := by
  intro x hx
  rcases h with h | h
  · rw [h]; exact hx
  · exact u_same (X.2.2.2.2.1 _ h) x hx
theorem fTy_of {t k : Nat} {r : vz_C} (ht : 1 ≤ t ∧ t < 100) (hr : gcl[t - 1]? = some r) (hk : k < r.2.2.1) : fTy t k = some (r.2.2.2 k) := by
  unfold fTy
  rw [if_pos ht.2, hr]
  simp [ht.1, hk]
theorem v_get {p : Program} {e : Env} {R : Room} {s : State} {m : MethodId} {args : Array Value} {below : List Frame} {meth : Method} {c : Code} {Q : State → Prop} {ls : Array Slot} {H : Heap} {locs : List Loc} {cells slots : Nat} {l : Launch} (X : Cx p s m args meth c w (own, cc, nL, nm, ret, fr, lw)) (hR : Rep w h H) {t k index a : Nat} {ref : String} {r : vz_C} (hta : gT h a = t) (hr : gcl[t - 1]? = some r) (ht : 1 ≤ t ∧ t < 100) (hk : k < r.2.2.1)
    (hl : fLk own index ref (r.2.1 k).2.1 (r.2.1 k).2.2.1) (hs : fSm ref (r.2.1 k).1 (r.2.1 k).2.1 (r.2.1 k).2.2.1) (d : decode cc pc = .ok (.getfield index, 3))
    (kk : W p l e R s m args below meth c H locs cells slots Q (F0 m (pc + 3) ls (fvl w h t k (r.2.2.2 k) a :: rest))) : W p l e R s m args below meth c H locs cells slots Q (F0 m pc ls (rv w a :: rest)) := by
  obtain ⟨q, cell, hq, -, hc, hv, -, -, ro⟩ := hR.2.2.2.2.2 a (by omega)
  obtain ⟨hS, hfc, kC, hkC, hkind⟩ := X.2.2.2.2.2.1.1 t r ht.1 ht.2 hr
  obtain ⟨cf, kf, fi, f, hi, hsl⟩ := hS k hk
  have hst := (u_facts hfc hkC (u_lays X.2.2.2.2.1 (gcl_ok _ _ hr).1 hk) hi).1
  have hslot : cell.slots[f.slot]? = some (fvl w h t k (r.2.2.2 k) a) := by
    rw [hsl]
    have := ro.2.1 k (r.2.2.2 k) (by rw [hta]; exact fTy_of ht hr hk)
    rw [hta] at this
    exact this
  rw [rv_some.mpr hq]
  rcases hl with hl | ⟨host, hl⟩
  · exact W.getf X.1 X.2.1 X.2.2.2.1 (X.2.2.2.2.1 _ hl) (hs.use X _ hi) hst hc hv hslot rfl rfl d kk
  · exact va_Wgetf X.1 X.2.1 X.2.2.2.1 (va_Nw.use rfl (X.2.2.2.2.2.1.2.2.1 _ hl rfl)) (hs.use X _ hi) hst hc hv hslot rfl rfl d kk
theorem r_gi {t k f index a : Nat} {ref : String} {r : vz_C} {K : Int32 → Option (α × PH)} (hr : gcl[t - 1]? = some r) (ht : 1 ≤ t ∧ t < 100) (hk : k < r.2.2.1)
    (hl : fLk own index ref (r.2.1 k).2.1 (r.2.1 k).2.2.1) (hs : fSm ref (r.2.1 k).1 (r.2.1 k).2.1 (r.2.1 k).2.2.1) (hty : (r.2.2.2 k).isReference = false) (hf : 100 * t + k = f) (d : decode cc pc = .ok (.getfield index, 3))
    (r9 : ∀ x9, Pf w (own, cc, nL, nm, ret, fr, lw) en (pc + 3) L G (.int x9 :: rest) (K x9) h) : Pf w (own, cc, nL, nm, ret, fr, lw) en pc L G (rv w a :: rest) (o_gi t f a h K) h := by
  unfold o_gi
  by_cases hta : gT h a = t
  · rw [if_pos hta]
    subst hf
    refine fun rE hE q => ⟨(r9 _ rE hE q).1, fun p e s m args below meth c h0 X y1 y2 y3 ls hL H locs x y u => v_get X x hta hr ht hk hl hs d ?_⟩
    have := (r9 _ rE hE q).2 p e s m args below meth c h0 X y1 y2 y3 ls hL H locs x y u
    unfold fvl
    rw [hty]
    exact this
  · rw [if_neg hta]; exact Pf.none
theorem r_gr {t k f index a : Nat} {ref : String} {r : vz_C} {K : Nat → Option (α × PH)} (hr : gcl[t - 1]? = some r) (ht : 1 ≤ t ∧ t < 100) (hk : k < r.2.2.1)
    (hl : fLk own index ref (r.2.1 k).2.1 (r.2.1 k).2.2.1) (hs : fSm ref (r.2.1 k).1 (r.2.1 k).2.1 (r.2.1 k).2.2.1) (hty : (r.2.2.2 k).isReference = true) (hf : 100 * t + k = f) (d : decode cc pc = .ok (.getfield index, 3))
    (r9 : ∀ x9, Pf w (own, cc, nL, nm, ret, fr, lw) en (pc + 3) L G (rv w x9 :: rest) (K x9) h) : Pf w (own, cc, nL, nm, ret, fr, lw) en pc L G (rv w a :: rest) (o_gr t f a h K) h := by
  unfold o_gr
  by_cases hta : gT h a = t
  · rw [if_pos hta]
    subst hf
    refine fun rE hE q => ⟨(r9 _ rE hE q).1, fun p e s m args below meth c h0 X y1 y2 y3 ls hL H locs x y u => v_get X x hta hr ht hk hl hs d ?_⟩
    have := (r9 _ rE hE q).2 p e s m args below meth c h0 X y1 y2 y3 ls hL H locs x y u
    unfold fvl
    rw [hty]
    exact this
  · rw [if_neg hta]; exact Pf.none
/-! stores: one cell of the run's own changes -/
theorem Rep.upd {h' : PH} {H H' : Heap} {a q : Nat} {cell' : Cell} (hR : Rep w h H) (hN : gN h' = gN h) (hT : gT h' = gT h) (hL : gL h' = gL h) (haN : NC ≤ a) (hq : rvo w a = some q)
    (e1 : H'[q]? = some cell') (e2 : H'.size = H.size) (e3 : ∀ x, x ≠ q → H'[x]? = H[x]?) (hvm : cell'.vm = .none) (ro : Ro w h' a cell') (ho : ∀ b cell, b ≠ a → Ro w h b cell → Ro w h' b cell) : Rep w h' H' := by
  obtain ⟨r1, r2, r3, r4, r5, r6⟩ := hR
  have hqn : wdN w ≤ q := by
    rw [rvo_new haN] at hq
    have := Option.some.inj hq
    omega
  refine ⟨by rw [e2, hN]; exact r1, by rw [hN]; exact r2, by rw [hT]; exact r3, fun b hb => by rw [hT]; rw [hN] at hb; exact r4 b hb, fun x hx => by rw [e3 x (by omega)]; exact r5 x hx, fun b hb => ?_⟩
  rw [hT] at hb
  by_cases hba : b = a
  · subst hba
    refine ⟨q, cell', hq, fun hn => absurd hn (by omega), e1, (by rw [hvm]; exact fun z => nomatch z), (by rw [hvm]; rfl), fun _ => hvm, ro⟩
  · obtain ⟨q2, cell, s1, s2, s3, s4, s5, s6, s7⟩ := r6 b hb
    refine ⟨q2, cell, s1, s2, ?_, s4, s5, s6, ho b cell hba s7⟩
    rw [e3 q2 ?_]
    · exact s3
    · intro hz
      subst hz
      by_cases hbn : b < NC
      · have := s2 hbn
        omega
      · rw [rvo_new haN] at hq
        rw [rvo_new (by omega)] at s1
        have h1 := Option.some.inj hq
        have h2 := Option.some.inj s1
        omega
theorem Fr.upd {h0 : PH} {H0 : Heap} {h' : PH} {H H' : Heap} {a q : Nat} (hF : Fr w h0 H0 h H) (hN : gN h' = gN h) (hT : gT h' = gT h) (haN : NC ≤ a) (hq : rvo w a = some q) (ht : gT h a ≠ 0) (e3 : ∀ x, x ≠ q → H'[x]? = H[x]?) (hn0 : NC ≤ gN h0) : Fr w h0 H0 h' H' := by
  obtain ⟨f1, f2, f3, f4⟩ := hF
  refine ⟨f1, by rw [hN]; exact f2, fun x hx => by rw [hT]; exact f3 x hx, fun x hx hz => ?_⟩
  have hne : x ≠ q := by
    intro hxq
    subst hxq
    have hq' := hq
    rw [rvo_new haN] at hq'
    have h1 := Option.some.inj hq'
    have ha0 : a < gN h0 := by omega
    exact hz a (by rw [← f3 a ha0]; exact ht) hq
  rw [e3 x hne]
  exact f4 x hx hz
theorem slots_set {cell : Cell} {i j : Nat} {v u : Value} (hi : cell.slots[i]? = some u) : (cell.setSlot i v).slots[j]? = if j = i then some v else cell.slots[j]? := by
  have hlt : i < cell.slots.size := (Array.getElem?_eq_some_iff.mp hi).1
  show (cell.slots.setIfInBounds i v)[j]? = _
  by_cases hj : j = i
  · subst hj
    simp [hlt]
  · rw [if_neg hj, Array.getElem?_setIfInBounds_ne (fun q => hj q.symm)]
/-- what is stored in a field: the machine's row -/
theorem v_put {p : Program} {e : Env} {R : Room} {s : State} {m : MethodId} {args : Array Value} {below : List Frame} {meth : Method} {c : Code} {Q : State → Prop} {ls : Array Slot} {H : Heap} {locs : List Loc} {cells slots : Nat} {l : Launch} (X : Cx p s m args meth c w (own, cc, nL, nm, ret, fr, lw)) (hR : Rep w h H) {t k index a : Nat} {ref : String} {r : vz_C} {v : Value} (hta : gT h a = t) (haN : NC ≤ a) (hr : gcl[t - 1]? = some r) (ht : 1 ≤ t ∧ t < 100) (hk : k < r.2.2.1)
    (hl : fLk own index ref (r.2.1 k).2.1 (r.2.1 k).2.2.1) (hs : fSm ref (r.2.1 k).1 (r.2.1 k).2.1 (r.2.1 k).2.2.1) (hfin : (r.2.1 k).2.2.2 = false ∨ (meth.name = "<init>" ∧ (r.2.1 k).1 = own)) (hn : narrow (r.2.2.2 k) v = v) (hfit : fits (r.2.2.2 k) v = true) (d : decode cc pc = .ok (.putfield index, 3))
    (kk : ∀ (q : Nat) (cell : Cell) (H' : Heap), rvo w a = some q → H[q]? = some cell → Ro w h a cell → cell.vm = .none → (∀ x y, x < r.2.2.1 → y < r.2.2.1 → x ≠ y → wdS w t x ≠ wdS w t y) → H'[q]? = some (cell.setSlot (wdS w t k) v) → H'.size = H.size → (∀ x, x ≠ q → H'[x]? = H[x]?) → W p l e R s m args below meth c H' (locs ++ [⟨q, wdS w t k⟩]) cells slots Q (F0 m (pc + 3) ls rest)) : W p l e R s m args below meth c H locs cells slots Q (F0 m pc ls (v :: rv w a :: rest)) := by
  obtain ⟨q, cell, hq, -, hc, hv, -, hvn, ro⟩ := hR.2.2.2.2.2 a (by omega)
  have hvm := hvn haN
  obtain ⟨hS, hfc, kC, hkC, hkind⟩ := X.2.2.2.2.2.1.1 t r ht.1 ht.2 hr
  have hap : ∀ x y, x < r.2.2.1 → y < r.2.2.1 → x ≠ y → wdS w t x ≠ wdS w t y := by
    intro x y hx hy hne
    obtain ⟨_, _, _, fa, hia, ea⟩ := hS x hx
    obtain ⟨_, _, _, fb, hib, eb⟩ := hS y hy
    rw [← ea, ← eb]
    refine u_apart (u_lays X.2.2.2.2.1 (gcl_ok _ _ hr).1 hx) (u_lays X.2.2.2.2.1 (gcl_ok _ _ hr).1 hy) hia hib ?_
    rw [(State.fieldFound?_type hia ((gcl_ok _ _ hr).2.1 x hx)).1, (State.fieldFound?_type hib ((gcl_ok _ _ hr).2.1 y hy)).1]
    exact (gcl_ok _ _ hr).2.2 x hx y hy hne
  obtain ⟨cf, kf, fi, f, hi, hsl⟩ := hS k hk
  have hlays := u_lays X.2.2.2.2.1 (gcl_ok _ _ hr).1 hk
  have hst := (u_facts hfc hkC hlays hi).1
  have h6 := u_fits hfc hkC hkind hlays hi ((gcl_ok _ _ hr).2.1 k hk) hn hfit
  have hfin2 : hasFlag f.accessFlags Acc.final = false ∨ (m.cls = cf ∧ meth.name = "<init>") := by
    rcases hfin with hf | ⟨hn1, hd1⟩
    · have hlay := X.2.2.2.2.1 _ ((gcl_ok _ _ hr).1 _ (u_in_lay hk))
      unfold u_lay at hlay
      rw [if_neg (by rw [hf]; decide)] at hlay
      exact Or.inl (u_store hfc hkC hkind hlay hi ((gcl_ok _ _ hr).2.1 k hk) hn hfit).1
    · by_cases hf : (r.2.1 k).2.2.2 = true
      · have hlay := X.2.2.2.2.1 _ ((gcl_ok _ _ hr).1 _ (u_in_lay hk))
        unfold u_lay at hlay
        rw [if_pos hf] at hlay
        obtain ⟨_, _, c', _, _, _, -, -, hf', -, -, -, hown2, -⟩ := Cond.laysFinal_spec hlay
        have e1 : c' = cf := by have := hi.symm.trans hf'; simp at this; exact this.1.symm
        rw [hd1] at hown2
        refine Or.inr ⟨?_, hn1⟩
        rw [← e1]; exact Option.some.inj (X.2.2.2.1.symm.trans hown2)
      · have hlay := X.2.2.2.2.1 _ ((gcl_ok _ _ hr).1 _ (u_in_lay hk))
        unfold u_lay at hlay
        rw [if_neg hf] at hlay
        exact Or.inl (u_store hfc hkC hkind hlay hi ((gcl_ok _ _ hr).2.1 k hk) hn hfit).1
  have hslot : cell.slots[f.slot]? = some (fvl w h t k (r.2.2.2 k) a) := by
    rw [hsl]
    have := ro.2.1 k (r.2.2.2 k) (by rw [hta]; exact fTy_of ht hr hk)
    rw [hta] at this
    exact this
  have hcls : cell.cls = wdA w t := by have := ro.1; rw [hta] at this; exact this
  have hlt : f.slot < cell.slots.size := (Array.getElem?_eq_some_iff.mp hslot).1
  have hqlt : q < H.size := (Array.getElem?_eq_some_iff.mp hc).1
  rw [rv_some.mpr hq]
  have key := kk q cell (H.setIfInBounds q (cell.setSlot f.slot v)) hq hc ro hvm hap (by rw [hsl]; simp [Array.getElem?_setIfInBounds, hqlt]) (by simp) (fun x hx => by simp [Array.getElem?_setIfInBounds, Ne.symm hx])
  rw [← hsl] at key
  rcases hl with hl | ⟨host, hl⟩
  · exact W.putf X.1 X.2.1 X.2.2.2.1 (X.2.2.2.2.1 _ hl) (hs.use X _ hi) hst hfin2 hc hv hlt h6.1 (by rw [hcls, hvm]; exact h6.2) rfl rfl d key
  · exact va_Wputf X.1 X.2.1 X.2.2.2.1 (va_Nw.use rfl (X.2.2.2.2.2.1.2.2.1 _ hl rfl)) (hs.use X _ hi) hst hfin2 hc hv hlt h6.1 (by rw [hcls, hvm]; exact h6.2) rfl rfl d key
theorem Ro_wI {t k a b : Nat} {v : Int32} {cell : Cell} (hba : b ≠ a) (ro : Ro w h b cell) : Ro w (wI (100 * t + k) a v h) b cell := by
  obtain ⟨r1, r2, r3⟩ := ro
  refine ⟨r1, fun k2 ty hk => ?_, r3⟩
  have h9 := r2 k2 ty hk
  show cell.slots[wdS w (gT h b) k2]? = some (fvl w (wI (100 * t + k) a v h) (gT h b) k2 ty b)
  rw [h9]
  unfold fvl
  rw [gR_wI, gI_wI, if_neg (show ¬ (100 * gT h b + k2 = 100 * t + k ∧ b = a) from fun q => hba q.2)]
theorem Ro_wR {t k a b : Nat} {v : Nat} {cell : Cell} (hba : b ≠ a) (ro : Ro w h b cell) : Ro w (wR (100 * t + k) a v h) b cell := by
  obtain ⟨r1, r2, r3⟩ := ro
  refine ⟨r1, fun k2 ty hk => ?_, r3⟩
  have h9 := r2 k2 ty hk
  show cell.slots[wdS w (gT h b) k2]? = some (fvl w (wR (100 * t + k) a v h) (gT h b) k2 ty b)
  rw [h9]
  unfold fvl
  rw [gI_wR, gR_wR, if_neg (show ¬ (100 * gT h b + k2 = 100 * t + k ∧ b = a) from fun q => hba q.2)]
theorem fTy_lt {t k : Nat} {r : vz_C} {ty : FieldType} (ht : 1 ≤ t ∧ t < 100) (hr : gcl[t - 1]? = some r) (h9 : fTy t k = some ty) : k < r.2.2.1 ∧ ty = r.2.2.2 k := by
  unfold fTy at h9
  rw [if_pos ht.2, hr] at h9
  simp only at h9
  split at h9
  next q => exact ⟨q.2, (Option.some.inj h9).symm⟩
  next => cases h9
/-- the kind of an int field, by its type -/
def fK (ty : FieldType) : Nat := match ty with | .boolean => 1 | .byte => 2 | .char => 3 | .short => 4 | _ => 0
theorem fitK_ok {ty : FieldType} {v : Int32} (hty : ty.isReference = false) (hi : ty = .int ∨ ty = .boolean ∨ ty = .byte ∨ ty = .char ∨ ty = .short) (hv : fitK (fK ty) v = true) : narrow ty (.int v) = .int v ∧ fits ty (.int v) = true := by
  rcases hi with rfl | rfl | rfl | rfl | rfl
  · exact ⟨rfl, rfl⟩
  · simp only [fK, fitK] at hv
    simp at hv
    rcases hv with rfl | rfl
    · exact ⟨rfl, rfl⟩
    · exact ⟨rfl, rfl⟩
  · simp only [fK, fitK] at hv
    simp at hv
    rw [← hv]
    exact ⟨pk_nb v, pk_fb v⟩
  · simp only [fK, fitK] at hv
    simp at hv
    rw [← hv]
    exact ⟨pk_nc v, pk_fc v⟩
  · simp only [fK, fitK] at hv
    simp at hv
    rw [← hv]
    exact ⟨pk_ns v, pk_fs v⟩
theorem r_pi {t k f ck index a : Nat} {ref : String} {r : vz_C} {v : Int32} {K : PH → Option (α × PH)} (hr : gcl[t - 1]? = some r) (ht : 1 ≤ t ∧ t < 100) (hk : k < r.2.2.1)
    (hl : fLk own index ref (r.2.1 k).2.1 (r.2.1 k).2.2.1) (hs : fSm ref (r.2.1 k).1 (r.2.1 k).2.1 (r.2.1 k).2.2.1) (hfin : (r.2.1 k).2.2.2 = false ∨ (nm = "<init>" ∧ (r.2.1 k).1 = own)) (hi : r.2.2.2 k = .int ∨ r.2.2.2 k = .boolean ∨ r.2.2.2 k = .byte ∨ r.2.2.2 k = .char ∨ r.2.2.2 k = .short) (hc : fK (r.2.2.2 k) = ck) (hf : 100 * t + k = f) (d : decode cc pc = .ok (.putfield index, 3))
    (kk : ∀ h1, Pf w (own, cc, nL, nm, ret, fr, lw) en (pc + 3) L G rest (K h1) h1) : Pf w (own, cc, nL, nm, ret, fr, lw) en pc L G (.int v :: rv w a :: rest) (o_pi t f ck a v h K) h := by
  unfold o_pi
  by_cases hta : gT h a = t ∧ NC ≤ a ∧ fitK ck v = true
  · rw [if_pos hta]
    obtain ⟨hta, haN, hv⟩ := hta
    subst hf
    have hty : (r.2.2.2 k).isReference = false := by rcases hi with z | z | z | z | z <;> rw [z] <;> rfl
    have hfit := fitK_ok hty hi (by rw [hc]; exact hv)
    refine fun rE hE q => ⟨(kk _ rE hE q).1, fun p e s m args below meth c h0 X y1 y2 y3 ls hL H locs x y u => v_put X x hta haN hr ht hk hl hs (hfin.imp_right (fun z => ⟨X.2.2.2.2.2.2.2.1.trans z.1, z.2⟩)) hfit.1 hfit.2 d fun q9 cell H' a1 a2 a3 a4 a5 a6 a7 a8 => ?_⟩
    have hslot : cell.slots[wdS w t k]? = some (fvl w h t k (r.2.2.2 k) a) := by
      have := a3.2.1 k (r.2.2.2 k) (by rw [hta]; exact fTy_of ht hr hk)
      rw [hta] at this
      exact this
    have ro' : Ro w (wI (100 * t + k) a v h) a (cell.setSlot (wdS w t k) (.int v)) := by
      refine ⟨a3.1, fun k2 ty hk2 => ?_, fun h1 h2 => ?_⟩
      · rw [gT_wI, hta] at hk2 ⊢
        obtain ⟨hk3, hty3⟩ := fTy_lt ht hr hk2
        rw [slots_set hslot]
        by_cases hkk : k2 = k
        · subst hkk
          rw [if_pos rfl, hty3]
          unfold fvl
          rw [hty, gI_wI]
          simp
        · rw [if_neg (a5 k2 k hk3 hk hkk)]
          have := a3.2.1 k2 ty (by rw [hta]; exact hk2)
          rw [hta] at this
          rw [this]
          unfold fvl
          rw [gR_wI, gI_wI, if_neg (show ¬ (100 * t + k2 = 100 * t + k ∧ a = a) from fun q => hkk (by have := q.1; omega))]
      · rw [gT_wI, hta] at h1
        omega
    refine (kk _ rE hE q).2 p e s m args below meth c h0 X y1 y2 y3 ls hL H' _ (x.upd rfl rfl rfl haN a1 a6 a7 a8 a4 ro' (fun b cell hb => Ro_wI hb)) (y.upd rfl rfl haN a1 (by omega) a8 y1) (fun z9 hz9 => ?_)
    rcases List.mem_append.mp hz9 with h1 | h1
    · exact u z9 h1
    · rw [List.mem_singleton.mp h1]
      rw [rvo_new haN] at a1
      have := Option.some.inj a1
      show wdN w ≤ q9
      omega
  · rw [if_neg hta]; exact Pf.none
theorem narrow_ref {ty : FieldType} (hty : ty.isReference = true) (r : Nat) : narrow ty (rv w r) = rv w r ∧ fits ty (rv w r) = true := by
  cases ty <;> first | (simp [FieldType.isReference] at hty; done) | (rcases rv_ref w r with q | ⟨a, q⟩ <;> rw [q] <;> exact ⟨rfl, rfl⟩)
theorem r_pr {t k f index a v : Nat} {ref : String} {r : vz_C} {K : PH → Option (α × PH)} (hr : gcl[t - 1]? = some r) (ht : 1 ≤ t ∧ t < 100) (hk : k < r.2.2.1)
    (hl : fLk own index ref (r.2.1 k).2.1 (r.2.1 k).2.2.1) (hs : fSm ref (r.2.1 k).1 (r.2.1 k).2.1 (r.2.1 k).2.2.1) (hfin : (r.2.1 k).2.2.2 = false ∨ (nm = "<init>" ∧ (r.2.1 k).1 = own)) (hty : (r.2.2.2 k).isReference = true) (hf : 100 * t + k = f) (d : decode cc pc = .ok (.putfield index, 3))
    (kk : ∀ h1, Pf w (own, cc, nL, nm, ret, fr, lw) en (pc + 3) L G rest (K h1) h1) : Pf w (own, cc, nL, nm, ret, fr, lw) en pc L G (rv w v :: rv w a :: rest) (o_pr t f a v h K) h := by
  unfold o_pr
  by_cases hta : gT h a = t ∧ NC ≤ a
  · rw [if_pos hta]
    obtain ⟨hta, haN⟩ := hta
    subst hf
    have hfit := narrow_ref (w := w) hty v
    refine fun rE hE q => ⟨(kk _ rE hE q).1, fun p e s m args below meth c h0 X y1 y2 y3 ls hL H locs x y u => v_put X x hta haN hr ht hk hl hs (hfin.imp_right (fun z => ⟨X.2.2.2.2.2.2.2.1.trans z.1, z.2⟩)) hfit.1 hfit.2 d fun q9 cell H' a1 a2 a3 a4 a5 a6 a7 a8 => ?_⟩
    have hslot : cell.slots[wdS w t k]? = some (fvl w h t k (r.2.2.2 k) a) := by
      have := a3.2.1 k (r.2.2.2 k) (by rw [hta]; exact fTy_of ht hr hk)
      rw [hta] at this
      exact this
    have ro' : Ro w (wR (100 * t + k) a v h) a (cell.setSlot (wdS w t k) (rv w v)) := by
      refine ⟨a3.1, fun k2 ty hk2 => ?_, fun h1 h2 => ?_⟩
      · rw [gT_wR, hta] at hk2 ⊢
        obtain ⟨hk3, hty3⟩ := fTy_lt ht hr hk2
        rw [slots_set hslot]
        by_cases hkk : k2 = k
        · subst hkk
          rw [if_pos rfl, hty3]
          unfold fvl
          rw [hty, gR_wR]
          simp
        · rw [if_neg (a5 k2 k hk3 hk hkk)]
          have := a3.2.1 k2 ty (by rw [hta]; exact hk2)
          rw [hta] at this
          rw [this]
          unfold fvl
          rw [gI_wR, gR_wR, if_neg (show ¬ (100 * t + k2 = 100 * t + k ∧ a = a) from fun q => hkk (by have := q.1; omega))]
      · rw [gT_wR, hta] at h1
        omega
    refine (kk _ rE hE q).2 p e s m args below meth c h0 X y1 y2 y3 ls hL H' _ (x.upd rfl rfl rfl haN a1 a6 a7 a8 a4 ro' (fun b cell hb => Ro_wR hb)) (y.upd rfl rfl haN a1 (by omega) a8 y1) (fun z9 hz9 => ?_)
    rcases List.mem_append.mp hz9 with h1 | h1
    · exact u z9 h1
    · rw [List.mem_singleton.mp h1]
      rw [rvo_new haN] at a1
      have := Option.some.inj a1
      show wdN w ≤ q9
      omega
  · rw [if_neg hta]; exact Pf.none
end PF
