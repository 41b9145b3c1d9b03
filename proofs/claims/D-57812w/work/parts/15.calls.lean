/-! ===== contracts and calls ===== -/
def pcp (w : Wd) (As : List Value) (h : PH) : Array Value → State → Prop := fun a U => a = As.toArray ∧ KW w U ∧ Rep w h U.heap
/-- the contract of a method at given arguments and a given heap: it comes to h', answering or throwing -/
def Ctr (w : Wd) (y : MethodName) (ws : List Cond) (fr lw : Nat) (As : List Value) (h : PH) (r : Option Value ⊕ Nat) (h' : PH) : Prop :=
  (gN h ≤ gN h' ∧ gS h ≤ gS h') ∧ (NC ≤ gN h → match r with
    | .inl v => Met (wdL w) y ws (mkR fr lw h h') (pcp w As h) (qc w h h' v) (gN h' - gN h) (gS h' - gS h) (fun q => wdN w ≤ q)
    | .inr q => MetFree (wdL w) y (headSpec ws (mkR fr lw h h')) (pcp w As h) (fun _ _ _ _ _ => True) (fun _ st o t => xq w h h' q (gN h' - gN h) (gS h' - gS h) (fun q => wdN w ≤ q) st o t))
theorem pcp_blind {w : Wd} {As : List Value} {h : PH} : FrameBlind (pcp w As h) := fun a U g mk q => ⟨q.1, q.2.1.vm (u := U) (U := U.calling g mk a) rfl, q.2.2⟩
/-- arguments: numbers, and ghost references -/
def toV (w : Wd) (x : Value ⊕ Nat) : Value := match x with | .inl v => v | .inr r => rv w r
def acat (x : Value ⊕ Nat) : Nat := match x with | .inl v => v.category | .inr _ => 1
def largs : Nat → List (Value ⊕ Nat) → List (Nat × Value)
  | _, [] => []
  | i, .inl v :: l => (i, v) :: largs (if v.category = 2 then i + 2 else i + 1) l
  | i, .inr _ :: l => largs (i + 1) l
def gargs : Nat → List (Value ⊕ Nat) → List (Nat × Nat)
  | _, [] => []
  | i, .inl v :: l => gargs (if v.category = 2 then i + 2 else i + 1) l
  | i, .inr r :: l => (i, r) :: gargs (i + 1) l
def alen : List (Value ⊕ Nat) → Nat
  | [] => 0
  | x :: l => (if acat x = 2 then 2 else 1) + alen l
theorem toV_cat (w : Wd) (x : Value ⊕ Nat) : (toV w x).category = acat x := by
  cases x with
  | inl v => rfl
  | inr r => exact rv_cat w r
theorem alen_ok (w : Wd) (l : List (Value ⊕ Nat)) : (lg_sl (l.map (toV w))).length = alen l := by
  induction l with
  | nil => rfl
  | cons x l ih =>
    unfold lg_sl at ih ⊢
    simp only [List.map_cons, List.flatMap_cons, List.length_append, alen, ih, toV_cat]
    split <;> rfl
theorem largs_mem (w : Wd) : ∀ (l : List (Value ⊕ Nat)) (i : Nat), (∀ q ∈ largs i l, q ∈ lv_args i (l.map (toV w))) ∧ ∀ q ∈ gargs i l, (q.1, rv w q.2) ∈ lv_args i (l.map (toV w)) := by
  intro l
  induction l with
  | nil => intro i; exact ⟨(fun q hq => nomatch hq), (fun q hq => nomatch hq)⟩
  | cons x l ih =>
    intro i
    cases x with
    | inl v =>
      refine ⟨fun q hq => ?_, fun q hq => ?_⟩
      · rcases List.mem_cons.mp hq with e | e
        · rw [e]; exact List.mem_cons_self
        · exact List.mem_cons_of_mem _ ((ih _).1 q e)
      · exact List.mem_cons_of_mem _ ((ih _).2 q hq)
    | inr r =>
      have e : lv_args i ((Sum.inr r :: l : List (Value ⊕ Nat)).map (toV w)) = (i, rv w r) :: lv_args (i + 1) (l.map (toV w)) := by
        show (i, rv w r) :: lv_args (if (rv w r).category = 2 then i + 2 else i + 1) (l.map (toV w)) = _
        rw [rv_cat]
        rfl
      rw [e]
      refine ⟨fun q hq => List.mem_cons_of_mem _ ((ih _).1 q hq), fun q hq => ?_⟩
      rcases List.mem_cons.mp hq with e2 | e2
      · rw [e2]; exact List.mem_cons_self
      · exact List.mem_cons_of_mem _ ((ih _).2 q e2)
theorem lh_entry {w : Wd} {nL : Nat} (A9 : List (Value ⊕ Nat)) (hlen : alen A9 ≤ nL) {L : List (Nat × Value)} {G : List (Nat × Nat)} (hL : largs 0 A9 = L) (hG : gargs 0 A9 = G) :
    lh w ((lg_sl (A9.map (toV w)) ++ List.replicate (nL - (lg_sl (A9.map (toV w))).length) Slot.unset).toArray) nL L G := by
  obtain ⟨h1, h2, h3⟩ := lv_entry (A9.map (toV w)) (n := nL) (by rw [alen_ok]; exact hlen)
  subst hL; subst hG
  exact ⟨⟨h1, h2, fun q hq => h3 q ((largs_mem w A9 0).1 q hq)⟩, fun q hq => h3 (q.1, rv w q.2) ((largs_mem w A9 0).2 q hq)⟩
section CTR
variable {w : Wd} {own nm : String} {cc : ByteArray} {nL fr lw : Nat} {ret : Option FieldType} {α β : Type} {en : α → Option Value ⊕ Nat} {o : Option (α × PH)} {h : PH} {pc : Nat} {rest : List Value} {L L' : List (Nat × Value)} {G G' : List (Nat × Nat)}
/-- a method's contract out of the walk from its entry -/
theorem Ctr.of {y : MethodName} (ht : tabN own nm = [] ∧ ((dscN own nm).all fun ds => ds == y.desc) = true) (A9 : List (Value ⊕ Nat)) {As : List Value} (hAs : A9.map (toV w) = As) (hy : plainName y.cls = true) (hown : y.cls = own) (hnm : y.name = nm) (hlen : alen A9 ≤ nL) (hL : largs 0 A9 = L) (hG : gargs 0 A9 = G)
    (r : Pf w (own, cc, nL, nm, ret, fr, lw) en 0 L G [] o h) {rE : α} {hE : PH} (ho : o = some (rE, hE)) : Ctr w y (ws_ y cc nL ret) fr lw As h (en rE) hE := by
  refine ⟨(r rE hE ho).1, fun hn => ?_⟩
  subst hAs
  have key : ∀ (p : Program) (e : Env) (s : State) (m : MethodId) (args : Array Value) (below : List Frame) (meth : Method) (c : Code) (s₁ : State), BodyLoose p (wdL w) y (headSpec (ws_ y cc nL ret) (mkR fr lw h hE)) cc nL ret e s m args below meth c s₁ → c.maxLocals = nL → pcp w (A9.map (toV w)) h args s →
      W p (wdL w) e (mkR fr lw h hE) s m args below meth c s.heap [] 0 0 (QQ w below args s h hE (en rE)) (entryFrame m args nL) := by
    intro p e s m args below meth c s₁ B hml hv
    obtain ⟨rfl, hK, hR⟩ := hv
    have hts := atoms_spec (ws := ws_ y cc nL ret) B.pre
    have hts : ∀ x ∈ lw_all, x.before _ s = true := fun x hx => hts x (List.mem_cons_of_mem _ hx)
    have htab : c.exceptionTable.toList = tableOf (tabN own nm) := by
      obtain ⟨meth9, c9, h1, h2, -, -, -, -, h7, -⟩ := Cond.code_spec B.named (atoms_spec (ws := ws_ y cc nL ret) B.pre _ List.mem_cons_self)
      cases Option.some.inj (h1.symm.trans B.method)
      cases Option.some.inj (h2.symm.trans (Stand.of_body B).code)
      rw [Array.isEmpty_iff.mp h7, ht.1]
      rfl
    have X : Cx p s m (A9.map (toV w)).toArray meth c w (own, cc, nL, nm, ret, fr, lw) := ⟨B.exec, B.bytes, hml, by rw [← hown]; exact findClass_of_methodNamed B.named, hts, hK, B.notSynchronized, (name_of_methodNamed B.named B.method).1.trans hnm, B.returns, htab, fun ds hds => by
      have h9 := ht.2
      rw [hds] at h9
      have h8 : ds = y.desc := by simpa using h9
      have h7 : (⟨own, nm, ds⟩ : MethodName) = y := by rw [h8, ← hown, ← hnm]
      show s.methodNamed? ⟨own, nm, ds⟩ = some m
      rw [h7]
      exact B.named⟩
    rw [lg_entry_eq]
    have k := (r rE hE ho).2 p e s m _ below meth c h X hn (Nat.le_refl _) (Nat.le_refl _) _ (lh_entry A9 hlen hL hG) s.heap [] hR (Fr.refl hR) (fun q hq => nomatch hq)
    exact W.cs (by omega) (by omega) k
  cases hen : en rE with
  | inl v =>
    refine Met.ofW (cc := cc) (maxL := nL) (ret := ret) hy rfl fun p e s m args below meth c s₁ B hml hv => ?_
    have k := key p e s m args below meth c s₁ B hml hv
    rw [hen] at k
    exact k
  | inr q =>
    refine MetFree.of_bodyS (code := cc) (maxLocals := nL) (ret := ret) hy ?_ ?_
    · intro args s m h9 hn9
      obtain ⟨meth, c, h1, h2, h3, h4, h5, h6, -, -⟩ := Cond.code_spec hn9 (atoms_spec (ws := ws_ y cc nL ret) h9 _ List.mem_cons_self)
      exact ⟨meth, c, h1, h2, h3, h4, h5, h6⟩
    · intro p e s m args below meth c s₁ B hml hP _
      have hh0 : s₁.heap = s.heap := by rw [B.state]; rfl
      have k := key p e s m args below meth c s₁ B hml hP
      rw [hen] at k
      obtain ⟨t, a1, o, b1, b2, b3⟩ := k s₁ hh0 (Stand.of_body B)
      exact ⟨t, o, a1, b1, b2, b3⟩
end CTR
section CALLW
variable {p : Program} {e : Env} {R : Room} {s : State} {m : MethodId} {args : Array Value} {below : List Frame} {meth : Method} {c : Code} {Q : State → Prop} {w : Wd} {H : Heap} {locs : List Loc} {cells slots : Nat}
/-- behind a call that answered -/
theorem W.after {l : Launch} {mc ms dpc : Nat} {h h1 : PH} {v : Option Value} {a : Array Value} {rest : List Value} {g : JFrame} {h0 : PH} {H0 : Heap} (hF : Fr w h0 H0 h H) (hn0 : NC ≤ gN h0) (hl : ∀ q ∈ locs, wdN w ≤ q.base)
    (hr : ∀ T : State, T.heap = H → Stand p l e R s m args below meth c T locs cells slots → ∃ (v' : Option Value) (st₀ t T' : State) (L : List Loc), st₀.heap = H ∧ Stand p l e R s m args below meth c T' (locs ++ L) (cells + mc) (slots + ms) ∧ (∀ q ∈ L, wdN w ≤ q.base) ∧ T'.heap = t.heap ∧ qc w h h1 v a st₀ (.returned v') t ∧ Goes p e below T g T' { g with pc := g.pc + dpc, stack := v'.toList ++ rest })
    (k : ∀ (H' : Heap) (locs' : List Loc), Rep w h1 H' → Fr w h0 H0 h1 H' → (∀ q ∈ locs', wdN w ≤ q.base) → W p l e R s m args below meth c H' locs' (cells + mc) (slots + ms) Q { g with pc := g.pc + dpc, stack := v.toList ++ rest }) : W p l e R s m args below meth c H locs cells slots Q g := by
  intro T hT X
  obtain ⟨v', st₀, t, T', L, e0, X', hL, e1, ⟨hv, hR1, hF1⟩, st⟩ := hr T hT X
  cases hv
  rw [e0] at hF1
  obtain ⟨t2, a1, b1⟩ := k T'.heap _ (by rw [e1]; exact hR1) (by rw [e1]; exact hF.trans hF1 hn0) (fun q hq => (List.mem_append.mp hq).elim (hl q) (hL q)) T' rfl X'
  exact ⟨t2, st t2 a1, b1⟩
theorem CallRun.drop {l : Launch} {mc ms : Nat} {g : JFrame} {rest : List Value} {Qa : State → Outcome → State → Prop} {free : Addr → Prop} (hr : va_Run p l e R s m args below meth c H locs cells slots mc ms g rest Qa free) : CallRun p l e R s m args below meth c H locs cells slots mc ms g rest Qa free := by
  intro T hT X
  obtain ⟨v, st₀, t, T', L, h0, X', hL, e1, -, hq, st⟩ := hr T hT X
  exact ⟨v, st₀, t, T', L, h0, X', hL, e1, hq, st⟩
theorem run5_drop {l : Launch} {mc ms : Nat} {g : JFrame} {rest : List Value} {Qa : State → Outcome → State → Prop} {free : Addr → Prop} (hr : va_Run5 p l e R s m args below meth c H locs cells slots mc ms g rest Qa free) : ∀ T : State, T.heap = H → Stand p l e R s m args below meth c T locs cells slots → ∃ (v' : Option Value) (st₀ t T' : State) (L : List Loc), st₀.heap = H ∧ Stand p l e R s m args below meth c T' (locs ++ L) (cells + mc) (slots + ms) ∧ (∀ q ∈ L, free q.base) ∧ T'.heap = t.heap ∧ Qa st₀ (.returned v') t ∧ Goes p e below T g T' { g with pc := g.pc + 5, stack := v'.toList ++ rest } := by
  intro T hT X
  obtain ⟨v, st₀, t, T', L, h0, X', hL, e1, -, hq, st⟩ := hr T hT X
  exact ⟨v, st₀, t, T', L, h0, X', hL, e1, hq, st⟩
theorem callW_of {y : MethodName} {own C : String} {bytes : ByteArray} {index n maxL mc ms : Nat} {ret : Option FieldType} {rm : Room} (hts : ∀ x ∈ lw_all, x.before args s = true) (q1 : Cond.methodLink own index y ∈ lw_all) (q2 : Cond.instanceMethod y ∈ lw_all) (q3 : Cond.selects C y y ∈ lw_all) (q4 : Cond.initialized y.cls ∈ lw_all) (q5 : Cond.code y bytes maxL ret ∈ lw_all) (hrc : rm.cells = mc) (hrs : rm.slots = ms)
    (hd : y.cls ≠ "java/lang/invoke/MethodHandle" ∧ y.cls ≠ "java/lang/invoke/VarHandle" ∧ (parseMethodDescriptor y.desc).map (fun d => d.parameters.length) = some n) (hR : rm.frames + 1 ≤ R.frames ∧ 8 + (maxL + 11) + rm.locals ≤ R.locals) : CallW R s args own C index y bytes maxL ret (ws_ y bytes maxL ret) rm mc ms n :=
  ⟨callB_of n hts (lw_meth q5) rfl hrc hrs (hts _ q4) (hts _ q1) hd hR, hts _ q2, hts _ q3⟩
/-- a private method called by invokevirtual: no table of the receiver's class is asked -/
theorem callVP {T : State} {l : Launch} (X : Stand p l e R s m args below meth c T locs cells slots) (hexec : p.tables.exec = Jvm.exec) {own : String} {index : Nat} {y : MethodName} {bytes : ByteArray} {maxL : Nat} {ret : Option FieldType}
    (hown : s.vm.findClass own = some m.cls) (hlink : (Cond.methodLink own index y).before args s = true) (hinst : (Cond.instanceMethod y).before args s = true) (hpriv : s.PrivateAt y) (hsame : (Cond.sameMethod y.cls y.cls y.name y.desc).before args s = true)
    (hcode : (Cond.code y bytes maxL ret).before args s = true) (hy : y.cls ≠ "java/lang/invoke/MethodHandle" ∧ y.cls ≠ "java/lang/invoke/VarHandle")
    {W : Nat} {Pre : Pt → Array Value → Prop} {Post : Pt → Array Value → Option Value → Pt → Prop} (hK : Back l R p e below s args y 3 W Pre Post)
    {b : Addr} {cellB : Cell} (hcell : T.heap[b]? = some cellB) (hobj : cellB.vm.isStatics = false)
    {g : JFrame} (hg : g.method = m) (hsize : g.locals.size = c.maxLocals) {argsL rest : List Value} (hlen : ∀ sig, parseMethodDescriptor y.desc = some sig → argsL.length = sig.parameters.length)
    (hstack : g.stack = argsL.reverse ++ .ref b :: rest) (hW : 2 * g.monitorRoom + (rest.map fun v => v.category).sum ≤ W) (hdg : decode c.code g.pc = .ok (.invokevirtual index, 3))
    (hpre : ∀ vm₁, s.WarmedH vm₁ → Pre ⟨T.setVm vm₁, locs, cells, slots⟩ (Value.ref b :: argsL).toArray) :
    ∃ (v : Option Value) (vm₁ : Vm) (B : Pt), s.WarmedH vm₁ ∧ Stand p l e R s m args below meth c B.U B.locs B.cells B.slots ∧ Post ⟨T.setVm vm₁, locs, cells, slots⟩ (Value.ref b :: argsL).toArray v B ∧
      ∀ target, Steps p.tables e below (B.U.setTop { g with pc := g.pc + 3, stack := v.toList ++ rest }) target → Steps p.tables e below (T.setTop g) target := by
  obtain ⟨mk, methM, hnamed, hmethM, hstM, habM⟩ := Cond.instanceMethod_spec hinst
  obtain ⟨methM', cM, hmethM', -, -, -, -, -, -, hsigM⟩ := Cond.code_spec hnamed hcode
  cases hmethM.symm.trans hmethM'
  obtain ⟨cn, kP, r1, hcn, hkP0, hkPi, hf, hn1⟩ := Cond.sameMethod_found hsame
  have hkP : s.vm.classes[mk.cls]? = some kP := by
    cases hcn.symm.trans (findClass_of_methodNamed hnamed)
    exact hkP0
  have hselP : selectMethod e.platform s.vm cellB.cls mk = .method mk := selectMethod_private hmethM (hpriv mk methM hnamed hmethM)
  obtain ⟨vm₁, X₁, hstep₁⟩ := X.invokevirtual hexec hown hlink hnamed hmethM hstM hkP hkPi hy (a := b) (cell := cellB) hcell
    (fun z h => by rw [h] at hobj; cases hobj) hselP hmethM habM hkP hkPi (g := g) hg (argsL := argsL) (rest := rest) (hlen _ hsigM) hstack hdg
  obtain ⟨v, B, X', hpost, hsteps⟩ := hK m meth c ⟨T.setVm vm₁, locs, cells, slots⟩ { g with stack := rest } (.invokevirtual index) mk (Value.ref b :: argsL).toArray X₁ hg hsize hdg hW (X₁.named hnamed) (hpre vm₁ X₁.warmed)
  exact ⟨v, vm₁, B, X₁.warmed, X', hpost, fun target h => hstep₁ _ fun acts => by rw [doInvoke_state]; exact hsteps.trans h⟩
theorem runVP {l : Launch} {y : MethodName} {bytes cc : ByteArray} {maxL nL mc ms n index : Nat} {ret : Option FieldType} {ws : List Cond} {rm : Room} {Pc : Array Value → State → Prop} {Qc : Array Value → State → Outcome → State → Prop} {free : Addr → Prop} {Ts : List Cond} {own C : String} {b : Addr} {As rest : List Value} {g : JFrame}
    (S : CallFix p m c cc nL s args Ts own) (hM : Met l y ws rm Pc Qc mc ms free) (cw : CallB R s args own index y bytes maxL ret ws rm mc ms n) (hin : (Cond.instanceMethod y).before args s = true) (hpriv : s.PrivateAt y) (hsame : (Cond.sameMethod y.cls y.cls y.name y.desc).before args s = true) (hp : PreV s H C b Pc As)
    (hg : g.method = m) (hn : As.length = n) (hsize : g.locals.size = nL) (hstack : g.stack = As.reverse ++ .ref b :: rest) (hW : 2 * g.monitorRoom + (rest.map fun v => v.category).sum ≤ 8) (hdg : decode cc g.pc = .ok (.invokevirtual index, 3)) (hf : cells + mc ≤ R.cells ∧ slots + ms ≤ R.slots) :
    CallRun p l e R s m args below meth c H locs cells slots mc ms g rest (Qc (Value.ref b :: As).toArray) free := by
  have hK : Back l R p e below s args y 3 8 (PreOf R mc ms Pc) (PostOf Qc mc ms free) := callBack cw hM hp.1
  obtain ⟨-, -, -, -, -, -, hcode, hini, hy, hlen, hl⟩ := cw
  obtain ⟨hx, hb, hml, ho, -⟩ := S
  obtain ⟨-, ⟨cellB, hcB, hoB, hclB⟩, hPc⟩ := hp
  intro T hT X
  obtain ⟨v, vm₁, ⟨U', l2, c2, s2⟩, hW₁, X', ⟨g', mk, t, L, e1, e2, hq, h1, hL, h2, h3⟩, st⟩ := callVP X hx (bytes := bytes) (maxL := maxL) (ret := ret) ho hl hin hpriv hsame hcode hy hK (by rw [hT]; exact hcB) hoB hg (hsize.trans hml.symm) (argsL := As) (rest := rest) (fun sig h => hn.trans (hlen sig h)) hstack hW (by rw [hb]; exact hdg)
    (fun vm₁ hW₁ => ⟨hf.1, hf.2, hPc (T.setVm vm₁) hT hW₁⟩)
  dsimp only [Pt.U, Pt.locs, Pt.cells, Pt.slots] at X' e1 e2 h1 h2 h3 st
  subst h1; subst h2; subst h3
  exact ⟨v, (T.setVm vm₁).calling g' mk (Value.ref b :: As).toArray, t, U', L, hT, X', hL, e1, hq, st⟩
theorem callO_of {x y : MethodName} {own C owner : String} {bytes b0 : ByteArray} {index n maxL mc ms m0 : Nat} {ret r0 : Option FieldType} {rm : Room} (hts : ∀ z ∈ lw_all, z.before args s = true) (q1 : Cond.methodLink own index x ∈ lw_all) (q6 : Cond.sameMethod x.cls owner x.name x.desc ∈ lw_all) (q7 : Cond.instanceMethod ⟨owner, x.name, x.desc⟩ ∈ lw_all) (q2 : Cond.instanceMethod y ∈ lw_all) (q3 : Cond.selects C x y ∈ lw_all) (q4 : Cond.initialized y.cls ∈ lw_all) (q5 : Cond.code y bytes maxL ret ∈ lw_all) (q0 : Cond.code ⟨owner, x.name, x.desc⟩ b0 m0 r0 ∈ lw_all) (hrc : rm.cells = mc) (hrs : rm.slots = ms)
    (hd : owner ≠ "java/lang/invoke/MethodHandle" ∧ owner ≠ "java/lang/invoke/VarHandle" ∧ (parseMethodDescriptor x.desc).map (fun d => d.parameters.length) = some n) (hR : rm.frames + 1 ≤ R.frames ∧ 8 + (maxL + 11) + rm.locals ≤ R.locals) : va_CU R s args own C owner index x y bytes maxL ret (ws_ y bytes maxL ret) rm mc ms n :=
  va_cwO n hts (lw_app (fun z hz => by
    simp only [List.mem_cons, List.not_mem_nil, or_false] at hz
    rcases hz with z1 | z1 | z1 | z1 | z1 | z1 <;> rw [z1] <;> assumption) (lw_meth q5)) rfl hrc hrs q0 hd hR
theorem runIB {l : Launch} {y : MethodName} {bytes cc : ByteArray} {maxL nL mc ms n index : Nat} {ws : List Cond} {rm : Room} {Pc : Array Value → State → Prop} {Qc : Array Value → State → Outcome → State → Prop} {free : Addr → Prop} {Ts : List Cond} {own : String} {b : Addr} {As rest : List Value} {g : JFrame}
    (S : CallFix p m c cc nL s args Ts own) (hM : Met l y ws rm Pc Qc mc ms free) (cw : CallB R s args own index y bytes maxL none ws rm mc ms n ∧ y.name = "<init>" ∧ (Cond.instanceMethod y).before args s = true) (hbig : 12 + (maxL + 11) + rm.locals ≤ R.locals) (hp : PreS s H Pc (.ref b :: As))
    (hg : g.method = m) (hn : As.length = n) (hsize : g.locals.size = nL) (hstack : g.stack = As.reverse ++ .ref b :: rest) (hW : 2 * g.monitorRoom + (rest.map fun v => v.category).sum ≤ 12) (hdg : decode cc g.pc = .ok (.invokespecial index, 3)) (hf : cells + mc ≤ R.cells ∧ slots + ms ≤ R.slots) :
    CallRun p l e R s m args below meth c H locs cells slots mc ms g rest (Qc (Value.ref b :: As).toArray) (free) := by
  have hK : Back l R p e below s args y 3 12 (PreOf R mc ms Pc) (PostOf Qc mc ms free) := by
    obtain ⟨hrc, hrs, hfr, hlo, hws, hcw, -, hini, -⟩ := cw.1
    exact back_of (bytes := bytes) (maxL := maxL) (ret := none) hM hp.1 hrc hrs hfr hbig hws hcw (fun a' U hW => word_at hW (Or.inl (by first | rfl | simp [Cond.onTables, Cond.keeps, Cond.steady])) hini)
  obtain ⟨⟨-, -, -, -, -, -, hcode, -, hy, hlen, hl⟩, hy1, hin⟩ := cw
  obtain ⟨hx, hb, hml, ho, -⟩ := S
  intro T hT X
  obtain ⟨v, vm₁, ⟨U', l2, c2, s2⟩, hW₁, X', ⟨g', mk, t, L, e1, e2, hq, h1, hL, h2, h3⟩, st⟩ := callI X hx (bytes := bytes) (maxL := maxL) ho hy1 hl hin hcode hy hK hg (hsize.trans hml.symm) (a := b) (argsL := As) (rest := rest) (fun sig h => hn.trans (hlen sig h)) hstack hW (by rw [hb]; exact hdg)
    (fun vm₁ hW₁ => ⟨hf.1, hf.2, hp.2 (T.setVm vm₁) hT hW₁⟩)
  dsimp only [Pt.U, Pt.locs, Pt.cells, Pt.slots] at X' e1 e2 h1 h2 h3 st
  subst h1; subst h2; subst h3
  exact ⟨v, (T.setVm vm₁).calling g' mk (Value.ref b :: As).toArray, t, U', L, hT, X', hL, e1, hq, st⟩
end CALLW
section PF4
variable {w : Wd} {own nm : String} {cc : ByteArray} {nL fr lw : Nat} {ret : Option FieldType} {α β : Type} {en : α → Option Value ⊕ Nat} {o : Option (α × PH)} {h : PH} {pc : Nat} {rest st0 : List Value} {L L' : List (Nat × Value)} {G G' : List (Nat × Nat)}
/-- the receiver: of a known class, and the machine's reference to it -/
theorem recv_ok {s : State} {H : Heap} {t b : Nat} {r : vz_C} {C : String} (hR : Rep w h H) (hK : KW w s) (hta : gT h b = t) (ht : 1 ≤ t ∧ t < 100) (hr : gcl[t - 1]? = some r) (hC : r.1 = C) : ∃ q, rv w b = .ref q ∧ ∃ cell : Cell, H[q]? = some cell ∧ cell.vm.isStatics = false ∧ s.vm.findClass C = some cell.cls := by
  obtain ⟨q, h1, -, h2⟩ := hR.obj hK hta ht hr
  exact ⟨q, h1, by rw [← hC]; exact h2⟩
theorem r_cVi {y : MethodName} {index n fr2 lw2 nL2 t b : Nat} {C : String} {cc2 : ByteArray} {ret2 : Option FieldType} {As : List Value} {oc : Option (Int32 × PH)} {k : Int32 → PH → Option (α × PH)} (ht : 1 ≤ t ∧ t < 100) {r : vz_C} (hr : gcl[t - 1]? = some r) (hC : r.1 = C) (hM : ∀ x h1, oc = some (x, h1) → Ctr w y (ws_ y cc2 nL2 ret2) fr2 lw2 (rv w b :: As) h (.inl (some (.int x))) h1) (q1 : Cond.methodLink own index y ∈ lw_all) (q2 : Cond.instanceMethod y ∈ lw_all) (q3 : Cond.selects C y y ∈ lw_all) (q4 : Cond.initialized y.cls ∈ lw_all) (q5 : Cond.code y cc2 nL2 ret2 ∈ lw_all) (hy : y.cls ≠ "java/lang/invoke/MethodHandle" ∧ y.cls ≠ "java/lang/invoke/VarHandle" ∧ (parseMethodDescriptor y.desc).map (fun d => d.parameters.length) = some n) (hn : As.length = n) (hRm : fr2 + 1 ≤ fr ∧ 8 + (nL2 + 11) + lw2 ≤ lw) (hs8 : (rest.map fun v => v.category).sum ≤ 8) (hst : As.reverse ++ rv w b :: rest = st0) (d : decode cc pc = .ok (.invokevirtual index, 3))
    (r9 : ∀ x h1, Pf w (own, cc, nL, nm, ret, fr, lw) en (pc + 3) L G (.int x :: rest) (k x h1) h1) : Pf w (own, cc, nL, nm, ret, fr, lw) en pc L G st0 (o_ck t b h (o_call oc k)) h := by
  unfold o_ck
  by_cases hta : gT h b = t
  · rw [if_pos hta]
    refine fun rE hE q => ?_
    cases hoc : oc with
    | none => rw [hoc] at q; cases q
    | some x1 =>
      obtain ⟨x1, h1⟩ := x1
      rw [hoc] at q
      have hc := hM x1 h1 hoc
      have r9 := r9 x1 h1 rE hE q
      have m1 := hc.1
      have m2 := r9.1
      refine ⟨⟨by omega, by omega⟩, fun p e s m args below meth c h0 X y1 y2 y3 ls hL H locs x y9 u => ?_⟩
      have hMet := hc.2 (by omega)
      obtain ⟨qb, hb, hrc⟩ := recv_ok x X.2.2.2.2.2.1 hta ht hr hC
      rw [hb] at hMet
      refine W.after y9 y1 u (dpc := 3) (mc := gN h1 - gN h) (ms := gS h1 - gS h) (W.runV (As := As) (rest := rest) ⟨X.1, X.2.1, X.2.2.1, X.2.2.2.1, X.2.2.2.2.1⟩ hMet (callW_of X.2.2.2.2.1 q1 q2 q3 q4 q5 rfl rfl hy hRm) ⟨pcp_blind, hrc, fun U hU hW => ⟨rfl, X.2.2.2.2.2.1.warm hW, by rw [hU]; exact x⟩⟩ rfl hn (hL.size) (by rw [← hst, hb]) (lv_room hs8) d ⟨by show gN h - gN h0 + (gN h1 - gN h) ≤ gN hE - gN h0; omega, by show gS h - gS h0 + (gS h1 - gS h) ≤ gS hE - gS h0; omega⟩) (fun H1 locs1 a1 a2 a3 => ?_)
      exact W.cs (by omega) (by omega) (r9.2 p e s m args below meth c h0 X y1 (by omega) (by omega) ls hL H1 locs1 a1 a2 a3)
  · rw [if_neg hta]; exact Pf.none
theorem r_cVr {y : MethodName} {index n fr2 lw2 nL2 t b : Nat} {C : String} {cc2 : ByteArray} {ret2 : Option FieldType} {As : List Value} {oc : Option (Nat × PH)} {k : Nat → PH → Option (α × PH)} (ht : 1 ≤ t ∧ t < 100) {r : vz_C} (hr : gcl[t - 1]? = some r) (hC : r.1 = C) (hM : ∀ x h1, oc = some (x, h1) → Ctr w y (ws_ y cc2 nL2 ret2) fr2 lw2 (rv w b :: As) h (.inl (some (rv w x))) h1) (q1 : Cond.methodLink own index y ∈ lw_all) (q2 : Cond.instanceMethod y ∈ lw_all) (q3 : Cond.selects C y y ∈ lw_all) (q4 : Cond.initialized y.cls ∈ lw_all) (q5 : Cond.code y cc2 nL2 ret2 ∈ lw_all) (hy : y.cls ≠ "java/lang/invoke/MethodHandle" ∧ y.cls ≠ "java/lang/invoke/VarHandle" ∧ (parseMethodDescriptor y.desc).map (fun d => d.parameters.length) = some n) (hn : As.length = n) (hRm : fr2 + 1 ≤ fr ∧ 8 + (nL2 + 11) + lw2 ≤ lw) (hs8 : (rest.map fun v => v.category).sum ≤ 8) (hst : As.reverse ++ rv w b :: rest = st0) (d : decode cc pc = .ok (.invokevirtual index, 3))
    (r9 : ∀ x h1, Pf w (own, cc, nL, nm, ret, fr, lw) en (pc + 3) L G (rv w x :: rest) (k x h1) h1) : Pf w (own, cc, nL, nm, ret, fr, lw) en pc L G st0 (o_ck t b h (o_call oc k)) h := by
  unfold o_ck
  by_cases hta : gT h b = t
  · rw [if_pos hta]
    refine fun rE hE q => ?_
    cases hoc : oc with
    | none => rw [hoc] at q; cases q
    | some x1 =>
      obtain ⟨x1, h1⟩ := x1
      rw [hoc] at q
      have hc := hM x1 h1 hoc
      have r9 := r9 x1 h1 rE hE q
      have m1 := hc.1
      have m2 := r9.1
      refine ⟨⟨by omega, by omega⟩, fun p e s m args below meth c h0 X y1 y2 y3 ls hL H locs x y9 u => ?_⟩
      have hMet := hc.2 (by omega)
      obtain ⟨qb, hb, hrc⟩ := recv_ok x X.2.2.2.2.2.1 hta ht hr hC
      rw [hb] at hMet
      refine W.after y9 y1 u (dpc := 3) (mc := gN h1 - gN h) (ms := gS h1 - gS h) (W.runV (As := As) (rest := rest) ⟨X.1, X.2.1, X.2.2.1, X.2.2.2.1, X.2.2.2.2.1⟩ hMet (callW_of X.2.2.2.2.1 q1 q2 q3 q4 q5 rfl rfl hy hRm) ⟨pcp_blind, hrc, fun U hU hW => ⟨rfl, X.2.2.2.2.2.1.warm hW, by rw [hU]; exact x⟩⟩ rfl hn (hL.size) (by rw [← hst, hb]) (lv_room hs8) d ⟨by show gN h - gN h0 + (gN h1 - gN h) ≤ gN hE - gN h0; omega, by show gS h - gS h0 + (gS h1 - gS h) ≤ gS hE - gS h0; omega⟩) (fun H1 locs1 a1 a2 a3 => ?_)
      exact W.cs (by omega) (by omega) (r9.2 p e s m args below meth c h0 X y1 (by omega) (by omega) ls hL H1 locs1 a1 a2 a3)
  · rw [if_neg hta]; exact Pf.none
theorem r_cVu {y : MethodName} {index n fr2 lw2 nL2 t b : Nat} {C : String} {cc2 : ByteArray} {ret2 : Option FieldType} {As : List Value} {oc : Option (Unit × PH)} {k : Unit → PH → Option (α × PH)} (ht : 1 ≤ t ∧ t < 100) {r : vz_C} (hr : gcl[t - 1]? = some r) (hC : r.1 = C) (hM : ∀ x h1, oc = some (x, h1) → Ctr w y (ws_ y cc2 nL2 ret2) fr2 lw2 (rv w b :: As) h (.inl (none)) h1) (q1 : Cond.methodLink own index y ∈ lw_all) (q2 : Cond.instanceMethod y ∈ lw_all) (q3 : Cond.selects C y y ∈ lw_all) (q4 : Cond.initialized y.cls ∈ lw_all) (q5 : Cond.code y cc2 nL2 ret2 ∈ lw_all) (hy : y.cls ≠ "java/lang/invoke/MethodHandle" ∧ y.cls ≠ "java/lang/invoke/VarHandle" ∧ (parseMethodDescriptor y.desc).map (fun d => d.parameters.length) = some n) (hn : As.length = n) (hRm : fr2 + 1 ≤ fr ∧ 8 + (nL2 + 11) + lw2 ≤ lw) (hs8 : (rest.map fun v => v.category).sum ≤ 8) (hst : As.reverse ++ rv w b :: rest = st0) (d : decode cc pc = .ok (.invokevirtual index, 3))
    (r9 : ∀ x h1, Pf w (own, cc, nL, nm, ret, fr, lw) en (pc + 3) L G (rest) (k x h1) h1) : Pf w (own, cc, nL, nm, ret, fr, lw) en pc L G st0 (o_ck t b h (o_call oc k)) h := by
  unfold o_ck
  by_cases hta : gT h b = t
  · rw [if_pos hta]
    refine fun rE hE q => ?_
    cases hoc : oc with
    | none => rw [hoc] at q; cases q
    | some x1 =>
      obtain ⟨x1, h1⟩ := x1
      rw [hoc] at q
      have hc := hM x1 h1 hoc
      have r9 := r9 x1 h1 rE hE q
      have m1 := hc.1
      have m2 := r9.1
      refine ⟨⟨by omega, by omega⟩, fun p e s m args below meth c h0 X y1 y2 y3 ls hL H locs x y9 u => ?_⟩
      have hMet := hc.2 (by omega)
      obtain ⟨qb, hb, hrc⟩ := recv_ok x X.2.2.2.2.2.1 hta ht hr hC
      rw [hb] at hMet
      refine W.after y9 y1 u (dpc := 3) (mc := gN h1 - gN h) (ms := gS h1 - gS h) (W.runV (As := As) (rest := rest) ⟨X.1, X.2.1, X.2.2.1, X.2.2.2.1, X.2.2.2.2.1⟩ hMet (callW_of X.2.2.2.2.1 q1 q2 q3 q4 q5 rfl rfl hy hRm) ⟨pcp_blind, hrc, fun U hU hW => ⟨rfl, X.2.2.2.2.2.1.warm hW, by rw [hU]; exact x⟩⟩ rfl hn (hL.size) (by rw [← hst, hb]) (lv_room hs8) d ⟨by show gN h - gN h0 + (gN h1 - gN h) ≤ gN hE - gN h0; omega, by show gS h - gS h0 + (gS h1 - gS h) ≤ gS hE - gS h0; omega⟩) (fun H1 locs1 a1 a2 a3 => ?_)
      exact W.cs (by omega) (by omega) (r9.2 p e s m args below meth c h0 X y1 (by omega) (by omega) ls hL H1 locs1 a1 a2 a3)
  · rw [if_neg hta]; exact Pf.none
theorem r_cVf {y : MethodName} {index n fr2 lw2 nL2 t b : Nat} {C : String} {cc2 : ByteArray} {ret2 : Option FieldType} {As : List Value} {oc : Option (UInt32 × PH)} {k : UInt32 → PH → Option (α × PH)} (ht : 1 ≤ t ∧ t < 100) {r : vz_C} (hr : gcl[t - 1]? = some r) (hC : r.1 = C) (hM : ∀ x h1, oc = some (x, h1) → Ctr w y (ws_ y cc2 nL2 ret2) fr2 lw2 (rv w b :: As) h (.inl (some (.float x))) h1) (q1 : Cond.methodLink own index y ∈ lw_all) (q2 : Cond.instanceMethod y ∈ lw_all) (q3 : Cond.selects C y y ∈ lw_all) (q4 : Cond.initialized y.cls ∈ lw_all) (q5 : Cond.code y cc2 nL2 ret2 ∈ lw_all) (hy : y.cls ≠ "java/lang/invoke/MethodHandle" ∧ y.cls ≠ "java/lang/invoke/VarHandle" ∧ (parseMethodDescriptor y.desc).map (fun d => d.parameters.length) = some n) (hn : As.length = n) (hRm : fr2 + 1 ≤ fr ∧ 8 + (nL2 + 11) + lw2 ≤ lw) (hs8 : (rest.map fun v => v.category).sum ≤ 8) (hst : As.reverse ++ rv w b :: rest = st0) (d : decode cc pc = .ok (.invokevirtual index, 3))
    (r9 : ∀ x h1, Pf w (own, cc, nL, nm, ret, fr, lw) en (pc + 3) L G (.float x :: rest) (k x h1) h1) : Pf w (own, cc, nL, nm, ret, fr, lw) en pc L G st0 (o_ck t b h (o_call oc k)) h := by
  unfold o_ck
  by_cases hta : gT h b = t
  · rw [if_pos hta]
    refine fun rE hE q => ?_
    cases hoc : oc with
    | none => rw [hoc] at q; cases q
    | some x1 =>
      obtain ⟨x1, h1⟩ := x1
      rw [hoc] at q
      have hc := hM x1 h1 hoc
      have r9 := r9 x1 h1 rE hE q
      have m1 := hc.1
      have m2 := r9.1
      refine ⟨⟨by omega, by omega⟩, fun p e s m args below meth c h0 X y1 y2 y3 ls hL H locs x y9 u => ?_⟩
      have hMet := hc.2 (by omega)
      obtain ⟨qb, hb, hrc⟩ := recv_ok x X.2.2.2.2.2.1 hta ht hr hC
      rw [hb] at hMet
      refine W.after y9 y1 u (dpc := 3) (mc := gN h1 - gN h) (ms := gS h1 - gS h) (W.runV (As := As) (rest := rest) ⟨X.1, X.2.1, X.2.2.1, X.2.2.2.1, X.2.2.2.2.1⟩ hMet (callW_of X.2.2.2.2.1 q1 q2 q3 q4 q5 rfl rfl hy hRm) ⟨pcp_blind, hrc, fun U hU hW => ⟨rfl, X.2.2.2.2.2.1.warm hW, by rw [hU]; exact x⟩⟩ rfl hn (hL.size) (by rw [← hst, hb]) (lv_room hs8) d ⟨by show gN h - gN h0 + (gN h1 - gN h) ≤ gN hE - gN h0; omega, by show gS h - gS h0 + (gS h1 - gS h) ≤ gS hE - gS h0; omega⟩) (fun H1 locs1 a1 a2 a3 => ?_)
      exact W.cs (by omega) (by omega) (r9.2 p e s m args below meth c h0 X y1 (by omega) (by omega) ls hL H1 locs1 a1 a2 a3)
  · rw [if_neg hta]; exact Pf.none
theorem r_cVd {y : MethodName} {index n fr2 lw2 nL2 t b : Nat} {C : String} {cc2 : ByteArray} {ret2 : Option FieldType} {As : List Value} {oc : Option (UInt64 × PH)} {k : UInt64 → PH → Option (α × PH)} (ht : 1 ≤ t ∧ t < 100) {r : vz_C} (hr : gcl[t - 1]? = some r) (hC : r.1 = C) (hM : ∀ x h1, oc = some (x, h1) → Ctr w y (ws_ y cc2 nL2 ret2) fr2 lw2 (rv w b :: As) h (.inl (some (.double x))) h1) (q1 : Cond.methodLink own index y ∈ lw_all) (q2 : Cond.instanceMethod y ∈ lw_all) (q3 : Cond.selects C y y ∈ lw_all) (q4 : Cond.initialized y.cls ∈ lw_all) (q5 : Cond.code y cc2 nL2 ret2 ∈ lw_all) (hy : y.cls ≠ "java/lang/invoke/MethodHandle" ∧ y.cls ≠ "java/lang/invoke/VarHandle" ∧ (parseMethodDescriptor y.desc).map (fun d => d.parameters.length) = some n) (hn : As.length = n) (hRm : fr2 + 1 ≤ fr ∧ 8 + (nL2 + 11) + lw2 ≤ lw) (hs8 : (rest.map fun v => v.category).sum ≤ 8) (hst : As.reverse ++ rv w b :: rest = st0) (d : decode cc pc = .ok (.invokevirtual index, 3))
    (r9 : ∀ x h1, Pf w (own, cc, nL, nm, ret, fr, lw) en (pc + 3) L G (.double x :: rest) (k x h1) h1) : Pf w (own, cc, nL, nm, ret, fr, lw) en pc L G st0 (o_ck t b h (o_call oc k)) h := by
  unfold o_ck
  by_cases hta : gT h b = t
  · rw [if_pos hta]
    refine fun rE hE q => ?_
    cases hoc : oc with
    | none => rw [hoc] at q; cases q
    | some x1 =>
      obtain ⟨x1, h1⟩ := x1
      rw [hoc] at q
      have hc := hM x1 h1 hoc
      have r9 := r9 x1 h1 rE hE q
      have m1 := hc.1
      have m2 := r9.1
      refine ⟨⟨by omega, by omega⟩, fun p e s m args below meth c h0 X y1 y2 y3 ls hL H locs x y9 u => ?_⟩
      have hMet := hc.2 (by omega)
      obtain ⟨qb, hb, hrc⟩ := recv_ok x X.2.2.2.2.2.1 hta ht hr hC
      rw [hb] at hMet
      refine W.after y9 y1 u (dpc := 3) (mc := gN h1 - gN h) (ms := gS h1 - gS h) (W.runV (As := As) (rest := rest) ⟨X.1, X.2.1, X.2.2.1, X.2.2.2.1, X.2.2.2.2.1⟩ hMet (callW_of X.2.2.2.2.1 q1 q2 q3 q4 q5 rfl rfl hy hRm) ⟨pcp_blind, hrc, fun U hU hW => ⟨rfl, X.2.2.2.2.2.1.warm hW, by rw [hU]; exact x⟩⟩ rfl hn (hL.size) (by rw [← hst, hb]) (lv_room hs8) d ⟨by show gN h - gN h0 + (gN h1 - gN h) ≤ gN hE - gN h0; omega, by show gS h - gS h0 + (gS h1 - gS h) ≤ gS hE - gS h0; omega⟩) (fun H1 locs1 a1 a2 a3 => ?_)
      exact W.cs (by omega) (by omega) (r9.2 p e s m args below meth c h0 X y1 (by omega) (by omega) ls hL H1 locs1 a1 a2 a3)
  · rw [if_neg hta]; exact Pf.none
theorem r_cPi {y : MethodName} {index n fr2 lw2 nL2 t b : Nat} {C : String} {cc2 : ByteArray} {ret2 : Option FieldType} {As : List Value} {oc : Option (Int32 × PH)} {k : Int32 → PH → Option (α × PH)} (ht : 1 ≤ t ∧ t < 100) {r : vz_C} (hr : gcl[t - 1]? = some r) (hC : r.1 = C) (hM : ∀ x h1, oc = some (x, h1) → Ctr w y (ws_ y cc2 nL2 ret2) fr2 lw2 (rv w b :: As) h (.inl (some (.int x))) h1) (q1 : Cond.methodLink own index y ∈ lw_all) (q2 : Cond.instanceMethod y ∈ lw_all) (q3 : Cond.privateMethod y ∈ lw_tbl) (q6 : Cond.sameMethod y.cls y.cls y.name y.desc ∈ lw_all) (q4 : Cond.initialized y.cls ∈ lw_all) (q5 : Cond.code y cc2 nL2 ret2 ∈ lw_all) (hy : y.cls ≠ "java/lang/invoke/MethodHandle" ∧ y.cls ≠ "java/lang/invoke/VarHandle" ∧ (parseMethodDescriptor y.desc).map (fun d => d.parameters.length) = some n) (hn : As.length = n) (hRm : fr2 + 1 ≤ fr ∧ 8 + (nL2 + 11) + lw2 ≤ lw) (hs8 : (rest.map fun v => v.category).sum ≤ 8) (hst : As.reverse ++ rv w b :: rest = st0) (d : decode cc pc = .ok (.invokevirtual index, 3))
    (r9 : ∀ x h1, Pf w (own, cc, nL, nm, ret, fr, lw) en (pc + 3) L G (.int x :: rest) (k x h1) h1) : Pf w (own, cc, nL, nm, ret, fr, lw) en pc L G st0 (o_ck t b h (o_call oc k)) h := by
  unfold o_ck
  by_cases hta : gT h b = t
  · rw [if_pos hta]
    refine fun rE hE q => ?_
    cases hoc : oc with
    | none => rw [hoc] at q; cases q
    | some x1 =>
      obtain ⟨x1, h1⟩ := x1
      rw [hoc] at q
      have hc := hM x1 h1 hoc
      have r9 := r9 x1 h1 rE hE q
      have m1 := hc.1
      have m2 := r9.1
      refine ⟨⟨by omega, by omega⟩, fun p e s m args below meth c h0 X y1 y2 y3 ls hL H locs x y9 u => ?_⟩
      have hMet := hc.2 (by omega)
      obtain ⟨qb, hb, hrc⟩ := recv_ok x X.2.2.2.2.2.1 hta ht hr hC
      rw [hb] at hMet
      refine W.after y9 y1 u (dpc := 3) (mc := gN h1 - gN h) (ms := gS h1 - gS h) (runVP (As := As) (rest := rest) (C := C) ⟨X.1, X.2.1, X.2.2.1, X.2.2.2.1, X.2.2.2.2.1⟩ hMet (callB_of n X.2.2.2.2.1 (lw_meth q5) rfl rfl rfl (X.2.2.2.2.1 _ q4) (X.2.2.2.2.1 _ q1) hy hRm) (X.2.2.2.2.1 _ q2) (Cond.privateMethod_at (args := #[]) (X.2.2.2.2.2.1.2.2.1 _ q3 rfl)) (X.2.2.2.2.1 _ q6) ⟨pcp_blind, hrc, fun U hU hW => ⟨rfl, X.2.2.2.2.2.1.warm hW, by rw [hU]; exact x⟩⟩ rfl hn (hL.size) (by rw [← hst, hb]) (lv_room hs8) d ⟨by show gN h - gN h0 + (gN h1 - gN h) ≤ gN hE - gN h0; omega, by show gS h - gS h0 + (gS h1 - gS h) ≤ gS hE - gS h0; omega⟩) (fun H1 locs1 a1 a2 a3 => ?_)
      exact W.cs (by omega) (by omega) (r9.2 p e s m args below meth c h0 X y1 (by omega) (by omega) ls hL H1 locs1 a1 a2 a3)
  · rw [if_neg hta]; exact Pf.none
theorem r_cPr {y : MethodName} {index n fr2 lw2 nL2 t b : Nat} {C : String} {cc2 : ByteArray} {ret2 : Option FieldType} {As : List Value} {oc : Option (Nat × PH)} {k : Nat → PH → Option (α × PH)} (ht : 1 ≤ t ∧ t < 100) {r : vz_C} (hr : gcl[t - 1]? = some r) (hC : r.1 = C) (hM : ∀ x h1, oc = some (x, h1) → Ctr w y (ws_ y cc2 nL2 ret2) fr2 lw2 (rv w b :: As) h (.inl (some (rv w x))) h1) (q1 : Cond.methodLink own index y ∈ lw_all) (q2 : Cond.instanceMethod y ∈ lw_all) (q3 : Cond.privateMethod y ∈ lw_tbl) (q6 : Cond.sameMethod y.cls y.cls y.name y.desc ∈ lw_all) (q4 : Cond.initialized y.cls ∈ lw_all) (q5 : Cond.code y cc2 nL2 ret2 ∈ lw_all) (hy : y.cls ≠ "java/lang/invoke/MethodHandle" ∧ y.cls ≠ "java/lang/invoke/VarHandle" ∧ (parseMethodDescriptor y.desc).map (fun d => d.parameters.length) = some n) (hn : As.length = n) (hRm : fr2 + 1 ≤ fr ∧ 8 + (nL2 + 11) + lw2 ≤ lw) (hs8 : (rest.map fun v => v.category).sum ≤ 8) (hst : As.reverse ++ rv w b :: rest = st0) (d : decode cc pc = .ok (.invokevirtual index, 3))
    (r9 : ∀ x h1, Pf w (own, cc, nL, nm, ret, fr, lw) en (pc + 3) L G (rv w x :: rest) (k x h1) h1) : Pf w (own, cc, nL, nm, ret, fr, lw) en pc L G st0 (o_ck t b h (o_call oc k)) h := by
  unfold o_ck
  by_cases hta : gT h b = t
  · rw [if_pos hta]
    refine fun rE hE q => ?_
    cases hoc : oc with
    | none => rw [hoc] at q; cases q
    | some x1 =>
      obtain ⟨x1, h1⟩ := x1
      rw [hoc] at q
      have hc := hM x1 h1 hoc
      have r9 := r9 x1 h1 rE hE q
      have m1 := hc.1
      have m2 := r9.1
      refine ⟨⟨by omega, by omega⟩, fun p e s m args below meth c h0 X y1 y2 y3 ls hL H locs x y9 u => ?_⟩
      have hMet := hc.2 (by omega)
      obtain ⟨qb, hb, hrc⟩ := recv_ok x X.2.2.2.2.2.1 hta ht hr hC
      rw [hb] at hMet
      refine W.after y9 y1 u (dpc := 3) (mc := gN h1 - gN h) (ms := gS h1 - gS h) (runVP (As := As) (rest := rest) (C := C) ⟨X.1, X.2.1, X.2.2.1, X.2.2.2.1, X.2.2.2.2.1⟩ hMet (callB_of n X.2.2.2.2.1 (lw_meth q5) rfl rfl rfl (X.2.2.2.2.1 _ q4) (X.2.2.2.2.1 _ q1) hy hRm) (X.2.2.2.2.1 _ q2) (Cond.privateMethod_at (args := #[]) (X.2.2.2.2.2.1.2.2.1 _ q3 rfl)) (X.2.2.2.2.1 _ q6) ⟨pcp_blind, hrc, fun U hU hW => ⟨rfl, X.2.2.2.2.2.1.warm hW, by rw [hU]; exact x⟩⟩ rfl hn (hL.size) (by rw [← hst, hb]) (lv_room hs8) d ⟨by show gN h - gN h0 + (gN h1 - gN h) ≤ gN hE - gN h0; omega, by show gS h - gS h0 + (gS h1 - gS h) ≤ gS hE - gS h0; omega⟩) (fun H1 locs1 a1 a2 a3 => ?_)
      exact W.cs (by omega) (by omega) (r9.2 p e s m args below meth c h0 X y1 (by omega) (by omega) ls hL H1 locs1 a1 a2 a3)
  · rw [if_neg hta]; exact Pf.none
theorem r_cPu {y : MethodName} {index n fr2 lw2 nL2 t b : Nat} {C : String} {cc2 : ByteArray} {ret2 : Option FieldType} {As : List Value} {oc : Option (Unit × PH)} {k : Unit → PH → Option (α × PH)} (ht : 1 ≤ t ∧ t < 100) {r : vz_C} (hr : gcl[t - 1]? = some r) (hC : r.1 = C) (hM : ∀ x h1, oc = some (x, h1) → Ctr w y (ws_ y cc2 nL2 ret2) fr2 lw2 (rv w b :: As) h (.inl (none)) h1) (q1 : Cond.methodLink own index y ∈ lw_all) (q2 : Cond.instanceMethod y ∈ lw_all) (q3 : Cond.privateMethod y ∈ lw_tbl) (q6 : Cond.sameMethod y.cls y.cls y.name y.desc ∈ lw_all) (q4 : Cond.initialized y.cls ∈ lw_all) (q5 : Cond.code y cc2 nL2 ret2 ∈ lw_all) (hy : y.cls ≠ "java/lang/invoke/MethodHandle" ∧ y.cls ≠ "java/lang/invoke/VarHandle" ∧ (parseMethodDescriptor y.desc).map (fun d => d.parameters.length) = some n) (hn : As.length = n) (hRm : fr2 + 1 ≤ fr ∧ 8 + (nL2 + 11) + lw2 ≤ lw) (hs8 : (rest.map fun v => v.category).sum ≤ 8) (hst : As.reverse ++ rv w b :: rest = st0) (d : decode cc pc = .ok (.invokevirtual index, 3))
    (r9 : ∀ x h1, Pf w (own, cc, nL, nm, ret, fr, lw) en (pc + 3) L G (rest) (k x h1) h1) : Pf w (own, cc, nL, nm, ret, fr, lw) en pc L G st0 (o_ck t b h (o_call oc k)) h := by
  unfold o_ck
  by_cases hta : gT h b = t
  · rw [if_pos hta]
    refine fun rE hE q => ?_
    cases hoc : oc with
    | none => rw [hoc] at q; cases q
    | some x1 =>
      obtain ⟨x1, h1⟩ := x1
      rw [hoc] at q
      have hc := hM x1 h1 hoc
      have r9 := r9 x1 h1 rE hE q
      have m1 := hc.1
      have m2 := r9.1
      refine ⟨⟨by omega, by omega⟩, fun p e s m args below meth c h0 X y1 y2 y3 ls hL H locs x y9 u => ?_⟩
      have hMet := hc.2 (by omega)
      obtain ⟨qb, hb, hrc⟩ := recv_ok x X.2.2.2.2.2.1 hta ht hr hC
      rw [hb] at hMet
      refine W.after y9 y1 u (dpc := 3) (mc := gN h1 - gN h) (ms := gS h1 - gS h) (runVP (As := As) (rest := rest) (C := C) ⟨X.1, X.2.1, X.2.2.1, X.2.2.2.1, X.2.2.2.2.1⟩ hMet (callB_of n X.2.2.2.2.1 (lw_meth q5) rfl rfl rfl (X.2.2.2.2.1 _ q4) (X.2.2.2.2.1 _ q1) hy hRm) (X.2.2.2.2.1 _ q2) (Cond.privateMethod_at (args := #[]) (X.2.2.2.2.2.1.2.2.1 _ q3 rfl)) (X.2.2.2.2.1 _ q6) ⟨pcp_blind, hrc, fun U hU hW => ⟨rfl, X.2.2.2.2.2.1.warm hW, by rw [hU]; exact x⟩⟩ rfl hn (hL.size) (by rw [← hst, hb]) (lv_room hs8) d ⟨by show gN h - gN h0 + (gN h1 - gN h) ≤ gN hE - gN h0; omega, by show gS h - gS h0 + (gS h1 - gS h) ≤ gS hE - gS h0; omega⟩) (fun H1 locs1 a1 a2 a3 => ?_)
      exact W.cs (by omega) (by omega) (r9.2 p e s m args below meth c h0 X y1 (by omega) (by omega) ls hL H1 locs1 a1 a2 a3)
  · rw [if_neg hta]; exact Pf.none
theorem r_cOi {y : MethodName} {index n fr2 lw2 nL2 t b : Nat} {C : String} {cc2 : ByteArray} {ret2 : Option FieldType} {As : List Value} {oc : Option (Int32 × PH)} {k : Int32 → PH → Option (α × PH)} (ht : 1 ≤ t ∧ t < 100) {r : vz_C} (hr : gcl[t - 1]? = some r) (hC : r.1 = C) (hM : ∀ x h1, oc = some (x, h1) → Ctr w y (ws_ y cc2 nL2 ret2) fr2 lw2 (rv w b :: As) h (.inl (some (.int x))) h1) {yI : MethodName} {owner : String} {b0 : ByteArray} {m0 : Nat} {rt0 : Option FieldType} (q1 : Cond.methodLink own index yI ∈ lw_all) (q6 : Cond.sameMethod yI.cls owner yI.name yI.desc ∈ lw_all) (q7 : Cond.instanceMethod ⟨owner, yI.name, yI.desc⟩ ∈ lw_all) (q2 : Cond.instanceMethod y ∈ lw_all) (q3 : Cond.selects C yI y ∈ lw_all) (q4 : Cond.initialized y.cls ∈ lw_all) (q0 : Cond.code ⟨owner, yI.name, yI.desc⟩ b0 m0 rt0 ∈ lw_all) (hyI : owner ≠ "java/lang/invoke/MethodHandle" ∧ owner ≠ "java/lang/invoke/VarHandle" ∧ (parseMethodDescriptor yI.desc).map (fun d => d.parameters.length) = some n) (q5 : Cond.code y cc2 nL2 ret2 ∈ lw_all)  (hn : As.length = n) (hRm : fr2 + 1 ≤ fr ∧ 8 + (nL2 + 11) + lw2 ≤ lw) (hs8 : (rest.map fun v => v.category).sum ≤ 8) (hst : As.reverse ++ rv w b :: rest = st0) (d : decode cc pc = .ok (.invokevirtual index, 3))
    (r9 : ∀ x h1, Pf w (own, cc, nL, nm, ret, fr, lw) en (pc + 3) L G (.int x :: rest) (k x h1) h1) : Pf w (own, cc, nL, nm, ret, fr, lw) en pc L G st0 (o_ck t b h (o_call oc k)) h := by
  unfold o_ck
  by_cases hta : gT h b = t
  · rw [if_pos hta]
    refine fun rE hE q => ?_
    cases hoc : oc with
    | none => rw [hoc] at q; cases q
    | some x1 =>
      obtain ⟨x1, h1⟩ := x1
      rw [hoc] at q
      have hc := hM x1 h1 hoc
      have r9 := r9 x1 h1 rE hE q
      have m1 := hc.1
      have m2 := r9.1
      refine ⟨⟨by omega, by omega⟩, fun p e s m args below meth c h0 X y1 y2 y3 ls hL H locs x y9 u => ?_⟩
      have hMet := hc.2 (by omega)
      obtain ⟨qb, hb, hrc⟩ := recv_ok x X.2.2.2.2.2.1 hta ht hr hC
      rw [hb] at hMet
      refine W.after y9 y1 u (dpc := 3) (mc := gN h1 - gN h) (ms := gS h1 - gS h) (CallRun.drop (va_runU (As := As) (rest := rest) ⟨X.1, X.2.1, X.2.2.1, X.2.2.2.1, X.2.2.2.2.1⟩ hMet (callO_of X.2.2.2.2.1 q1 q6 q7 q2 q3 q4 q5 q0 rfl rfl hyI hRm) ⟨pcp_blind, hrc, fun U hU hW => ⟨rfl, X.2.2.2.2.2.1.warm hW, by rw [hU]; exact x⟩⟩ rfl hn (hL.size) (by rw [← hst, hb]) (lv_room hs8) d ⟨by show gN h - gN h0 + (gN h1 - gN h) ≤ gN hE - gN h0; omega, by show gS h - gS h0 + (gS h1 - gS h) ≤ gS hE - gS h0; omega⟩)) (fun H1 locs1 a1 a2 a3 => ?_)
      exact W.cs (by omega) (by omega) (r9.2 p e s m args below meth c h0 X y1 (by omega) (by omega) ls hL H1 locs1 a1 a2 a3)
  · rw [if_neg hta]; exact Pf.none
theorem r_cOr {y : MethodName} {index n fr2 lw2 nL2 t b : Nat} {C : String} {cc2 : ByteArray} {ret2 : Option FieldType} {As : List Value} {oc : Option (Nat × PH)} {k : Nat → PH → Option (α × PH)} (ht : 1 ≤ t ∧ t < 100) {r : vz_C} (hr : gcl[t - 1]? = some r) (hC : r.1 = C) (hM : ∀ x h1, oc = some (x, h1) → Ctr w y (ws_ y cc2 nL2 ret2) fr2 lw2 (rv w b :: As) h (.inl (some (rv w x))) h1) {yI : MethodName} {owner : String} {b0 : ByteArray} {m0 : Nat} {rt0 : Option FieldType} (q1 : Cond.methodLink own index yI ∈ lw_all) (q6 : Cond.sameMethod yI.cls owner yI.name yI.desc ∈ lw_all) (q7 : Cond.instanceMethod ⟨owner, yI.name, yI.desc⟩ ∈ lw_all) (q2 : Cond.instanceMethod y ∈ lw_all) (q3 : Cond.selects C yI y ∈ lw_all) (q4 : Cond.initialized y.cls ∈ lw_all) (q0 : Cond.code ⟨owner, yI.name, yI.desc⟩ b0 m0 rt0 ∈ lw_all) (hyI : owner ≠ "java/lang/invoke/MethodHandle" ∧ owner ≠ "java/lang/invoke/VarHandle" ∧ (parseMethodDescriptor yI.desc).map (fun d => d.parameters.length) = some n) (q5 : Cond.code y cc2 nL2 ret2 ∈ lw_all)  (hn : As.length = n) (hRm : fr2 + 1 ≤ fr ∧ 8 + (nL2 + 11) + lw2 ≤ lw) (hs8 : (rest.map fun v => v.category).sum ≤ 8) (hst : As.reverse ++ rv w b :: rest = st0) (d : decode cc pc = .ok (.invokevirtual index, 3))
    (r9 : ∀ x h1, Pf w (own, cc, nL, nm, ret, fr, lw) en (pc + 3) L G (rv w x :: rest) (k x h1) h1) : Pf w (own, cc, nL, nm, ret, fr, lw) en pc L G st0 (o_ck t b h (o_call oc k)) h := by
  unfold o_ck
  by_cases hta : gT h b = t
  · rw [if_pos hta]
    refine fun rE hE q => ?_
    cases hoc : oc with
    | none => rw [hoc] at q; cases q
    | some x1 =>
      obtain ⟨x1, h1⟩ := x1
      rw [hoc] at q
      have hc := hM x1 h1 hoc
      have r9 := r9 x1 h1 rE hE q
      have m1 := hc.1
      have m2 := r9.1
      refine ⟨⟨by omega, by omega⟩, fun p e s m args below meth c h0 X y1 y2 y3 ls hL H locs x y9 u => ?_⟩
      have hMet := hc.2 (by omega)
      obtain ⟨qb, hb, hrc⟩ := recv_ok x X.2.2.2.2.2.1 hta ht hr hC
      rw [hb] at hMet
      refine W.after y9 y1 u (dpc := 3) (mc := gN h1 - gN h) (ms := gS h1 - gS h) (CallRun.drop (va_runU (As := As) (rest := rest) ⟨X.1, X.2.1, X.2.2.1, X.2.2.2.1, X.2.2.2.2.1⟩ hMet (callO_of X.2.2.2.2.1 q1 q6 q7 q2 q3 q4 q5 q0 rfl rfl hyI hRm) ⟨pcp_blind, hrc, fun U hU hW => ⟨rfl, X.2.2.2.2.2.1.warm hW, by rw [hU]; exact x⟩⟩ rfl hn (hL.size) (by rw [← hst, hb]) (lv_room hs8) d ⟨by show gN h - gN h0 + (gN h1 - gN h) ≤ gN hE - gN h0; omega, by show gS h - gS h0 + (gS h1 - gS h) ≤ gS hE - gS h0; omega⟩)) (fun H1 locs1 a1 a2 a3 => ?_)
      exact W.cs (by omega) (by omega) (r9.2 p e s m args below meth c h0 X y1 (by omega) (by omega) ls hL H1 locs1 a1 a2 a3)
  · rw [if_neg hta]; exact Pf.none
theorem r_cOu {y : MethodName} {index n fr2 lw2 nL2 t b : Nat} {C : String} {cc2 : ByteArray} {ret2 : Option FieldType} {As : List Value} {oc : Option (Unit × PH)} {k : Unit → PH → Option (α × PH)} (ht : 1 ≤ t ∧ t < 100) {r : vz_C} (hr : gcl[t - 1]? = some r) (hC : r.1 = C) (hM : ∀ x h1, oc = some (x, h1) → Ctr w y (ws_ y cc2 nL2 ret2) fr2 lw2 (rv w b :: As) h (.inl (none)) h1) {yI : MethodName} {owner : String} {b0 : ByteArray} {m0 : Nat} {rt0 : Option FieldType} (q1 : Cond.methodLink own index yI ∈ lw_all) (q6 : Cond.sameMethod yI.cls owner yI.name yI.desc ∈ lw_all) (q7 : Cond.instanceMethod ⟨owner, yI.name, yI.desc⟩ ∈ lw_all) (q2 : Cond.instanceMethod y ∈ lw_all) (q3 : Cond.selects C yI y ∈ lw_all) (q4 : Cond.initialized y.cls ∈ lw_all) (q0 : Cond.code ⟨owner, yI.name, yI.desc⟩ b0 m0 rt0 ∈ lw_all) (hyI : owner ≠ "java/lang/invoke/MethodHandle" ∧ owner ≠ "java/lang/invoke/VarHandle" ∧ (parseMethodDescriptor yI.desc).map (fun d => d.parameters.length) = some n) (q5 : Cond.code y cc2 nL2 ret2 ∈ lw_all)  (hn : As.length = n) (hRm : fr2 + 1 ≤ fr ∧ 8 + (nL2 + 11) + lw2 ≤ lw) (hs8 : (rest.map fun v => v.category).sum ≤ 8) (hst : As.reverse ++ rv w b :: rest = st0) (d : decode cc pc = .ok (.invokevirtual index, 3))
    (r9 : ∀ x h1, Pf w (own, cc, nL, nm, ret, fr, lw) en (pc + 3) L G (rest) (k x h1) h1) : Pf w (own, cc, nL, nm, ret, fr, lw) en pc L G st0 (o_ck t b h (o_call oc k)) h := by
  unfold o_ck
  by_cases hta : gT h b = t
  · rw [if_pos hta]
    refine fun rE hE q => ?_
    cases hoc : oc with
    | none => rw [hoc] at q; cases q
    | some x1 =>
      obtain ⟨x1, h1⟩ := x1
      rw [hoc] at q
      have hc := hM x1 h1 hoc
      have r9 := r9 x1 h1 rE hE q
      have m1 := hc.1
      have m2 := r9.1
      refine ⟨⟨by omega, by omega⟩, fun p e s m args below meth c h0 X y1 y2 y3 ls hL H locs x y9 u => ?_⟩
      have hMet := hc.2 (by omega)
      obtain ⟨qb, hb, hrc⟩ := recv_ok x X.2.2.2.2.2.1 hta ht hr hC
      rw [hb] at hMet
      refine W.after y9 y1 u (dpc := 3) (mc := gN h1 - gN h) (ms := gS h1 - gS h) (CallRun.drop (va_runU (As := As) (rest := rest) ⟨X.1, X.2.1, X.2.2.1, X.2.2.2.1, X.2.2.2.2.1⟩ hMet (callO_of X.2.2.2.2.1 q1 q6 q7 q2 q3 q4 q5 q0 rfl rfl hyI hRm) ⟨pcp_blind, hrc, fun U hU hW => ⟨rfl, X.2.2.2.2.2.1.warm hW, by rw [hU]; exact x⟩⟩ rfl hn (hL.size) (by rw [← hst, hb]) (lv_room hs8) d ⟨by show gN h - gN h0 + (gN h1 - gN h) ≤ gN hE - gN h0; omega, by show gS h - gS h0 + (gS h1 - gS h) ≤ gS hE - gS h0; omega⟩)) (fun H1 locs1 a1 a2 a3 => ?_)
      exact W.cs (by omega) (by omega) (r9.2 p e s m args below meth c h0 X y1 (by omega) (by omega) ls hL H1 locs1 a1 a2 a3)
  · rw [if_neg hta]; exact Pf.none
theorem r_cSi {y : MethodName} {index n fr2 lw2 nL2 : Nat} {cc2 : ByteArray} {ret2 : Option FieldType} {As : List Value} {oc : Option (Int32 × PH)} {k : Int32 → PH → Option (α × PH)}  (hM : ∀ x h1, oc = some (x, h1) → Ctr w y (ws_ y cc2 nL2 ret2) fr2 lw2 (As) h (.inl (some (.int x))) h1) (q1 : Cond.methodLink own index y ∈ lw_all) (q2 : Cond.static y ∈ lw_all) (q4 : Cond.initialized y.cls ∈ lw_all) (q5 : Cond.code y cc2 nL2 ret2 ∈ lw_all) (hy : y.cls ≠ "java/lang/invoke/MethodHandle" ∧ y.cls ≠ "java/lang/invoke/VarHandle" ∧ (parseMethodDescriptor y.desc).map (fun d => d.parameters.length) = some n) (hn : As.length = n) (hRm : fr2 + 1 ≤ fr ∧ 8 + (nL2 + 11) + lw2 ≤ lw) (hs8 : (rest.map fun v => v.category).sum ≤ 8) (hst : As.reverse ++ rest = st0) (d : decode cc pc = .ok (.invokestatic index, 3))
    (r9 : ∀ x h1, Pf w (own, cc, nL, nm, ret, fr, lw) en (pc + 3) L G (.int x :: rest) (k x h1) h1) : Pf w (own, cc, nL, nm, ret, fr, lw) en pc L G st0 (o_call oc k) h := by
  refine fun rE hE q => ?_
  cases hoc : oc with
  | none => rw [hoc] at q; cases q
  | some x1 =>
    obtain ⟨x1, h1⟩ := x1
    rw [hoc] at q
    have hc := hM x1 h1 hoc
    have r9 := r9 x1 h1 rE hE q
    have m1 := hc.1
    have m2 := r9.1
    refine ⟨⟨by omega, by omega⟩, fun p e s m args below meth c h0 X y1 y2 y3 ls hL H locs x y9 u => ?_⟩
    have hMet := hc.2 (by omega)
    refine W.after y9 y1 u (dpc := 3) (mc := gN h1 - gN h) (ms := gS h1 - gS h) (CallRun.drop (va_runS (As := As) (rest := rest) ⟨X.1, X.2.1, X.2.2.1, X.2.2.2.1, X.2.2.2.2.1⟩ hMet (va_cwS n X.2.2.2.2.1 (lw_S q1 q2 q4 q5) rfl rfl rfl hy hRm) ⟨pcp_blind, fun U hU hW => ⟨rfl, X.2.2.2.2.2.1.warm hW, by rw [hU]; exact x⟩⟩ rfl hn (hL.size) hst.symm (lv_room hs8) d ⟨by show gN h - gN h0 + (gN h1 - gN h) ≤ gN hE - gN h0; omega, by show gS h - gS h0 + (gS h1 - gS h) ≤ gS hE - gS h0; omega⟩)) (fun H1 locs1 a1 a2 a3 => ?_)
    exact W.cs (by omega) (by omega) (r9.2 p e s m args below meth c h0 X y1 (by omega) (by omega) ls hL H1 locs1 a1 a2 a3)
theorem r_cSr {y : MethodName} {index n fr2 lw2 nL2 : Nat} {cc2 : ByteArray} {ret2 : Option FieldType} {As : List Value} {oc : Option (Nat × PH)} {k : Nat → PH → Option (α × PH)}  (hM : ∀ x h1, oc = some (x, h1) → Ctr w y (ws_ y cc2 nL2 ret2) fr2 lw2 (As) h (.inl (some (rv w x))) h1) (q1 : Cond.methodLink own index y ∈ lw_all) (q2 : Cond.static y ∈ lw_all) (q4 : Cond.initialized y.cls ∈ lw_all) (q5 : Cond.code y cc2 nL2 ret2 ∈ lw_all) (hy : y.cls ≠ "java/lang/invoke/MethodHandle" ∧ y.cls ≠ "java/lang/invoke/VarHandle" ∧ (parseMethodDescriptor y.desc).map (fun d => d.parameters.length) = some n) (hn : As.length = n) (hRm : fr2 + 1 ≤ fr ∧ 8 + (nL2 + 11) + lw2 ≤ lw) (hs8 : (rest.map fun v => v.category).sum ≤ 8) (hst : As.reverse ++ rest = st0) (d : decode cc pc = .ok (.invokestatic index, 3))
    (r9 : ∀ x h1, Pf w (own, cc, nL, nm, ret, fr, lw) en (pc + 3) L G (rv w x :: rest) (k x h1) h1) : Pf w (own, cc, nL, nm, ret, fr, lw) en pc L G st0 (o_call oc k) h := by
  refine fun rE hE q => ?_
  cases hoc : oc with
  | none => rw [hoc] at q; cases q
  | some x1 =>
    obtain ⟨x1, h1⟩ := x1
    rw [hoc] at q
    have hc := hM x1 h1 hoc
    have r9 := r9 x1 h1 rE hE q
    have m1 := hc.1
    have m2 := r9.1
    refine ⟨⟨by omega, by omega⟩, fun p e s m args below meth c h0 X y1 y2 y3 ls hL H locs x y9 u => ?_⟩
    have hMet := hc.2 (by omega)
    refine W.after y9 y1 u (dpc := 3) (mc := gN h1 - gN h) (ms := gS h1 - gS h) (CallRun.drop (va_runS (As := As) (rest := rest) ⟨X.1, X.2.1, X.2.2.1, X.2.2.2.1, X.2.2.2.2.1⟩ hMet (va_cwS n X.2.2.2.2.1 (lw_S q1 q2 q4 q5) rfl rfl rfl hy hRm) ⟨pcp_blind, fun U hU hW => ⟨rfl, X.2.2.2.2.2.1.warm hW, by rw [hU]; exact x⟩⟩ rfl hn (hL.size) hst.symm (lv_room hs8) d ⟨by show gN h - gN h0 + (gN h1 - gN h) ≤ gN hE - gN h0; omega, by show gS h - gS h0 + (gS h1 - gS h) ≤ gS hE - gS h0; omega⟩)) (fun H1 locs1 a1 a2 a3 => ?_)
    exact W.cs (by omega) (by omega) (r9.2 p e s m args below meth c h0 X y1 (by omega) (by omega) ls hL H1 locs1 a1 a2 a3)
theorem r_cSu {y : MethodName} {index n fr2 lw2 nL2 : Nat} {cc2 : ByteArray} {ret2 : Option FieldType} {As : List Value} {oc : Option (Unit × PH)} {k : Unit → PH → Option (α × PH)}  (hM : ∀ x h1, oc = some (x, h1) → Ctr w y (ws_ y cc2 nL2 ret2) fr2 lw2 (As) h (.inl (none)) h1) (q1 : Cond.methodLink own index y ∈ lw_all) (q2 : Cond.static y ∈ lw_all) (q4 : Cond.initialized y.cls ∈ lw_all) (q5 : Cond.code y cc2 nL2 ret2 ∈ lw_all) (hy : y.cls ≠ "java/lang/invoke/MethodHandle" ∧ y.cls ≠ "java/lang/invoke/VarHandle" ∧ (parseMethodDescriptor y.desc).map (fun d => d.parameters.length) = some n) (hn : As.length = n) (hRm : fr2 + 1 ≤ fr ∧ 8 + (nL2 + 11) + lw2 ≤ lw) (hs8 : (rest.map fun v => v.category).sum ≤ 8) (hst : As.reverse ++ rest = st0) (d : decode cc pc = .ok (.invokestatic index, 3))
    (r9 : ∀ x h1, Pf w (own, cc, nL, nm, ret, fr, lw) en (pc + 3) L G (rest) (k x h1) h1) : Pf w (own, cc, nL, nm, ret, fr, lw) en pc L G st0 (o_call oc k) h := by
  refine fun rE hE q => ?_
  cases hoc : oc with
  | none => rw [hoc] at q; cases q
  | some x1 =>
    obtain ⟨x1, h1⟩ := x1
    rw [hoc] at q
    have hc := hM x1 h1 hoc
    have r9 := r9 x1 h1 rE hE q
    have m1 := hc.1
    have m2 := r9.1
    refine ⟨⟨by omega, by omega⟩, fun p e s m args below meth c h0 X y1 y2 y3 ls hL H locs x y9 u => ?_⟩
    have hMet := hc.2 (by omega)
    refine W.after y9 y1 u (dpc := 3) (mc := gN h1 - gN h) (ms := gS h1 - gS h) (CallRun.drop (va_runS (As := As) (rest := rest) ⟨X.1, X.2.1, X.2.2.1, X.2.2.2.1, X.2.2.2.2.1⟩ hMet (va_cwS n X.2.2.2.2.1 (lw_S q1 q2 q4 q5) rfl rfl rfl hy hRm) ⟨pcp_blind, fun U hU hW => ⟨rfl, X.2.2.2.2.2.1.warm hW, by rw [hU]; exact x⟩⟩ rfl hn (hL.size) hst.symm (lv_room hs8) d ⟨by show gN h - gN h0 + (gN h1 - gN h) ≤ gN hE - gN h0; omega, by show gS h - gS h0 + (gS h1 - gS h) ≤ gS hE - gS h0; omega⟩)) (fun H1 locs1 a1 a2 a3 => ?_)
    exact W.cs (by omega) (by omega) (r9.2 p e s m args below meth c h0 X y1 (by omega) (by omega) ls hL H1 locs1 a1 a2 a3)
theorem r_cSNi {y : MethodName} {index n fr2 lw2 nL2 : Nat} {cc2 : ByteArray} {ret2 : Option FieldType} {As : List Value} {oc : Option (Int32 × PH)} {k : Int32 → PH → Option (α × PH)}  (hM : ∀ x h1, oc = some (x, h1) → Ctr w y (ws_ y cc2 nL2 ret2) fr2 lw2 (As) h (.inl (some (.int x))) h1) {host : String} (q1 : Cond.methodLinkNest own index y host ∈ lw_tbl) (q2 : Cond.static y ∈ lw_all) (q4 : Cond.initialized y.cls ∈ lw_all) (q5 : Cond.code y cc2 nL2 ret2 ∈ lw_all) (hy : y.cls ≠ "java/lang/invoke/MethodHandle" ∧ y.cls ≠ "java/lang/invoke/VarHandle" ∧ (parseMethodDescriptor y.desc).map (fun d => d.parameters.length) = some n) (hn : As.length = n) (hRm : fr2 + 1 ≤ fr ∧ 8 + (nL2 + 11) + lw2 ≤ lw) (hs8 : (rest.map fun v => v.category).sum ≤ 8) (hst : As.reverse ++ rest = st0) (d : decode cc pc = .ok (.invokestatic index, 3))
    (r9 : ∀ x h1, Pf w (own, cc, nL, nm, ret, fr, lw) en (pc + 3) L G (.int x :: rest) (k x h1) h1) : Pf w (own, cc, nL, nm, ret, fr, lw) en pc L G st0 (o_call oc k) h := by
  refine fun rE hE q => ?_
  cases hoc : oc with
  | none => rw [hoc] at q; cases q
  | some x1 =>
    obtain ⟨x1, h1⟩ := x1
    rw [hoc] at q
    have hc := hM x1 h1 hoc
    have r9 := r9 x1 h1 rE hE q
    have m1 := hc.1
    have m2 := r9.1
    refine ⟨⟨by omega, by omega⟩, fun p e s m args below meth c h0 X y1 y2 y3 ls hL H locs x y9 u => ?_⟩
    have hMet := hc.2 (by omega)
    refine W.after y9 y1 u (dpc := 3) (mc := gN h1 - gN h) (ms := gS h1 - gS h) (CallRun.drop (va_runSN (As := As) (rest := rest) ⟨X.1, X.2.1, X.2.2.1, X.2.2.2.1, X.2.2.2.2.1⟩ hMet ⟨va_cnB n X.2.2.2.2.1 (lw_meth q5) rfl rfl rfl (X.2.2.2.2.2.1.2.2.1 _ q1 rfl) (X.2.2.2.2.1 _ q4) hy hRm, X.2.2.2.2.1 _ q2, trivial⟩ ⟨pcp_blind, fun U hU hW => ⟨rfl, X.2.2.2.2.2.1.warm hW, by rw [hU]; exact x⟩⟩ rfl hn (hL.size) hst.symm (lv_room hs8) d ⟨by show gN h - gN h0 + (gN h1 - gN h) ≤ gN hE - gN h0; omega, by show gS h - gS h0 + (gS h1 - gS h) ≤ gS hE - gS h0; omega⟩)) (fun H1 locs1 a1 a2 a3 => ?_)
    exact W.cs (by omega) (by omega) (r9.2 p e s m args below meth c h0 X y1 (by omega) (by omega) ls hL H1 locs1 a1 a2 a3)
theorem r_cIu {y : MethodName} {index n fr2 lw2 nL2 b : Nat} {cc2 : ByteArray} {As : List Value} {oc : Option (Unit × PH)} {k : Unit → PH → Option (α × PH)}  (hM : ∀ x h1, oc = some (x, h1) → Ctr w y (ws_ y cc2 nL2 none) fr2 lw2 (rv w b :: As) h (.inl (none)) h1) (q1 : Cond.methodLink own index y ∈ lw_all) (q2 : Cond.instanceMethod y ∈ lw_all) (q4 : Cond.initialized y.cls ∈ lw_all) (hy1 : y.name = "<init>") (q5 : Cond.code y cc2 nL2 none ∈ lw_all) (hy : y.cls ≠ "java/lang/invoke/MethodHandle" ∧ y.cls ≠ "java/lang/invoke/VarHandle" ∧ (parseMethodDescriptor y.desc).map (fun d => d.parameters.length) = some n) (hn : As.length = n) (hRm : fr2 + 1 ≤ fr ∧ 8 + (nL2 + 11) + lw2 ≤ lw) (hs8 : (rest.map fun v => v.category).sum ≤ 8) (hst : As.reverse ++ rv w b :: rest = st0) (d : decode cc pc = .ok (.invokespecial index, 3))
    (r9 : ∀ x h1, Pf w (own, cc, nL, nm, ret, fr, lw) en (pc + 3) L G (rest) (k x h1) h1) : Pf w (own, cc, nL, nm, ret, fr, lw) en pc L G st0 (o_nul b h none (o_call oc k)) h := by
  unfold o_nul
  by_cases hb0 : b = 0
  · rw [if_pos hb0]; exact Pf.none
  rw [if_neg hb0]
  by_cases hta : gT h b ≠ 0 ∨ NC ≤ b
  · rw [if_pos hta]
    refine fun rE hE q => ?_
    cases hoc : oc with
    | none => rw [hoc] at q; cases q
    | some x1 =>
      obtain ⟨x1, h1⟩ := x1
      rw [hoc] at q
      have hc := hM x1 h1 hoc
      have r9 := r9 x1 h1 rE hE q
      have m1 := hc.1
      have m2 := r9.1
      refine ⟨⟨by omega, by omega⟩, fun p e s m args below meth c h0 X y1 y2 y3 ls hL H locs x y9 u => ?_⟩
      have hMet := hc.2 (by omega)
      obtain ⟨qb, hb⟩ := rv_nn x hta
      rw [hb] at hMet
      refine W.after y9 y1 u (dpc := 3) (mc := gN h1 - gN h) (ms := gS h1 - gS h) (W.runI (As := As) (rest := rest) ⟨X.1, X.2.1, X.2.2.1, X.2.2.2.1, X.2.2.2.2.1⟩ hMet (cwI n X.2.2.2.2.1 (lw_meth q5) rfl rfl rfl (X.2.2.2.2.1 _ q4) (X.2.2.2.2.1 _ q1) (X.2.2.2.2.1 _ q2) hy1 hy hRm) ⟨pcp_blind, fun U hU hW => ⟨rfl, X.2.2.2.2.2.1.warm hW, by rw [hU]; exact x⟩⟩ rfl hn (hL.size) (by rw [← hst, hb]) (lv_room hs8) d ⟨by show gN h - gN h0 + (gN h1 - gN h) ≤ gN hE - gN h0; omega, by show gS h - gS h0 + (gS h1 - gS h) ≤ gS hE - gS h0; omega⟩) (fun H1 locs1 a1 a2 a3 => ?_)
      exact W.cs (by omega) (by omega) (r9.2 p e s m args below meth c h0 X y1 (by omega) (by omega) ls hL H1 locs1 a1 a2 a3)
  · rw [if_neg hta]; exact Pf.none
theorem r_cSUi {y : MethodName} {index n fr2 lw2 nL2 t b : Nat} {C : String} {cc2 : ByteArray} {ret2 : Option FieldType} {As : List Value} {oc : Option (Int32 × PH)} {k : Int32 → PH → Option (α × PH)} (ht : 1 ≤ t ∧ t < 100) {r : vz_C} (hr : gcl[t - 1]? = some r) (hC : r.1 = C) (hM : ∀ x h1, oc = some (x, h1) → Ctr w y (ws_ y cc2 nL2 ret2) fr2 lw2 (rv w b :: As) h (.inl (some (.int x))) h1) (q1 : Cond.methodLink own index y ∈ lw_all) (q2 : Cond.instanceMethod y ∈ lw_all) (q6 : Cond.sameMethod y.cls y.cls y.name y.desc ∈ lw_all) (q7 : Cond.superclass own y.cls ∈ lw_all) (q4 : Cond.initialized y.cls ∈ lw_all) (hy1 : y.name ≠ "<init>") (q5 : Cond.code y cc2 nL2 ret2 ∈ lw_all) (hy : y.cls ≠ "java/lang/invoke/MethodHandle" ∧ y.cls ≠ "java/lang/invoke/VarHandle" ∧ (parseMethodDescriptor y.desc).map (fun d => d.parameters.length) = some n) (hn : As.length = n) (hRm : fr2 + 1 ≤ fr ∧ 8 + (nL2 + 11) + lw2 ≤ lw) (hs8 : (rest.map fun v => v.category).sum ≤ 8) (hst : As.reverse ++ rv w b :: rest = st0) (d : decode cc pc = .ok (.invokespecial index, 3))
    (r9 : ∀ x h1, Pf w (own, cc, nL, nm, ret, fr, lw) en (pc + 3) L G (.int x :: rest) (k x h1) h1) : Pf w (own, cc, nL, nm, ret, fr, lw) en pc L G st0 (o_ck t b h (o_call oc k)) h := by
  unfold o_ck
  by_cases hta : gT h b = t
  · rw [if_pos hta]
    refine fun rE hE q => ?_
    cases hoc : oc with
    | none => rw [hoc] at q; cases q
    | some x1 =>
      obtain ⟨x1, h1⟩ := x1
      rw [hoc] at q
      have hc := hM x1 h1 hoc
      have r9 := r9 x1 h1 rE hE q
      have m1 := hc.1
      have m2 := r9.1
      refine ⟨⟨by omega, by omega⟩, fun p e s m args below meth c h0 X y1 y2 y3 ls hL H locs x y9 u => ?_⟩
      have hMet := hc.2 (by omega)
      obtain ⟨qb, hb, hrc⟩ := recv_ok x X.2.2.2.2.2.1 hta ht hr hC
      have hcat : ClassAt s C (wdA w t) := by rw [← hC]; exact (X.2.2.2.2.2.1.1 t r ht.1 ht.2 hr).2
      rw [hb] at hMet
      refine W.after y9 y1 u (dpc := 3) (mc := gN h1 - gN h) (ms := gS h1 - gS h) (CallRun.drop (va_runSU (As := As) (rest := rest) hcat ⟨X.1, X.2.1, X.2.2.1, X.2.2.2.1, X.2.2.2.2.1⟩ hMet (va_cwSU n X.2.2.2.2.1 (lw_app (fun z hz => by
      simp only [List.mem_cons, List.not_mem_nil, or_false] at hz
      rcases hz with z1 | z1 | z1 | z1 | z1 <;> rw [z1] <;> assumption) (lw_meth q5)) rfl rfl rfl ⟨hy1, hy.2.2⟩ hRm) ⟨pcp_blind, hrc, fun U hU hW => ⟨rfl, X.2.2.2.2.2.1.warm hW, by rw [hU]; exact x⟩⟩ rfl hn (hL.size) (by rw [← hst, hb]) (lv_room hs8) d ⟨by show gN h - gN h0 + (gN h1 - gN h) ≤ gN hE - gN h0; omega, by show gS h - gS h0 + (gS h1 - gS h) ≤ gS hE - gS h0; omega⟩)) (fun H1 locs1 a1 a2 a3 => ?_)
      exact W.cs (by omega) (by omega) (r9.2 p e s m args below meth c h0 X y1 (by omega) (by omega) ls hL H1 locs1 a1 a2 a3)
  · rw [if_neg hta]; exact Pf.none
theorem r_cSUr {y : MethodName} {index n fr2 lw2 nL2 t b : Nat} {C : String} {cc2 : ByteArray} {ret2 : Option FieldType} {As : List Value} {oc : Option (Nat × PH)} {k : Nat → PH → Option (α × PH)} (ht : 1 ≤ t ∧ t < 100) {r : vz_C} (hr : gcl[t - 1]? = some r) (hC : r.1 = C) (hM : ∀ x h1, oc = some (x, h1) → Ctr w y (ws_ y cc2 nL2 ret2) fr2 lw2 (rv w b :: As) h (.inl (some (rv w x))) h1) (q1 : Cond.methodLink own index y ∈ lw_all) (q2 : Cond.instanceMethod y ∈ lw_all) (q6 : Cond.sameMethod y.cls y.cls y.name y.desc ∈ lw_all) (q7 : Cond.superclass own y.cls ∈ lw_all) (q4 : Cond.initialized y.cls ∈ lw_all) (hy1 : y.name ≠ "<init>") (q5 : Cond.code y cc2 nL2 ret2 ∈ lw_all) (hy : y.cls ≠ "java/lang/invoke/MethodHandle" ∧ y.cls ≠ "java/lang/invoke/VarHandle" ∧ (parseMethodDescriptor y.desc).map (fun d => d.parameters.length) = some n) (hn : As.length = n) (hRm : fr2 + 1 ≤ fr ∧ 8 + (nL2 + 11) + lw2 ≤ lw) (hs8 : (rest.map fun v => v.category).sum ≤ 8) (hst : As.reverse ++ rv w b :: rest = st0) (d : decode cc pc = .ok (.invokespecial index, 3))
    (r9 : ∀ x h1, Pf w (own, cc, nL, nm, ret, fr, lw) en (pc + 3) L G (rv w x :: rest) (k x h1) h1) : Pf w (own, cc, nL, nm, ret, fr, lw) en pc L G st0 (o_ck t b h (o_call oc k)) h := by
  unfold o_ck
  by_cases hta : gT h b = t
  · rw [if_pos hta]
    refine fun rE hE q => ?_
    cases hoc : oc with
    | none => rw [hoc] at q; cases q
    | some x1 =>
      obtain ⟨x1, h1⟩ := x1
      rw [hoc] at q
      have hc := hM x1 h1 hoc
      have r9 := r9 x1 h1 rE hE q
      have m1 := hc.1
      have m2 := r9.1
      refine ⟨⟨by omega, by omega⟩, fun p e s m args below meth c h0 X y1 y2 y3 ls hL H locs x y9 u => ?_⟩
      have hMet := hc.2 (by omega)
      obtain ⟨qb, hb, hrc⟩ := recv_ok x X.2.2.2.2.2.1 hta ht hr hC
      have hcat : ClassAt s C (wdA w t) := by rw [← hC]; exact (X.2.2.2.2.2.1.1 t r ht.1 ht.2 hr).2
      rw [hb] at hMet
      refine W.after y9 y1 u (dpc := 3) (mc := gN h1 - gN h) (ms := gS h1 - gS h) (CallRun.drop (va_runSU (As := As) (rest := rest) hcat ⟨X.1, X.2.1, X.2.2.1, X.2.2.2.1, X.2.2.2.2.1⟩ hMet (va_cwSU n X.2.2.2.2.1 (lw_app (fun z hz => by
      simp only [List.mem_cons, List.not_mem_nil, or_false] at hz
      rcases hz with z1 | z1 | z1 | z1 | z1 <;> rw [z1] <;> assumption) (lw_meth q5)) rfl rfl rfl ⟨hy1, hy.2.2⟩ hRm) ⟨pcp_blind, hrc, fun U hU hW => ⟨rfl, X.2.2.2.2.2.1.warm hW, by rw [hU]; exact x⟩⟩ rfl hn (hL.size) (by rw [← hst, hb]) (lv_room hs8) d ⟨by show gN h - gN h0 + (gN h1 - gN h) ≤ gN hE - gN h0; omega, by show gS h - gS h0 + (gS h1 - gS h) ≤ gS hE - gS h0; omega⟩)) (fun H1 locs1 a1 a2 a3 => ?_)
      exact W.cs (by omega) (by omega) (r9.2 p e s m args below meth c h0 X y1 (by omega) (by omega) ls hL H1 locs1 a1 a2 a3)
  · rw [if_neg hta]; exact Pf.none
theorem r_cSUu {y : MethodName} {index n fr2 lw2 nL2 t b : Nat} {C : String} {cc2 : ByteArray} {ret2 : Option FieldType} {As : List Value} {oc : Option (Unit × PH)} {k : Unit → PH → Option (α × PH)} (ht : 1 ≤ t ∧ t < 100) {r : vz_C} (hr : gcl[t - 1]? = some r) (hC : r.1 = C) (hM : ∀ x h1, oc = some (x, h1) → Ctr w y (ws_ y cc2 nL2 ret2) fr2 lw2 (rv w b :: As) h (.inl (none)) h1) (q1 : Cond.methodLink own index y ∈ lw_all) (q2 : Cond.instanceMethod y ∈ lw_all) (q6 : Cond.sameMethod y.cls y.cls y.name y.desc ∈ lw_all) (q7 : Cond.superclass own y.cls ∈ lw_all) (q4 : Cond.initialized y.cls ∈ lw_all) (hy1 : y.name ≠ "<init>") (q5 : Cond.code y cc2 nL2 ret2 ∈ lw_all) (hy : y.cls ≠ "java/lang/invoke/MethodHandle" ∧ y.cls ≠ "java/lang/invoke/VarHandle" ∧ (parseMethodDescriptor y.desc).map (fun d => d.parameters.length) = some n) (hn : As.length = n) (hRm : fr2 + 1 ≤ fr ∧ 8 + (nL2 + 11) + lw2 ≤ lw) (hs8 : (rest.map fun v => v.category).sum ≤ 8) (hst : As.reverse ++ rv w b :: rest = st0) (d : decode cc pc = .ok (.invokespecial index, 3))
    (r9 : ∀ x h1, Pf w (own, cc, nL, nm, ret, fr, lw) en (pc + 3) L G (rest) (k x h1) h1) : Pf w (own, cc, nL, nm, ret, fr, lw) en pc L G st0 (o_ck t b h (o_call oc k)) h := by
  unfold o_ck
  by_cases hta : gT h b = t
  · rw [if_pos hta]
    refine fun rE hE q => ?_
    cases hoc : oc with
    | none => rw [hoc] at q; cases q
    | some x1 =>
      obtain ⟨x1, h1⟩ := x1
      rw [hoc] at q
      have hc := hM x1 h1 hoc
      have r9 := r9 x1 h1 rE hE q
      have m1 := hc.1
      have m2 := r9.1
      refine ⟨⟨by omega, by omega⟩, fun p e s m args below meth c h0 X y1 y2 y3 ls hL H locs x y9 u => ?_⟩
      have hMet := hc.2 (by omega)
      obtain ⟨qb, hb, hrc⟩ := recv_ok x X.2.2.2.2.2.1 hta ht hr hC
      have hcat : ClassAt s C (wdA w t) := by rw [← hC]; exact (X.2.2.2.2.2.1.1 t r ht.1 ht.2 hr).2
      rw [hb] at hMet
      refine W.after y9 y1 u (dpc := 3) (mc := gN h1 - gN h) (ms := gS h1 - gS h) (CallRun.drop (va_runSU (As := As) (rest := rest) hcat ⟨X.1, X.2.1, X.2.2.1, X.2.2.2.1, X.2.2.2.2.1⟩ hMet (va_cwSU n X.2.2.2.2.1 (lw_app (fun z hz => by
      simp only [List.mem_cons, List.not_mem_nil, or_false] at hz
      rcases hz with z1 | z1 | z1 | z1 | z1 <;> rw [z1] <;> assumption) (lw_meth q5)) rfl rfl rfl ⟨hy1, hy.2.2⟩ hRm) ⟨pcp_blind, hrc, fun U hU hW => ⟨rfl, X.2.2.2.2.2.1.warm hW, by rw [hU]; exact x⟩⟩ rfl hn (hL.size) (by rw [← hst, hb]) (lv_room hs8) d ⟨by show gN h - gN h0 + (gN h1 - gN h) ≤ gN hE - gN h0; omega, by show gS h - gS h0 + (gS h1 - gS h) ≤ gS hE - gS h0; omega⟩)) (fun H1 locs1 a1 a2 a3 => ?_)
      exact W.cs (by omega) (by omega) (r9.2 p e s m args below meth c h0 X y1 (by omega) (by omega) ls hL H1 locs1 a1 a2 a3)
  · rw [if_neg hta]; exact Pf.none
theorem r_cFi {y : MethodName} {index n fr2 lw2 nL2 t b : Nat} {C : String} {cc2 : ByteArray} {ret2 : Option FieldType} {As : List Value} {oc : Option (Int32 × PH)} {k : Int32 → PH → Option (α × PH)} (ht : 1 ≤ t ∧ t < 100) {r : vz_C} (hr : gcl[t - 1]? = some r) (hC : r.1 = C) (hM : ∀ x h1, oc = some (x, h1) → Ctr w y (ws_ y cc2 nL2 ret2) fr2 lw2 (rv w b :: As) h (.inl (some (.int x))) h1) {yI : MethodName} {count z9 : Nat} (q0 : ifTab[z9]? = some (C, yI, y)) (q1 : Cond.methodLink own index yI ∈ lw_all) (q3 : Cond.selects C yI y ∈ lw_all) (q2 : Cond.instanceMethod y ∈ lw_all) (q4 : Cond.initialized y.cls ∈ lw_all) (hyI : yI.cls ≠ "java/lang/invoke/MethodHandle" ∧ yI.cls ≠ "java/lang/invoke/VarHandle" ∧ (parseMethodDescriptor yI.desc).map (fun d => d.parameters.length) = some n) (q5 : Cond.code y cc2 nL2 ret2 ∈ lw_all)  (hn : As.length = n) (hRm : fr2 + 1 ≤ fr ∧ 8 + (nL2 + 11) + lw2 ≤ lw) (hs8 : (rest.map fun v => v.category).sum ≤ 8) (hst : As.reverse ++ rv w b :: rest = st0) (d : decode cc pc = .ok (.invokeinterface index count, 5))
    (r9 : ∀ x h1, Pf w (own, cc, nL, nm, ret, fr, lw) en (pc + 5) L G (.int x :: rest) (k x h1) h1) : Pf w (own, cc, nL, nm, ret, fr, lw) en pc L G st0 (o_ck t b h (o_call oc k)) h := by
  unfold o_ck
  by_cases hta : gT h b = t
  · rw [if_pos hta]
    refine fun rE hE q => ?_
    cases hoc : oc with
    | none => rw [hoc] at q; cases q
    | some x1 =>
      obtain ⟨x1, h1⟩ := x1
      rw [hoc] at q
      have hc := hM x1 h1 hoc
      have r9 := r9 x1 h1 rE hE q
      have m1 := hc.1
      have m2 := r9.1
      refine ⟨⟨by omega, by omega⟩, fun p e s m args below meth c h0 X y1 y2 y3 ls hL H locs x y9 u => ?_⟩
      have hMet := hc.2 (by omega)
      obtain ⟨qb, hb, hrc⟩ := recv_ok x X.2.2.2.2.2.1 hta ht hr hC
      have hcat : ClassAt s C (wdA w t) := by rw [← hC]; exact (X.2.2.2.2.2.1.1 t r ht.1 ht.2 hr).2
      rw [hb] at hMet
      refine W.after y9 y1 u (dpc := 5) (mc := gN h1 - gN h) (ms := gS h1 - gS h) (run5_drop (va_runF (As := As) (rest := rest) hcat ⟨X.1, X.2.1, X.2.2.1, X.2.2.2.1, X.2.2.2.2.1⟩ hMet (va_cwF n X.2.2.2.2.1 (lw_app (fun z hz => by
      simp only [List.mem_cons, List.not_mem_nil, or_false] at hz
      rcases hz with z1 | z1 | z1 | z1 <;> rw [z1] <;> assumption) (lw_meth q5)) rfl rfl rfl (X.2.2.2.2.2.1.2.2.2.2.2.2.2.2.1 _ (List.mem_of_getElem? q0)) hyI hRm) ⟨pcp_blind, hrc, fun U hU hW => ⟨rfl, X.2.2.2.2.2.1.warm hW, by rw [hU]; exact x⟩⟩ rfl hn (hL.size) (by rw [← hst, hb]) (lv_room hs8) d ⟨by show gN h - gN h0 + (gN h1 - gN h) ≤ gN hE - gN h0; omega, by show gS h - gS h0 + (gS h1 - gS h) ≤ gS hE - gS h0; omega⟩)) (fun H1 locs1 a1 a2 a3 => ?_)
      exact W.cs (by omega) (by omega) (r9.2 p e s m args below meth c h0 X y1 (by omega) (by omega) ls hL H1 locs1 a1 a2 a3)
  · rw [if_neg hta]; exact Pf.none
theorem r_cFr {y : MethodName} {index n fr2 lw2 nL2 t b : Nat} {C : String} {cc2 : ByteArray} {ret2 : Option FieldType} {As : List Value} {oc : Option (Nat × PH)} {k : Nat → PH → Option (α × PH)} (ht : 1 ≤ t ∧ t < 100) {r : vz_C} (hr : gcl[t - 1]? = some r) (hC : r.1 = C) (hM : ∀ x h1, oc = some (x, h1) → Ctr w y (ws_ y cc2 nL2 ret2) fr2 lw2 (rv w b :: As) h (.inl (some (rv w x))) h1) {yI : MethodName} {count z9 : Nat} (q0 : ifTab[z9]? = some (C, yI, y)) (q1 : Cond.methodLink own index yI ∈ lw_all) (q3 : Cond.selects C yI y ∈ lw_all) (q2 : Cond.instanceMethod y ∈ lw_all) (q4 : Cond.initialized y.cls ∈ lw_all) (hyI : yI.cls ≠ "java/lang/invoke/MethodHandle" ∧ yI.cls ≠ "java/lang/invoke/VarHandle" ∧ (parseMethodDescriptor yI.desc).map (fun d => d.parameters.length) = some n) (q5 : Cond.code y cc2 nL2 ret2 ∈ lw_all)  (hn : As.length = n) (hRm : fr2 + 1 ≤ fr ∧ 8 + (nL2 + 11) + lw2 ≤ lw) (hs8 : (rest.map fun v => v.category).sum ≤ 8) (hst : As.reverse ++ rv w b :: rest = st0) (d : decode cc pc = .ok (.invokeinterface index count, 5))
    (r9 : ∀ x h1, Pf w (own, cc, nL, nm, ret, fr, lw) en (pc + 5) L G (rv w x :: rest) (k x h1) h1) : Pf w (own, cc, nL, nm, ret, fr, lw) en pc L G st0 (o_ck t b h (o_call oc k)) h := by
  unfold o_ck
  by_cases hta : gT h b = t
  · rw [if_pos hta]
    refine fun rE hE q => ?_
    cases hoc : oc with
    | none => rw [hoc] at q; cases q
    | some x1 =>
      obtain ⟨x1, h1⟩ := x1
      rw [hoc] at q
      have hc := hM x1 h1 hoc
      have r9 := r9 x1 h1 rE hE q
      have m1 := hc.1
      have m2 := r9.1
      refine ⟨⟨by omega, by omega⟩, fun p e s m args below meth c h0 X y1 y2 y3 ls hL H locs x y9 u => ?_⟩
      have hMet := hc.2 (by omega)
      obtain ⟨qb, hb, hrc⟩ := recv_ok x X.2.2.2.2.2.1 hta ht hr hC
      have hcat : ClassAt s C (wdA w t) := by rw [← hC]; exact (X.2.2.2.2.2.1.1 t r ht.1 ht.2 hr).2
      rw [hb] at hMet
      refine W.after y9 y1 u (dpc := 5) (mc := gN h1 - gN h) (ms := gS h1 - gS h) (run5_drop (va_runF (As := As) (rest := rest) hcat ⟨X.1, X.2.1, X.2.2.1, X.2.2.2.1, X.2.2.2.2.1⟩ hMet (va_cwF n X.2.2.2.2.1 (lw_app (fun z hz => by
      simp only [List.mem_cons, List.not_mem_nil, or_false] at hz
      rcases hz with z1 | z1 | z1 | z1 <;> rw [z1] <;> assumption) (lw_meth q5)) rfl rfl rfl (X.2.2.2.2.2.1.2.2.2.2.2.2.2.2.1 _ (List.mem_of_getElem? q0)) hyI hRm) ⟨pcp_blind, hrc, fun U hU hW => ⟨rfl, X.2.2.2.2.2.1.warm hW, by rw [hU]; exact x⟩⟩ rfl hn (hL.size) (by rw [← hst, hb]) (lv_room hs8) d ⟨by show gN h - gN h0 + (gN h1 - gN h) ≤ gN hE - gN h0; omega, by show gS h - gS h0 + (gS h1 - gS h) ≤ gS hE - gS h0; omega⟩)) (fun H1 locs1 a1 a2 a3 => ?_)
      exact W.cs (by omega) (by omega) (r9.2 p e s m args below meth c h0 X y1 (by omega) (by omega) ls hL H1 locs1 a1 a2 a3)
  · rw [if_neg hta]; exact Pf.none
theorem r_cIBu {y : MethodName} {index n fr2 lw2 nL2 b : Nat} {cc2 : ByteArray} {As : List Value} {oc : Option (Unit × PH)} {k : Unit → PH → Option (α × PH)}  (hM : ∀ x h1, oc = some (x, h1) → Ctr w y (ws_ y cc2 nL2 none) fr2 lw2 (rv w b :: As) h (.inl (none)) h1) (q1 : Cond.methodLink own index y ∈ lw_all) (q2 : Cond.instanceMethod y ∈ lw_all) (q4 : Cond.initialized y.cls ∈ lw_all) (hy1 : y.name = "<init>") (q5 : Cond.code y cc2 nL2 none ∈ lw_all) (hy : y.cls ≠ "java/lang/invoke/MethodHandle" ∧ y.cls ≠ "java/lang/invoke/VarHandle" ∧ (parseMethodDescriptor y.desc).map (fun d => d.parameters.length) = some n) (hn : As.length = n) (hRm : fr2 + 1 ≤ fr ∧ 12 + (nL2 + 11) + lw2 ≤ lw) (hs8 : (rest.map fun v => v.category).sum ≤ 12) (hst : As.reverse ++ rv w b :: rest = st0) (d : decode cc pc = .ok (.invokespecial index, 3))
    (r9 : ∀ x h1, Pf w (own, cc, nL, nm, ret, fr, lw) en (pc + 3) L G (rest) (k x h1) h1) : Pf w (own, cc, nL, nm, ret, fr, lw) en pc L G st0 (o_nul b h none (o_call oc k)) h := by
  unfold o_nul
  by_cases hb0 : b = 0
  · rw [if_pos hb0]; exact Pf.none
  rw [if_neg hb0]
  by_cases hta : gT h b ≠ 0 ∨ NC ≤ b
  · rw [if_pos hta]
    refine fun rE hE q => ?_
    cases hoc : oc with
    | none => rw [hoc] at q; cases q
    | some x1 =>
      obtain ⟨x1, h1⟩ := x1
      rw [hoc] at q
      have hc := hM x1 h1 hoc
      have r9 := r9 x1 h1 rE hE q
      have m1 := hc.1
      have m2 := r9.1
      refine ⟨⟨by omega, by omega⟩, fun p e s m args below meth c h0 X y1 y2 y3 ls hL H locs x y9 u => ?_⟩
      have hMet := hc.2 (by omega)
      obtain ⟨qb, hb⟩ := rv_nn x hta
      rw [hb] at hMet
      refine W.after y9 y1 u (dpc := 3) (mc := gN h1 - gN h) (ms := gS h1 - gS h) (runIB (As := As) (rest := rest) ⟨X.1, X.2.1, X.2.2.1, X.2.2.2.1, X.2.2.2.2.1⟩ hMet (cwI n X.2.2.2.2.1 (lw_meth q5) rfl rfl rfl (X.2.2.2.2.1 _ q4) (X.2.2.2.2.1 _ q1) (X.2.2.2.2.1 _ q2) hy1 hy ⟨hRm.1, by have := hRm.2; show 8 + (nL2 + 11) + lw2 ≤ lw; omega⟩) hRm.2 ⟨pcp_blind, fun U hU hW => ⟨rfl, X.2.2.2.2.2.1.warm hW, by rw [hU]; exact x⟩⟩ rfl hn (hL.size) (by rw [← hst, hb]) (show 2 * 0 + _ ≤ 12 by omega) d ⟨by show gN h - gN h0 + (gN h1 - gN h) ≤ gN hE - gN h0; omega, by show gS h - gS h0 + (gS h1 - gS h) ≤ gS hE - gS h0; omega⟩) (fun H1 locs1 a1 a2 a3 => ?_)
      exact W.cs (by omega) (by omega) (r9.2 p e s m args below meth c h0 X y1 (by omega) (by omega) ls hL H1 locs1 a1 a2 a3)
  · rw [if_neg hta]; exact Pf.none
end PF4
