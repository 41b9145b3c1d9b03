set_option maxRecDepth 100000
/-! ===== calls of the lambdas' objects ===== -/
section LAMW
variable {p : Program} {l : Launch} {e : Env} {R : Room} {s : State} {m : MethodId} {args : Array Value} {below : List Frame} {meth : Method} {c : Code} {T : State} {locs : List Loc} {cells slots : Nat}
/-- the entry index of the made class cK is resolved to the static method y, of n parameters, of an initialised class -/
def LamSt (e : Env) (U : State) (cK index : Nat) (y : MethodName) (n : Nat) : Prop :=
  ∃ (t : MethodId) (kt : Class) (mt : Method), plainRef U e cK index ∧ U.vm.methodReady cK index t ∧ U.vm.classes[t.cls]? = some kt ∧ U.vm.method? t = some mt ∧ signaturePolymorphic kt mt = false ∧ mt.isStatic = true ∧ kt.init = .initialized ∧ mt.sig.parameters.length = n ∧ U.methodNamed? y = some t
theorem lam_getf (Y : Stand p l e R s m args below meth c T locs cells slots) (hexec : p.tables.exec = Jvm.exec) {g : JFrame} (hg : g.method = m) {index cF a : Nat} {field : Field} {cell : Cell} {v : Value} {rest : List Value}
    (hr : T.vm.fieldReady m.cls index cF field) (hst : field.isStatic = false) (hstack : g.stack = .ref a :: rest) (hcell : T.heap[a]? = some cell) (hknown : cell.vm ≠ .unknown) (hv : cell.slots[field.slot]? = some v)
    (hdg : decode c.code g.pc = .ok (.getfield index, 3)) (target : State) (ht : Steps p.tables e below (T.setTop { g with pc := g.pc + 3, stack := v :: rest }) target) : Steps p.tables e below (T.setTop g) target := by
  subst hg
  jvm_step Y.here [hexec, hdg, getfield.wp_ready (e := e) (s := T) (c := cF) (field := field) (a := a) (rest := rest) (cell := cell) (v := v) (f := g) Y.here.top hr hst hstack hcell hknown hv]
  exact ht
theorem lam_static (Y : Stand p l e R s m args below meth c T locs cells slots) (hexec : p.tables.exec = Jvm.exec) {g : JFrame} (hg : g.method = m) {index : Nat} {y : MethodName} {n : Nat} (hS : LamSt e T m.cls index y n)
    {argsL rest : List Value} (hlen : argsL.length = n) (hstack : g.stack = argsL.reverse ++ rest) (hdg : decode c.code g.pc = .ok (.invokestatic index, 3)) : ∃ t : MethodId, T.methodNamed? y = some t ∧ ∀ target, Steps p.tables e below (doInvoke e (T.setTop { g with stack := rest }) [] t argsL.toArray).1 target → Steps p.tables e below (T.setTop g) target := by
  subst hg
  obtain ⟨t, kt, metht, q1, q2, q3, q4, q5, q6, q7, q8, q9⟩ := hS
  refine ⟨t, q9, fun target ht => ?_⟩
  jvm_step Y.here [hexec, hdg, invokestatic.wp_ready (e := e) (s := T) (m := t) (k := kt) (meth := metht) (args := argsL) (rest := rest) (f := g) Y.here.top q1 q2 q3 q4 q5 q6 q7 (hlen.trans q8.symm) hstack]
  intro acts
  rw [doInvoke_state]
  exact ht
/-- a frame that a callee has left by an exception, seen by the caller -/
theorem lam_outThrown (X : Stand p l e R s m args below meth c T locs cells slots) {g : JFrame} (hg : g.method = m) {mk : MethodId} {a : Array Value} {t : State} {qa : Addr} {L : List Loc} {k n : Nat}
    (hend : Ended t (.java g :: below) (.threw qa)) (hW : (T.calling g mk a).WarmedH t.vm) (hsame : (T.calling g mk a).sameButNew ({ t with vm := (T.calling g mk a).vm } : State) L k n) :
    ∃ T' : State, Stand p l e R s m args below meth c T' (locs ++ L) (cells + k) (slots + n) ∧ T'.heap = t.heap ∧ t = (T'.setTop g).pushFrame (.throwing qa) := by
  have h : At T g.method c below := by rw [hg]; exact X.here
  obtain ⟨f0, hf0⟩ := Option.isSome_iff_exists.mp h.top
  obtain ⟨r, hr⟩ := State.topJava?_eq_some.mp hf0
  obtain ⟨r1, r2⟩ := id hsame
  have hend' : t.frames = .throwing qa :: .java g :: below := hend
  have htail : T.frames.tail = below := X.tail
  have ht : t = ((({ T with heap := t.heap, slotsUsed := t.slotsUsed } : State).setVm t.vm).setTop g).pushFrame (.throwing qa) := by
    have r1' : ({ t with vm := (T.calling g mk a).vm } : State) = ({ (T.calling g mk a).setFrames t.frames with heap := t.heap, slotsUsed := t.slotsUsed } : State) := r1
    have e3 : t = ({ (T.calling g mk a).setFrames t.frames with heap := t.heap, slotsUsed := t.slotsUsed } : State).setVm t.vm := by
      have z : t = ({ t with vm := (T.calling g mk a).vm } : State).setVm t.vm := rfl
      rw [r1'] at z
      exact z
    have hr' : (({ T with heap := t.heap, slotsUsed := t.slotsUsed } : State).setVm t.vm).frames = .java f0 :: r := hr
    refine e3.trans ?_
    rw [hend', ← htail, State.calling_eq h.top, State.setFrames_setFrames, State.pushFrame, State.frames_setTop _ hr', State.setTop_of_frames _ hr', State.setFrames_setFrames, hr]
    rfl
  have hWt : T.WarmedH t.vm := hW
  have hs : T.sameButNew ({ T with heap := t.heap, slotsUsed := t.slotsUsed } : State) L k n := by
    refine ⟨?_, r2⟩
    obtain ⟨z, hz, -⟩ := State.frames_cons hr
    show ({ T with heap := t.heap, slotsUsed := t.slotsUsed } : State) = { T.setFrames T.frames with heap := t.heap, slotsUsed := t.slotsUsed }
    rw [State.setFrames_self hz]
  subst hg
  exact ⟨(({ T with heap := t.heap, slotsUsed := t.slotsUsed } : State).setVm t.vm), ⟨X.admits, X.cas, X.clock, X.frames, X.room, X.hears, X.method, X.code, (X.here.setHeapUsed t.heap t.slotsUsed).setVm hWt.alike, X.tail, State.WarmedH.trans X.warmed hWt, X.limits, X.bytes, X.same.trans (hs.setVm s.vm)⟩, rfl, ht⟩
theorem lam_walk1 {g : JFrame} {cK mi fi0 : Nat} {fd0 : Field} {methk : Method} {ck : Code} {code : ByteArray} {f : Addr} {cellF : Cell} {x1 c0 : Value} {R' : Room} {U₀ : State} {sa : State} {aa : Array Value} (Y₀ : Stand p l e R' sa ⟨cK, 1⟩ aa (.java g :: below) methk ck U₀ [] 0 0) (hexec : p.tables.exec = Jvm.exec) (hvm : U₀.vm = T.vm) (hheap : U₀.heap = T.heap) (hbytes : ck.code = code) (d0 : decode code 0 = .ok (.aload_n 0, 1)) (d1 : decode code 1 = .ok (.getfield fi0, 3)) (d4 : decode code 4 = .ok (.aload_n 1, 1))
    (hf0 : T.vm.fieldReady cK fi0 cK fd0) (hn0 : fd0.isStatic = false) (hv0 : cellF.slots[fd0.slot]? = some c0) (hcell : T.heap[f]? = some cellF) (hkn : cellF.vm ≠ .unknown) (hx1 : x1.isRef = true) (target : State) (ht : Steps p.tables e (.java g :: below) (U₀.setTop { method := ⟨cK, 1⟩, pc := 5, locals := #[.val (.ref f), .val x1], stack := [x1, c0], locked := none }) target) :
    Steps p.tables e (.java g :: below) (U₀.setTop { method := ⟨cK, 1⟩, pc := 0, locals := #[.val (.ref f), .val x1], stack := [], locked := none }) target := by
  have b0 := d0
  rw [← hbytes] at b0
  have b1 := d1
  rw [← hbytes] at b1
  have b4 := d4
  rw [← hbytes] at b4
  jvm_step Y₀.here [hexec, b0, Value.isRef]
  refine lam_getf Y₀ hexec (g := { method := ⟨cK, 1⟩, pc := 1, locals := #[.val (.ref f), .val x1], stack := [.ref f], locked := none }) rfl (index := fi0) (cF := cK) (a := f) (field := fd0) (cell := cellF) (v := c0) (rest := []) (by rw [hvm]; exact hf0) hn0 rfl (by rw [hheap]; exact hcell) hkn hv0 b1 _ ?_
  jvm_step Y₀.here [hexec, b4, hx1]
  exact ht
theorem lam_walk2 {g : JFrame} {cK mi fi0 fi1 : Nat} {fd0 fd1 : Field} {methk : Method} {ck : Code} {code : ByteArray} {f : Addr} {cellF : Cell} {x1 c0 c1 : Value} {R' : Room} {U₀ : State} {sa : State} {aa : Array Value} (Y₀ : Stand p l e R' sa ⟨cK, 1⟩ aa (.java g :: below) methk ck U₀ [] 0 0) (hexec : p.tables.exec = Jvm.exec) (hvm : U₀.vm = T.vm) (hheap : U₀.heap = T.heap) (hbytes : ck.code = code) (d0 : decode code 0 = .ok (.aload_n 0, 1)) (d1 : decode code 1 = .ok (.getfield fi0, 3)) (d4 : decode code 4 = .ok (.aload_n 0, 1)) (d5 : decode code 5 = .ok (.getfield fi1, 3)) (d8 : decode code 8 = .ok (.aload_n 1, 1))
    (hf0 : T.vm.fieldReady cK fi0 cK fd0) (hn0 : fd0.isStatic = false) (hv0 : cellF.slots[fd0.slot]? = some c0) (hf1 : T.vm.fieldReady cK fi1 cK fd1) (hn1 : fd1.isStatic = false) (hv1 : cellF.slots[fd1.slot]? = some c1) (hcell : T.heap[f]? = some cellF) (hkn : cellF.vm ≠ .unknown) (hx1 : x1.isRef = true) (target : State) (ht : Steps p.tables e (.java g :: below) (U₀.setTop { method := ⟨cK, 1⟩, pc := 9, locals := #[.val (.ref f), .val x1], stack := [x1, c1, c0], locked := none }) target) :
    Steps p.tables e (.java g :: below) (U₀.setTop { method := ⟨cK, 1⟩, pc := 0, locals := #[.val (.ref f), .val x1], stack := [], locked := none }) target := by
  have b0 := d0
  rw [← hbytes] at b0
  have b1 := d1
  rw [← hbytes] at b1
  have b4 := d4
  rw [← hbytes] at b4
  have b5 := d5
  rw [← hbytes] at b5
  have b8 := d8
  rw [← hbytes] at b8
  jvm_step Y₀.here [hexec, b0, Value.isRef]
  refine lam_getf Y₀ hexec (g := { method := ⟨cK, 1⟩, pc := 1, locals := #[.val (.ref f), .val x1], stack := [.ref f], locked := none }) rfl (index := fi0) (cF := cK) (a := f) (field := fd0) (cell := cellF) (v := c0) (rest := []) (by rw [hvm]; exact hf0) hn0 rfl (by rw [hheap]; exact hcell) hkn hv0 b1 _ ?_
  jvm_step Y₀.here [hexec, b4, Value.isRef]
  refine lam_getf Y₀ hexec (g := { method := ⟨cK, 1⟩, pc := 5, locals := #[.val (.ref f), .val x1], stack := [.ref f, c0], locked := none }) rfl (index := fi1) (cF := cK) (a := f) (field := fd1) (cell := cellF) (v := c1) (rest := [c0]) (by rw [hvm]; exact hf1) hn1 rfl (by rw [hheap]; exact hcell) hkn hv1 b5 _ ?_
  jvm_step Y₀.here [hexec, b8, hx1]
  exact ht
abbrev xApp : MethodName := ⟨"HedgeMessages$Operation", "apply", "(LHedgeMessages$State;)I"⟩
/-- from the interface call to the forwarder's entry -/
theorem lam_enter (Z : Stand p l e R s m args below meth c T locs cells slots) (hexec : p.tables.exec = Jvm.exec) {own : String} {index count : Nat} (hown : s.vm.findClass own = some m.cls) (hlink : (Cond.methodLink own index xApp).before args s = true) (hdecl : (Cond.declares xApp).before args s = true) (hif : (Cond.interfaceMethod "HedgeMessages$Operation" "HedgeMessages$Operation" "apply" "(LHedgeMessages$State;)I").before args s = true)
    {σ : Lambda.Shape} {d cK : ClassId} (hmade : Lambda.isMade { classPath := fun _ => none } s.vm d σ cK = true) (hcan : s.lambdaCallable σ cK = true) (hσ : σ.iface = "HedgeMessages$Operation" ∧ σ.name = "apply" ∧ σ.sam.toString = "(LHedgeMessages$State;)I")
    {methk : Method} {ck : Code} {kK : Class} (hkK : s.vm.classes[cK]? = some kK) (hmk : s.vm.method? ⟨cK, 1⟩ = some methk) (hfl : methk.accessFlags = 0x0001) (hck : methk.code = some ck) (hlk : methk.locks = false) (hml : ck.maxLocals = 2) (hpl : plainName kK.name = true)
    {f : Addr} {cellF : Cell} (hcell : T.heap[f]? = some cellF) (hcls : cellF.cls = cK) (hobj : cellF.vm.isStatics = false) {x1 : Value} {g : JFrame} (hg : g.method = m) (hsize : g.locals.size = c.maxLocals) {rest : List Value} (hstack : g.stack = x1 :: .ref f :: rest) (hdg : decode c.code g.pc = .ok (.invokeinterface index count, 5))
    {R' : Room} (hfr : R'.frames + 1 ≤ R.frames) (hlo : 2 * g.monitorRoom + (rest.map fun v => v.category).sum + (2 + 11) + R'.locals ≤ R.locals) (hcl : cells + R'.cells ≤ R.cells) (hsl : slots + R'.slots ≤ R.slots) :
    ∃ vm₁ : Vm, s.WarmedH vm₁ ∧ Stand p l e R s m args below meth c (T.setVm vm₁) locs cells slots ∧ Stand p l e R' ((T.setVm vm₁).calling { g with stack := rest } ⟨cK, 1⟩ #[.ref f, x1]) ⟨cK, 1⟩ #[.ref f, x1] (.java { g with stack := rest } :: below) methk ck (((T.setVm vm₁).setTop { g with stack := rest }).pushFrame (.java (entryFrame ⟨cK, 1⟩ #[.ref f, x1] 2))) [] 0 0 ∧
      ∀ target, Steps p.tables e below ((((T.setVm vm₁).setTop { g with stack := rest }).pushFrame (.java (entryFrame ⟨cK, 1⟩ #[.ref f, x1] 2))).setTop (entryFrame ⟨cK, 1⟩ #[.ref f, x1] 2)) target → Steps p.tables e below (T.setTop g) target := by
  obtain ⟨r0, r, hn, hrm, hstR, hsigR⟩ := Cond.declares_spec hdecl
  obtain ⟨cL, kL, r1, hcL, hkL, hiL, hfoundL, hn1⟩ := Cond.interfaceMethod_spec hif
  cases hn.symm.trans hn1
  have hr0 : r0.cls = cL := Option.some.inj ((findClass_of_methodNamed hn).symm.trans hcL)
  obtain ⟨nmR, dsR⟩ := name_of_methodNamed hn hrm
  obtain ⟨i2, hi2, hasg, hway⟩ := State.lambdaCallable_spec hcan
  rw [hσ.1] at hi2
  cases hi2.symm.trans hcL
  rw [hσ.2.1, hσ.2.2] at hway
  obtain ⟨-, -, -, -, -, -, -, iface, -, -, -, -, found, -, -, -, -, -, hi3, -, -, -, -, -, -, hf3, -, -, -, -, -, -, -, -, -, -, hsel⟩ := Lambda.isMade_spec hmade
  rw [hσ.1] at hi3
  cases hi3.symm.trans hcL
  have hfr0 : found = r0 := by
    have h1 : s.methodFound? "HedgeMessages$Operation" "apply" "(LHedgeMessages$State;)I" = some r0 := hfoundL
    simp only [State.methodFound?, hcL, hkL, hiL, Option.bind_eq_bind, Option.bind_some] at h1
    rw [hσ.2.1, hσ.2.2] at hf3
    rw [hf3] at h1
    exact Option.some.inj h1
  subst hfr0
  have hlen : ([x1] : List Value).length = r.sig.parameters.length := by
    have e9 : parseMethodDescriptor "(LHedgeMessages$State;)I" = some r.sig := hsigR
    have e8 : (parseMethodDescriptor "(LHedgeMessages$State;)I").map (fun d => d.parameters.length) = some 1 := by decide +kernel
    rw [e9] at e8
    exact (Option.some.inj e8).symm
  obtain ⟨vm₁, X₁, go⟩ := Z.invokeinterface hexec hown hlink hn hrm hstR (by rw [hr0]; exact hkL) hiL ⟨by decide, by decide⟩ (a := f) (cell := cellF) (kcell := kK) hcell
    (fun z h => by rw [h] at hobj; cases hobj) (by rw [hcls]; exact hkK) (by rw [hcls, hr0]; exact hasg) (m' := ⟨cK, 1⟩) (meth' := methk) (by rw [Launch.admits_selectMethod Z.admits, hcls]; exact hsel) hmk (by rw [hcls, nmR, dsR]; exact hway) (by rw [hfl]; decide) (by simp [Method.isAbstract, hfl, hasFlag, Acc.abstract])
    (g := g) hg (argsL := [x1]) (rest := rest) hlen hstack hdg
  have hA := X₁.warmed.alike
  obtain ⟨kK', hkK', heK⟩ := hA.2.2 _ _ hkK
  have hk2 : (T.setVm vm₁).vm.classes[cK]? = some kK' := hkK'
  obtain ⟨Y₀, hin⟩ := X₁.into (g := { g with stack := rest }) hg hsize hdg #[.ref f, x1] (mk := ⟨cK, 1⟩) (R' := R') (by rw [hA.method?]; exact hmk) hck hlk (State.plainMethod.of_name (fun k' hk' => by cases hk2.symm.trans hk'; rw [heK]; exact hpl)) hfr (by rw [hml]; exact hlo) hcl hsl
  rw [hml] at Y₀ hin
  exact ⟨vm₁, X₁.warmed, X₁, Y₀, fun target ht => go _ fun acts => by rw [hin acts]; exact ht⟩
variable {g0 : JFrame} {ig : Instr} {mk : MethodId} {a : Array Value} {R' : Room} {methk : Method} {ck : Code} {U₀ : State} {pcS mi n mc ms : Nat} {ls2 : Array Slot} {argsL : List Value} {y : MethodName} {w : Wd} {h h1 : PH} {Pc : Array Value → State → Prop}
/-- the forwarder's call returns, and so does the forwarder -/
theorem lam_ret (X₁ : Stand p l e R s m args below meth c T locs cells slots) (hg : g0.method = m) (hdg : decode c.code g0.pc = .ok (ig, 5)) (Y₀ : Stand p l e R' (T.calling g0 mk a) mk a (.java g0 :: below) methk ck U₀ [] 0 0) (hexec : p.tables.exec = Jvm.exec) (hlk : methk.locks = false) (hret : methk.sig.returnType = some .int) (hsz : ls2.size = ck.maxLocals)
    (hSt : LamSt e U₀ mk.cls mi y n) (hlen : argsL.length = n) (dS : decode ck.code pcS = .ok (.invokestatic mi, 3)) (dR : decode ck.code (pcS + 3) = .ok (.ireturn, 1)) {xv : Int32}
    (hK : Back l R' p e (.java g0 :: below) (T.calling g0 mk a) a y 3 0 (PreOf R' mc ms Pc) (PostOf (qc w h h1 (some (.int xv))) mc ms (fun z => wdN w ≤ z))) (hroom : mc ≤ R'.cells ∧ ms ≤ R'.slots) (hpc : Pc argsL.toArray U₀) :
    ∃ (T' : State) (L : List Loc), Stand p l e R s m args below meth c T' (locs ++ L) (cells + mc) (slots + ms) ∧ (∀ z ∈ L, wdN w ≤ z.base) ∧ Rep w h1 T'.heap ∧ Fr w h U₀.heap h1 T'.heap ∧ Steps p.tables e below (U₀.setTop { method := mk, pc := pcS, locals := ls2, stack := argsL.reverse, locked := none }) (T'.setTop { g0 with pc := g0.pc + 5, stack := .int xv :: g0.stack }) := by
  obtain ⟨t, hn, go⟩ := lam_static Y₀ hexec (g := { method := mk, pc := pcS, locals := ls2, stack := argsL.reverse, locked := none }) rfl hSt hlen (rest := []) (by simp) dS
  obtain ⟨v, ⟨U₁, l2, c2, s2⟩, Y₁, ⟨gq, mq, tq, L, e1, e2, ⟨hv, hR, hF⟩, e3, hL, e4, e5⟩, st⟩ := hK mk methk ck ⟨U₀, [], 0, 0⟩ { method := mk, pc := pcS, locals := ls2, stack := [], locked := none } (.invokestatic mi) t argsL.toArray Y₀ rfl hsz dS (by show 2 * 0 + 0 ≤ 0; omega) hn ⟨by show 0 + mc ≤ R'.cells; omega, by show 0 + ms ≤ R'.slots; omega, hpc⟩
  cases hv
  dsimp only [Pt.U, Pt.locs, Pt.cells, Pt.slots] at Y₁ e1 e3 e4 e5 st
  rw [e3, e4, e5, List.nil_append, Nat.zero_add, Nat.zero_add] at Y₁
  obtain ⟨fs, hleave, -, hended, hWe, hsame⟩ := Y₁.leave (v := some (.int xv)) (fun hz => by rw [hret] at hz; cases hz) hlk
  obtain ⟨T', X', hW', -, ht⟩ := X₁.outOf hg hdg hended hWe hsame
  have hheap : T'.heap = U₁.heap := (congrArg State.heap ht).symm
  have hm' : U₁.vm.method? mk = some methk := Y₁.method'
  have hout : Steps p.tables e (.java g0 :: below) (U₁.setTop { method := mk, pc := pcS + 3, locals := ls2, stack := [.int xv], locked := none }) (U₁.setFrames fs) := by
    have hn9 : narrow .int (.int xv) = .int xv := rfl
    jvm_step Y₁.here [Y₁.here.top, hexec, dR, hm', hret, hn9]
    first | (intro acts; rw [hleave _ acts rfl rfl rfl]) | rw [hleave _ _ rfl rfl rfl]
    exact Steps.refl _
  refine ⟨T', L, X', hL, by rw [hheap, e1]; exact hR, by rw [hheap, e1]; exact hF, ?_⟩
  have k := (go _ st).trans hout
  rw [ht] at k
  exact Steps.weaken (mid := [.java g0]) k
theorem lam_thr (X₁ : Stand p l e R s m args below meth c T locs cells slots) (hg : g0.method = m) (Y₀ : Stand p l e R' (T.calling g0 mk a) mk a (.java g0 :: below) methk ck U₀ [] 0 0) (hexec : p.tables.exec = Jvm.exec) (hlk : methk.locks = false) (hex : ck.exceptionTable.isEmpty = true) (hsz : ls2.size = ck.maxLocals)
    (hSt : LamSt e U₀ mk.cls mi y n) (hlen : argsL.length = n) (dS : decode ck.code pcS = .ok (.invokestatic mi, 3)) {q : Nat}
    (hK : vx_Back l R' p e (.java g0 :: below) (T.calling g0 mk a) a y 3 0 (PreOf R' mc ms Pc) (fun _ _ _ _ => False) (xxPost w h h1 q mc ms)) (hroom : mc ≤ R'.cells ∧ ms ≤ R'.slots) (hpc : Pc argsL.toArray U₀) :
    ∃ (T' : State) (L : List Loc) (qa : Addr), Stand p l e R s m args below meth c T' (locs ++ L) (cells + mc) (slots + ms) ∧ (∀ z ∈ L, wdN w ≤ z.base) ∧ rvo w q = some qa ∧ NC ≤ q ∧ gT h1 q ≠ 0 ∧ Rep w h1 T'.heap ∧ Fr w h U₀.heap h1 T'.heap ∧ Steps p.tables e below (U₀.setTop { method := mk, pc := pcS, locals := ls2, stack := argsL.reverse, locked := none }) ((T'.setTop g0).pushFrame (.throwing qa)) := by
  obtain ⟨t, hn, go⟩ := lam_static Y₀ hexec (g := { method := mk, pc := pcS, locals := ls2, stack := argsL.reverse, locked := none }) rfl hSt hlen (rest := []) (by simp) dS
  rcases hK mk methk ck ⟨U₀, [], 0, 0⟩ { method := mk, pc := pcS, locals := ls2, stack := [], locked := none } (.invokestatic mi) t argsL.toArray Y₀ rfl hsz dS (by show 2 * 0 + 0 ≤ 0; omega) hn ⟨by show 0 + mc ≤ R'.cells; omega, by show 0 + ms ≤ R'.slots; omega, hpc⟩ with ⟨_, _, _, hf, _⟩ | ⟨qa, ⟨U₁, l2, c2, s2⟩, Y₁, ⟨tq, L, e1, g1, g2, g3, hR, hF, e3, hL, e4, e5⟩, st⟩
  · exact hf.elim
  dsimp only [Pt.U, Pt.locs, Pt.cells, Pt.slots] at Y₁ e1 e3 e4 e5 st hF
  rw [e3, e4, e5, List.nil_append, Nat.zero_add, Nat.zero_add] at Y₁
  obtain ⟨st2, -, hend, hW, hsm⟩ := Y₁.leaveThrown qa (g := { method := mk, pc := pcS, locals := ls2, stack := [], locked := none }) rfl rfl rfl (fun x hx => by rw [Array.isEmpty_iff.mp hex] at hx; cases hx) hlk
  obtain ⟨T', X', hh, ht⟩ := lam_outThrown X₁ hg hend hW hsm
  have hheap : T'.heap = U₁.heap := hh
  refine ⟨T', L, qa, X', hL, g1, g2, g3, by rw [hheap, e1]; exact hR, by rw [hheap, e1]; exact hF, ?_⟩
  have k := (go _ st).trans st2
  rw [ht] at k
  exact Steps.weaken (mid := [.java g0]) k
end LAMW
theorem lam_st {U : State} {e : Env} {cK mi ci nt n : Nat} {y : MethodName} {kK tk : Class} {file : ClassFile} {toy : ClassId} {t : MethodId} {bytes : ByteArray} {maxL : Nat} {ret : Option FieldType}
    (hkK : U.vm.classes[cK]? = some kK) (hfile : kK.cf = some file) (hM : file.constantPool[mi]? = some (.methodref ci nt)) (hnt : file.constantPool.nameAndType? nt = some (y.name, y.desc)) (hready : U.vm.methodReady cK mi t) (hclsR : U.vm.classReady cK ci toy) (htoy : U.vm.findClass y.cls = some toy) (htk : U.vm.classes[toy]? = some tk)
    (hlook : ((methodIn toy y.name y.desc tk.isInterface none).ask { classPath := fun _ => none } U.vm).1 = .ok t) (hy : y.cls ≠ "java/lang/invoke/MethodHandle" ∧ y.cls ≠ "java/lang/invoke/VarHandle" ∧ (parseMethodDescriptor y.desc).map (fun d => d.parameters.length) = some n)
    (hcode : (Cond.code y bytes maxL ret).before #[] U = true) (hst : (Cond.static y).before #[] U = true) (hini : (Cond.initialized y.cls).before #[] U = true) : LamSt e U cK mi y n := by
  obtain ⟨mB, hnB⟩ := Cond.code_named hcode
  obtain ⟨methB, cB, hmB, -, -, -, -, -, -, hsigB⟩ := Cond.code_spec hnB hcode
  have hfT := findClass_of_methodNamed hnB
  cases htoy.symm.trans hfT
  obtain ⟨kT, hkT, hnameT⟩ := className_of_methodNamed hnB
  cases htk.symm.trans hkT
  have htB : t = mB := by
    have z : U.methodFound? y.cls y.name y.desc = some mB := State.methodFound?_of_named hnB ⟨hy.1, hy.2.1⟩
    simp only [State.methodFound?, hfT, htk, Option.bind_eq_bind, Option.bind_some] at z
    rw [hlook] at z
    exact Option.some.inj z
  subst htB
  have hsp : ∀ z : Method, signaturePolymorphic tk z = false := fun z => by simp [signaturePolymorphic, hnameT, hy.1, hy.2.1]
  obtain ⟨b, hmem⟩ := memberRef_ask' (e := e) (vm := U.vm) (d := cK) (index := mi) hkK hfile (Or.inl hM) hnt
  have hn := hy.2.2
  rw [hsigB] at hn
  exact ⟨t, tk, methB, ⟨ci, _, _, b, t.cls, tk, hmem, hclsR, htk, by simp [hsp]⟩, hready, htk, hmB, hsp _, Cond.static_spec hnB hmB hst, Cond.initialized_spec hfT htk hini, Option.some.inj hn, hnB⟩
theorem lam_obj {args : Array Value} {U : State} (h : (Cond.instantiable "java/lang/Object" 0).before args U = true) : ∀ o ok, U.vm.findClass "java/lang/Object" = some o → U.vm.classes[o]? = some ok → ok.instanceTypes.size = 0 := by
  intro o ok h1 h2
  obtain ⟨cC, kC, hfc, hk, -, -, -, hs⟩ := Cond.instantiable_spec h
  cases hfc.symm.trans h1
  cases hk.symm.trans h2
  exact hs
theorem rv_isRef (w : Wd) (r : Nat) : (rv w r).isRef = true := by
  rcases rv_ref w r with q | ⟨a, q⟩ <;> rw [q] <;> rfl
