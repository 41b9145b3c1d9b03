set_option maxRecDepth 100000
/-! ===== calls of the lambdas' objects ===== -/
section LAMW
variable {p : Program} {l : Launch} {e : Env} {R : Room} {s : State} {m : MethodId} {args : Array Value} {below : List Frame} {meth : Method} {c : Code} {T : State} {locs : List Loc} {cells slots : Nat}
/-- the entry index of the made class cK is resolved to the static method y, of n parameters, of an initialised class -/
def LamSt (e : Env) (U : State) (cK index : Nat) (y : MethodName) (n : Nat) : Prop :=
  ∃ (t : MethodId) (kt : Class) (mt : Method), plainRef U e cK index ∧ U.vm.methodReady cK index t ∧ U.vm.classes[t.cls]? = some kt ∧ U.vm.method? t = some mt ∧ signaturePolymorphic kt mt = false ∧ mt.isStatic = true ∧ kt.init = .initialized ∧ mt.sig.parameters.length = n ∧ U.methodNamed? y = some t
theorem lam_getf (Y : Stand p l e R s m args below meth c T locs cells slots) (hexec : p.tables.exec = Jvm.exec) {g : JFrame} (hg : g.method = m) {index cF a : Nat} {field : Field} {cell : Cell} {v : Value} {rest : List Value}
    (hr : T.vm.fieldReady m.cls index cF field) (hst : field.isStatic = false) (hstack : g.stack = .ref a :: rest) (hcell : T.heap[a]? = some cell) (hknown : cell.vm ≠ .unknown) (hv : cell.slots[field.slot]? = some v)
    (hdg : decode c.code g.pc = .ok (.getfield index, 3)) (target : State) (ht : Steps p.tables e below (T.setTop { g with pc := g.pc + 3, stack := v :: rest }) target) : Steps p.tables e below (T.setTop g) target := by
  subst hg
  jvm_step Y.here [hexec, hdg, getfield.wp_ready (e := e) (s := T) (c := cF) (field := field) (a := a) (rest := rest) (cell := cell) (v := v) (f := g) Y.here.top hr hst hstack hcell hknown hv]
  exact ht
theorem lam_static (Y : Stand p l e R s m args below meth c T locs cells slots) (hexec : p.tables.exec = Jvm.exec) {g : JFrame} (hg : g.method = m) {index : Nat} {y : MethodName} {n : Nat} (hS : LamSt e T m.cls index y n)
    {argsL rest : List Value} (hlen : argsL.length = n) (hstack : g.stack = argsL.reverse ++ rest) (hdg : decode c.code g.pc = .ok (.invokestatic index, 3)) : ∃ t : MethodId, T.methodNamed? y = some t ∧ ∀ target, Steps p.tables e below (doInvoke e (T.setTop { g with stack := rest }) [] t argsL.toArray).1 target → Steps p.tables e below (T.setTop g) target := by
  subst hg
  obtain ⟨t, kt, metht, q1, q2, q3, q4, q5, q6, q7, q8, q9⟩ := hS
  refine ⟨t, q9, fun target ht => ?_⟩
  jvm_step Y.here [hexec, hdg, invokestatic.wp_ready (e := e) (s := T) (m := t) (k := kt) (meth := metht) (args := argsL) (rest := rest) (f := g) Y.here.top q1 q2 q3 q4 q5 q6 q7 (hlen.trans q8.symm) hstack]
  intro acts
  rw [doInvoke_state]
  exact ht
/-- a frame that a callee has left by an exception, seen by the caller -/
theorem lam_outThrown (X : Stand p l e R s m args below meth c T locs cells slots) {g : JFrame} (hg : g.method = m) {mk : MethodId} {a : Array Value} {t : State} {qa : Addr} {L : List Loc} {k n : Nat}
    (hend : Ended t (.java g :: below) (.threw qa)) (hW : (T.calling g mk a).WarmedH t.vm) (hsame : (T.calling g mk a).sameButNew ({ t with vm := (T.calling g mk a).vm } : State) L k n) :
    ∃ T' : State, Stand p l e R s m args below meth c T' (locs ++ L) (cells + k) (slots + n) ∧ T'.heap = t.heap ∧ t = (T'.setTop g).pushFrame (.throwing qa) := by
  have h : At T g.method c below := by rw [hg]; exact X.here
  obtain ⟨f0, hf0⟩ := Option.isSome_iff_exists.mp h.top
  obtain ⟨r, hr⟩ := State.topJava?_eq_some.mp hf0
  obtain ⟨r1, r2⟩ := id hsame
  have hend' : t.frames = .throwing qa :: .java g :: below := hend
  have htail : T.frames.tail = below := X.tail
  have ht : t = ((({ T with heap := t.heap, slotsUsed := t.slotsUsed } : State).setVm t.vm).setTop g).pushFrame (.throwing qa) := by
    have r1' : ({ t with vm := (T.calling g mk a).vm } : State) = ({ (T.calling g mk a).setFrames t.frames with heap := t.heap, slotsUsed := t.slotsUsed } : State) := r1
    have e3 : t = ({ (T.calling g mk a).setFrames t.frames with heap := t.heap, slotsUsed := t.slotsUsed } : State).setVm t.vm := by
      have z : t = ({ t with vm := (T.calling g mk a).vm } : State).setVm t.vm := rfl
      rw [r1'] at z
      exact z
    have hr' : (({ T with heap := t.heap, slotsUsed := t.slotsUsed } : State).setVm t.vm).frames = .java f0 :: r := hr
    refine e3.trans ?_
    rw [hend', ← htail, State.calling_eq h.top, State.setFrames_setFrames, State.pushFrame, State.frames_setTop _ hr', State.setTop_of_frames _ hr', State.setFrames_setFrames, hr]
    rfl
  have hWt : T.WarmedH t.vm := hW
  have hs : T.sameButNew ({ T with heap := t.heap, slotsUsed := t.slotsUsed } : State) L k n := by
    refine ⟨?_, r2⟩
    obtain ⟨z, hz, -⟩ := State.frames_cons hr
    show ({ T with heap := t.heap, slotsUsed := t.slotsUsed } : State) = { T.setFrames T.frames with heap := t.heap, slotsUsed := t.slotsUsed }
    rw [State.setFrames_self hz]
  subst hg
  exact ⟨(({ T with heap := t.heap, slotsUsed := t.slotsUsed } : State).setVm t.vm), ⟨X.admits, X.cas, X.clock, X.frames, X.room, X.hears, X.method, X.code, (X.here.setHeapUsed t.heap t.slotsUsed).setVm hWt.alike, X.tail, State.WarmedH.trans X.warmed hWt, X.limits, X.bytes, X.same.trans (hs.setVm s.vm)⟩, rfl, ht⟩
theorem lam_walk1 {g : JFrame} {cK fi0 : Nat} {fd0 : Field} {methk : Method} {ck : Code} {code : ByteArray} {f : Addr} {cellF : Cell} {x1 c0 : Value} {R' : Room} {U₀ : State} {sa : State} {aa : Array Value} (Y₀ : Stand p l e R' sa ⟨cK, 1⟩ aa (.java g :: below) methk ck U₀ [] 0 0) (hexec : p.tables.exec = Jvm.exec) (hvm : U₀.vm = T.vm) (hheap : U₀.heap = T.heap) (hbytes : ck.code = code) (d0 : decode code 0 = .ok (.aload_n 0, 1)) (d1 : decode code 1 = .ok (.getfield fi0, 3)) (d4 : decode code 4 = .ok (.aload_n 1, 1))
    (hf0 : T.vm.fieldReady cK fi0 cK fd0) (hn0 : fd0.isStatic = false) (hv0 : cellF.slots[fd0.slot]? = some c0) (hcell : T.heap[f]? = some cellF) (hkn : cellF.vm ≠ .unknown) (hx1 : x1.isRef = true) (target : State) (ht : Steps p.tables e (.java g :: below) (U₀.setTop { method := ⟨cK, 1⟩, pc := 5, locals := #[.val (.ref f), .val x1], stack := [x1, c0], locked := none }) target) :
    Steps p.tables e (.java g :: below) (U₀.setTop { method := ⟨cK, 1⟩, pc := 0, locals := #[.val (.ref f), .val x1], stack := [], locked := none }) target := by
  have b0 := d0
  rw [← hbytes] at b0
  have b1 := d1
  rw [← hbytes] at b1
  have b4 := d4
  rw [← hbytes] at b4
  jvm_step Y₀.here [hexec, b0, Value.isRef]
  refine lam_getf Y₀ hexec (g := { method := ⟨cK, 1⟩, pc := 1, locals := #[.val (.ref f), .val x1], stack := [.ref f], locked := none }) rfl (index := fi0) (cF := cK) (a := f) (field := fd0) (cell := cellF) (v := c0) (rest := []) (by rw [hvm]; exact hf0) hn0 rfl (by rw [hheap]; exact hcell) hkn hv0 b1 _ ?_
  jvm_step Y₀.here [hexec, b4, hx1]
  exact ht
theorem lam_walk2 {g : JFrame} {cK fi0 fi1 : Nat} {fd0 fd1 : Field} {methk : Method} {ck : Code} {code : ByteArray} {f : Addr} {cellF : Cell} {x1 c0 c1 : Value} {R' : Room} {U₀ : State} {sa : State} {aa : Array Value} (Y₀ : Stand p l e R' sa ⟨cK, 1⟩ aa (.java g :: below) methk ck U₀ [] 0 0) (hexec : p.tables.exec = Jvm.exec) (hvm : U₀.vm = T.vm) (hheap : U₀.heap = T.heap) (hbytes : ck.code = code) (d0 : decode code 0 = .ok (.aload_n 0, 1)) (d1 : decode code 1 = .ok (.getfield fi0, 3)) (d4 : decode code 4 = .ok (.aload_n 0, 1)) (d5 : decode code 5 = .ok (.getfield fi1, 3)) (d8 : decode code 8 = .ok (.aload_n 1, 1))
    (hf0 : T.vm.fieldReady cK fi0 cK fd0) (hn0 : fd0.isStatic = false) (hv0 : cellF.slots[fd0.slot]? = some c0) (hf1 : T.vm.fieldReady cK fi1 cK fd1) (hn1 : fd1.isStatic = false) (hv1 : cellF.slots[fd1.slot]? = some c1) (hcell : T.heap[f]? = some cellF) (hkn : cellF.vm ≠ .unknown) (hx1 : x1.isRef = true) (target : State) (ht : Steps p.tables e (.java g :: below) (U₀.setTop { method := ⟨cK, 1⟩, pc := 9, locals := #[.val (.ref f), .val x1], stack := [x1, c1, c0], locked := none }) target) :
    Steps p.tables e (.java g :: below) (U₀.setTop { method := ⟨cK, 1⟩, pc := 0, locals := #[.val (.ref f), .val x1], stack := [], locked := none }) target := by
  have b0 := d0
  rw [← hbytes] at b0
  have b1 := d1
  rw [← hbytes] at b1
  have b4 := d4
  rw [← hbytes] at b4
  have b5 := d5
  rw [← hbytes] at b5
  have b8 := d8
  rw [← hbytes] at b8
  jvm_step Y₀.here [hexec, b0, Value.isRef]
  refine lam_getf Y₀ hexec (g := { method := ⟨cK, 1⟩, pc := 1, locals := #[.val (.ref f), .val x1], stack := [.ref f], locked := none }) rfl (index := fi0) (cF := cK) (a := f) (field := fd0) (cell := cellF) (v := c0) (rest := []) (by rw [hvm]; exact hf0) hn0 rfl (by rw [hheap]; exact hcell) hkn hv0 b1 _ ?_
  jvm_step Y₀.here [hexec, b4, Value.isRef]
  refine lam_getf Y₀ hexec (g := { method := ⟨cK, 1⟩, pc := 5, locals := #[.val (.ref f), .val x1], stack := [.ref f, c0], locked := none }) rfl (index := fi1) (cF := cK) (a := f) (field := fd1) (cell := cellF) (v := c1) (rest := [c0]) (by rw [hvm]; exact hf1) hn1 rfl (by rw [hheap]; exact hcell) hkn hv1 b5 _ ?_
  jvm_step Y₀.here [hexec, b8, hx1]
  exact ht
abbrev xApp : MethodName := ⟨"HedgeMessages$Operation", "apply", "(LHedgeMessages$State;)I"⟩
/-- from the interface call to the forwarder's entry -/
theorem lam_enter (Z : Stand p l e R s m args below meth c T locs cells slots) (hexec : p.tables.exec = Jvm.exec) {own : String} {index count : Nat} (hown : s.vm.findClass own = some m.cls) (hlink : (Cond.methodLink own index xApp).before args s = true) (hdecl : (Cond.declares xApp).before args s = true) (hif : (Cond.interfaceMethod "HedgeMessages$Operation" "HedgeMessages$Operation" "apply" "(LHedgeMessages$State;)I").before args s = true)
    {σ : Lambda.Shape} {d cK : ClassId} (hmade : Lambda.isMade { classPath := fun _ => none } s.vm d σ cK = true) (hcan : s.lambdaCallable σ cK = true) (hσ : σ.iface = "HedgeMessages$Operation" ∧ σ.name = "apply" ∧ σ.sam.toString = "(LHedgeMessages$State;)I")
    {methk : Method} {ck : Code} {kK : Class} (hkK : s.vm.classes[cK]? = some kK) (hmk : s.vm.method? ⟨cK, 1⟩ = some methk) (hfl : methk.accessFlags = 0x0001) (hck : methk.code = some ck) (hlk : methk.locks = false) (hml : ck.maxLocals = 2) (hpl : plainName kK.name = true)
    {f : Addr} {cellF : Cell} (hcell : T.heap[f]? = some cellF) (hcls : cellF.cls = cK) (hobj : cellF.vm.isStatics = false) {x1 : Value} {g : JFrame} (hg : g.method = m) (hsize : g.locals.size = c.maxLocals) {rest : List Value} (hstack : g.stack = x1 :: .ref f :: rest) (hdg : decode c.code g.pc = .ok (.invokeinterface index count, 5))
    {R' : Room} (hfr : R'.frames + 1 ≤ R.frames) (hlo : 2 * g.monitorRoom + (rest.map fun v => v.category).sum + (2 + 11) + R'.locals ≤ R.locals) (hcl : cells + R'.cells ≤ R.cells) (hsl : slots + R'.slots ≤ R.slots) :
    ∃ vm₁ : Vm, s.WarmedH vm₁ ∧ Stand p l e R s m args below meth c (T.setVm vm₁) locs cells slots ∧ Stand p l e R' ((T.setVm vm₁).calling { g with stack := rest } ⟨cK, 1⟩ #[.ref f, x1]) ⟨cK, 1⟩ #[.ref f, x1] (.java { g with stack := rest } :: below) methk ck (((T.setVm vm₁).setTop { g with stack := rest }).pushFrame (.java (entryFrame ⟨cK, 1⟩ #[.ref f, x1] 2))) [] 0 0 ∧
      ∀ target, Steps p.tables e below ((((T.setVm vm₁).setTop { g with stack := rest }).pushFrame (.java (entryFrame ⟨cK, 1⟩ #[.ref f, x1] 2))).setTop (entryFrame ⟨cK, 1⟩ #[.ref f, x1] 2)) target → Steps p.tables e below (T.setTop g) target := by
  obtain ⟨r0, r, hn, hrm, hstR, hsigR⟩ := Cond.declares_spec hdecl
  obtain ⟨cL, kL, r1, hcL, hkL, hiL, hfoundL, hn1⟩ := Cond.interfaceMethod_spec hif
  cases hn.symm.trans hn1
  have hr0 : r0.cls = cL := Option.some.inj ((findClass_of_methodNamed hn).symm.trans hcL)
  obtain ⟨nmR, dsR⟩ := name_of_methodNamed hn hrm
  obtain ⟨i2, hi2, hasg, hway⟩ := State.lambdaCallable_spec hcan
  rw [hσ.1] at hi2
  cases hi2.symm.trans hcL
  rw [hσ.2.1, hσ.2.2] at hway
  obtain ⟨-, -, -, -, -, -, -, iface, -, -, -, -, found, -, -, -, -, -, hi3, -, -, -, -, -, -, hf3, -, -, -, -, -, -, -, -, -, -, hsel⟩ := Lambda.isMade_spec hmade
  rw [hσ.1] at hi3
  cases hi3.symm.trans hcL
  have hfr0 : found = r0 := by
    have h1 : s.methodFound? "HedgeMessages$Operation" "apply" "(LHedgeMessages$State;)I" = some r0 := hfoundL
    simp only [State.methodFound?, hcL, hkL, hiL, Option.bind_eq_bind, Option.bind_some] at h1
    rw [hσ.2.1, hσ.2.2] at hf3
    rw [hf3] at h1
    exact Option.some.inj h1
  subst hfr0
  have hlen : ([x1] : List Value).length = r.sig.parameters.length := by
    have e9 : parseMethodDescriptor "(LHedgeMessages$State;)I" = some r.sig := hsigR
    have e8 : (parseMethodDescriptor "(LHedgeMessages$State;)I").map (fun d => d.parameters.length) = some 1 := by decide +kernel
    rw [e9] at e8
    exact (Option.some.inj e8).symm
  obtain ⟨vm₁, X₁, go⟩ := Z.invokeinterface hexec hown hlink hn hrm hstR (by rw [hr0]; exact hkL) hiL ⟨by decide, by decide⟩ (a := f) (cell := cellF) (kcell := kK) hcell
    (fun z h => by rw [h] at hobj; cases hobj) (by rw [hcls]; exact hkK) (by rw [hcls, hr0]; exact hasg) (m' := ⟨cK, 1⟩) (meth' := methk) (by rw [Launch.admits_selectMethod Z.admits, hcls]; exact hsel) hmk (by rw [hcls, nmR, dsR]; exact hway) (by rw [hfl]; decide) (by simp [Method.isAbstract, hfl, hasFlag, Acc.abstract])
    (g := g) hg (argsL := [x1]) (rest := rest) hlen hstack hdg
  have hA := X₁.warmed.alike
  obtain ⟨kK', hkK', heK⟩ := hA.2.2 _ _ hkK
  have hk2 : (T.setVm vm₁).vm.classes[cK]? = some kK' := hkK'
  obtain ⟨Y₀, hin⟩ := X₁.into (g := { g with stack := rest }) hg hsize hdg #[.ref f, x1] (mk := ⟨cK, 1⟩) (R' := R') (by rw [hA.method?]; exact hmk) hck hlk (State.plainMethod.of_name (fun k' hk' => by cases hk2.symm.trans hk'; rw [heK]; exact hpl)) hfr (by rw [hml]; exact hlo) hcl hsl
  rw [hml] at Y₀ hin
  exact ⟨vm₁, X₁.warmed, X₁, Y₀, fun target ht => go _ fun acts => by rw [hin acts]; exact ht⟩
variable {g0 : JFrame} {ig : Instr} {mk : MethodId} {a : Array Value} {R' : Room} {methk : Method} {ck : Code} {U₀ : State} {pcS mi n mc ms : Nat} {ls2 : Array Slot} {argsL : List Value} {y : MethodName} {w : Wd} {h h1 : PH} {Pc : Array Value → State → Prop}
/-- the forwarder's call returns, and so does the forwarder -/
theorem lam_ret (X₁ : Stand p l e R s m args below meth c T locs cells slots) (hg : g0.method = m) (hdg : decode c.code g0.pc = .ok (ig, 5)) (Y₀ : Stand p l e R' (T.calling g0 mk a) mk a (.java g0 :: below) methk ck U₀ [] 0 0) (hexec : p.tables.exec = Jvm.exec) (hlk : methk.locks = false) (hret : methk.sig.returnType = some .int) (hsz : ls2.size = ck.maxLocals)
    (hSt : LamSt e U₀ mk.cls mi y n) (hlen : argsL.length = n) (dS : decode ck.code pcS = .ok (.invokestatic mi, 3)) (dR : decode ck.code (pcS + 3) = .ok (.ireturn, 1)) {xv : Int32}
    (hK : Back l R' p e (.java g0 :: below) (T.calling g0 mk a) a y 3 0 (PreOf R' mc ms Pc) (PostOf (qc w h h1 (some (.int xv))) mc ms (fun z => wdN w ≤ z))) (hroom : mc ≤ R'.cells ∧ ms ≤ R'.slots) (hpc : Pc argsL.toArray U₀) :
    ∃ (T' : State) (L : List Loc), Stand p l e R s m args below meth c T' (locs ++ L) (cells + mc) (slots + ms) ∧ (∀ z ∈ L, wdN w ≤ z.base) ∧ Rep w h1 T'.heap ∧ Fr w h U₀.heap h1 T'.heap ∧ Steps p.tables e below (U₀.setTop { method := mk, pc := pcS, locals := ls2, stack := argsL.reverse, locked := none }) (T'.setTop { g0 with pc := g0.pc + 5, stack := .int xv :: g0.stack }) := by
  obtain ⟨t, hn, go⟩ := lam_static Y₀ hexec (g := { method := mk, pc := pcS, locals := ls2, stack := argsL.reverse, locked := none }) rfl hSt hlen (rest := []) (by simp) dS
  obtain ⟨v, ⟨U₁, l2, c2, s2⟩, Y₁, ⟨gq, mq, tq, L, e1, e2, ⟨hv, hR, hF⟩, e3, hL, e4, e5⟩, st⟩ := hK mk methk ck ⟨U₀, [], 0, 0⟩ { method := mk, pc := pcS, locals := ls2, stack := [], locked := none } (.invokestatic mi) t argsL.toArray Y₀ rfl hsz dS (by show 2 * 0 + 0 ≤ 0; omega) hn ⟨by show 0 + mc ≤ R'.cells; omega, by show 0 + ms ≤ R'.slots; omega, hpc⟩
  cases hv
  dsimp only [Pt.U, Pt.locs, Pt.cells, Pt.slots] at Y₁ e1 e3 e4 e5 st
  rw [e3, e4, e5, List.nil_append, Nat.zero_add, Nat.zero_add] at Y₁
  obtain ⟨fs, hleave, -, hended, hWe, hsame⟩ := Y₁.leave (v := some (.int xv)) (fun hz => by rw [hret] at hz; cases hz) hlk
  obtain ⟨T', X', hW', -, ht⟩ := X₁.outOf hg hdg hended hWe hsame
  have hheap : T'.heap = U₁.heap := (congrArg State.heap ht).symm
  have hm' : U₁.vm.method? mk = some methk := Y₁.method'
  have hout : Steps p.tables e (.java g0 :: below) (U₁.setTop { method := mk, pc := pcS + 3, locals := ls2, stack := [.int xv], locked := none }) (U₁.setFrames fs) := by
    have hn9 : narrow .int (.int xv) = .int xv := rfl
    jvm_step Y₁.here [Y₁.here.top, hexec, dR, hm', hret, hn9]
    first | (intro acts; rw [hleave _ acts rfl rfl rfl]) | rw [hleave _ _ rfl rfl rfl]
    exact Steps.refl _
  refine ⟨T', L, X', hL, by rw [hheap, e1]; exact hR, by rw [hheap, e1]; exact hF, ?_⟩
  have k := (go _ st).trans hout
  rw [ht] at k
  exact Steps.weaken (mid := [.java g0]) k
theorem lam_thr (X₁ : Stand p l e R s m args below meth c T locs cells slots) (hg : g0.method = m) (Y₀ : Stand p l e R' (T.calling g0 mk a) mk a (.java g0 :: below) methk ck U₀ [] 0 0) (hexec : p.tables.exec = Jvm.exec) (hlk : methk.locks = false) (hex : ck.exceptionTable.isEmpty = true) (hsz : ls2.size = ck.maxLocals)
    (hSt : LamSt e U₀ mk.cls mi y n) (hlen : argsL.length = n) (dS : decode ck.code pcS = .ok (.invokestatic mi, 3)) {q : Nat}
    (hK : vx_Back l R' p e (.java g0 :: below) (T.calling g0 mk a) a y 3 0 (PreOf R' mc ms Pc) (fun _ _ _ _ => False) (xxPost w h h1 q mc ms)) (hroom : mc ≤ R'.cells ∧ ms ≤ R'.slots) (hpc : Pc argsL.toArray U₀) :
    ∃ (T' : State) (L : List Loc) (qa : Addr), Stand p l e R s m args below meth c T' (locs ++ L) (cells + mc) (slots + ms) ∧ (∀ z ∈ L, wdN w ≤ z.base) ∧ rvo w q = some qa ∧ NC ≤ q ∧ gT h1 q ≠ 0 ∧ Rep w h1 T'.heap ∧ Fr w h U₀.heap h1 T'.heap ∧ Steps p.tables e below (U₀.setTop { method := mk, pc := pcS, locals := ls2, stack := argsL.reverse, locked := none }) ((T'.setTop g0).pushFrame (.throwing qa)) := by
  obtain ⟨t, hn, go⟩ := lam_static Y₀ hexec (g := { method := mk, pc := pcS, locals := ls2, stack := argsL.reverse, locked := none }) rfl hSt hlen (rest := []) (by simp) dS
  rcases hK mk methk ck ⟨U₀, [], 0, 0⟩ { method := mk, pc := pcS, locals := ls2, stack := [], locked := none } (.invokestatic mi) t argsL.toArray Y₀ rfl hsz dS (by show 2 * 0 + 0 ≤ 0; omega) hn ⟨by show 0 + mc ≤ R'.cells; omega, by show 0 + ms ≤ R'.slots; omega, hpc⟩ with ⟨_, _, _, hf, _⟩ | ⟨qa, ⟨U₁, l2, c2, s2⟩, Y₁, ⟨tq, L, e1, g1, g2, g3, hR, hF, e3, hL, e4, e5⟩, st⟩
  · exact hf.elim
  dsimp only [Pt.U, Pt.locs, Pt.cells, Pt.slots] at Y₁ e1 e3 e4 e5 st hF
  rw [e3, e4, e5, List.nil_append, Nat.zero_add, Nat.zero_add] at Y₁
  obtain ⟨st2, -, hend, hW, hsm⟩ := Y₁.leaveThrown qa (g := { method := mk, pc := pcS, locals := ls2, stack := [], locked := none }) rfl rfl rfl (fun x hx => by rw [Array.isEmpty_iff.mp hex] at hx; cases hx) hlk
  obtain ⟨T', X', hh, ht⟩ := lam_outThrown X₁ hg hend hW hsm
  have hheap : T'.heap = U₁.heap := hh
  refine ⟨T', L, qa, X', hL, g1, g2, g3, by rw [hheap, e1]; exact hR, by rw [hheap, e1]; exact hF, ?_⟩
  have k := (go _ st).trans st2
  rw [ht] at k
  exact Steps.weaken (mid := [.java g0]) k
end LAMW
theorem lam_st {U : State} {e : Env} {cK mi ci nt n : Nat} {y : MethodName} {kK tk : Class} {file : ClassFile} {toy : ClassId} {t : MethodId} {bytes : ByteArray} {maxL : Nat} {ret : Option FieldType}
    (hkK : U.vm.classes[cK]? = some kK) (hfile : kK.cf = some file) (hM : file.constantPool[mi]? = some (.methodref ci nt)) (hnt : file.constantPool.nameAndType? nt = some (y.name, y.desc)) (hready : U.vm.methodReady cK mi t) (hclsR : U.vm.classReady cK ci toy) (htoy : U.vm.findClass y.cls = some toy) (htk : U.vm.classes[toy]? = some tk)
    (hlook : ((methodIn toy y.name y.desc tk.isInterface none).ask { classPath := fun _ => none } U.vm).1 = .ok t) (hy : y.cls ≠ "java/lang/invoke/MethodHandle" ∧ y.cls ≠ "java/lang/invoke/VarHandle" ∧ (parseMethodDescriptor y.desc).map (fun d => d.parameters.length) = some n)
    (hcode : (Cond.code y bytes maxL ret).before #[] U = true) (hst : (Cond.static y).before #[] U = true) (hini : (Cond.initialized y.cls).before #[] U = true) : LamSt e U cK mi y n := by
  obtain ⟨mB, hnB⟩ := Cond.code_named hcode
  obtain ⟨methB, cB, hmB, -, -, -, -, -, -, hsigB⟩ := Cond.code_spec hnB hcode
  have hfT := findClass_of_methodNamed hnB
  cases htoy.symm.trans hfT
  obtain ⟨kT, hkT, hnameT⟩ := className_of_methodNamed hnB
  cases htk.symm.trans hkT
  have htB : t = mB := by
    have z : U.methodFound? y.cls y.name y.desc = some mB := State.methodFound?_of_named hnB ⟨hy.1, hy.2.1⟩
    simp only [State.methodFound?, hfT, htk, Option.bind_eq_bind, Option.bind_some] at z
    rw [hlook] at z
    exact Option.some.inj z
  subst htB
  have hsp : ∀ z : Method, signaturePolymorphic tk z = false := fun z => by simp [signaturePolymorphic, hnameT, hy.1, hy.2.1]
  obtain ⟨b, hmem⟩ := memberRef_ask' (e := e) (vm := U.vm) (d := cK) (index := mi) hkK hfile (Or.inl hM) hnt
  have hn := hy.2.2
  rw [hsigB] at hn
  exact ⟨t, tk, methB, ⟨ci, _, _, b, t.cls, tk, hmem, hclsR, htk, by simp [hsp]⟩, hready, htk, hmB, hsp _, Cond.static_spec hnB hmB hst, Cond.initialized_spec hfT htk hini, Option.some.inj hn, hnB⟩
theorem lam_obj {args : Array Value} {U : State} (h : (Cond.instantiable "java/lang/Object" 0).before args U = true) : ∀ o ok, U.vm.findClass "java/lang/Object" = some o → U.vm.classes[o]? = some ok → ok.instanceTypes.size = 0 := by
  intro o ok h1 h2
  obtain ⟨cC, kC, hfc, hk, -, -, -, hs⟩ := Cond.instantiable_spec h
  cases hfc.symm.trans h1
  cases hk.symm.trans h2
  exact hs
theorem rv_isRef (w : Wd) (r : Nat) : (rv w r).isRef = true := by
  rcases rv_ref w r with q | ⟨a, q⟩ <;> rw [q] <;> rfl
section PFL1
variable {w : Wd} {own nm : String} {cc : ByteArray} {nL fr lw : Nat} {ret : Option FieldType} {α β : Type} {en : α → Option Value ⊕ Nat} {o : Option (α × PH)} {h : PH} {pc : Nat} {rest : List Value} {L : List (Nat × Value)} {G : List (Nat × Nat)}
theorem r_app1 {t lpc lix mi ci nt fi0 : Nat} {σ : Lambda.Shape} {x : MethodName} {D : ClassFile} {fwd : Method} {laid : Array Field × Array FieldType × Array FieldType} {code : ByteArray} {ty0 : FieldType} {y : MethodName} {index count fr2 lw2 nL2 b st : Nat} {cc2 : ByteArray} {oc : Option ((Nat ⊕ Int32) × PH)} {k : Int32 → PH → Option (α × PH)} {kx : Nat → PH → Option (α × PH)}
    (ht : 310 ≤ t ∧ t < 328) (hz : (Cond.lambdaSite x lpc lix σ, t) ∈ lamTab) (hL : LamD σ x.cls D fwd laid code mi ci nt [(fi0, 0, ty0)]) (hcap0 : fTy t 0 = some ty0) (hσ : σ.iface = "HedgeMessages$Operation" ∧ σ.name = "apply" ∧ σ.sam.toString = "(LHedgeMessages$State;)I") (hy2 : σ.implClass = y.cls ∧ σ.implName = y.name ∧ σ.implDesc.toString = y.desc) (hxn : plainName (x.cls ++ "$$Lambda") = true)
    (d0 : decode code 0 = .ok (.aload_n 0, 1)) (d1 : decode code 1 = .ok (.getfield fi0, 3)) (d4 : decode code 4 = .ok (.aload_n 1, 1)) (dS : decode code 5 = .ok (.invokestatic mi, 3)) (dR : decode code 8 = .ok (.ireturn, 1))
    (hM : ∀ x h1, oc = some (x, h1) → Ctr w y (ws_ y cc2 nL2 (some .int)) fr2 lw2 [fvl w h t 0 ty0 b, rv w st] h (match x with | .inl q => .inr q | .inr x => .inl (some (.int x))) h1)
    (q0 : Cond.instantiable "java/lang/Object" 0 ∈ lw_all) (q1 : Cond.methodLink own index xApp ∈ lw_all) (q2 : Cond.declares xApp ∈ lw_tbl) (q3 : Cond.interfaceMethod "HedgeMessages$Operation" "HedgeMessages$Operation" "apply" "(LHedgeMessages$State;)I" ∈ lw_all) (q4 : Cond.static y ∈ lw_all) (q5 : Cond.initialized y.cls ∈ lw_all) (q6 : Cond.code y cc2 nL2 (some .int) ∈ lw_all)
    (hy : y.cls ≠ "java/lang/invoke/MethodHandle" ∧ y.cls ≠ "java/lang/invoke/VarHandle" ∧ (parseMethodDescriptor y.desc).map (fun d => d.parameters.length) = some 2) (hRm : fr2 + 2 ≤ fr ∧ 8 + (2 + 11) + (nL2 + 11 + lw2) ≤ lw) (hs8 : (rest.map fun v => v.category).sum ≤ 8) (d : decode cc pc = .ok (.invokeinterface index count, 5)) (hta : gT h b = t)
    (r9 : ∀ x h1, Pf w (own, cc, nL, nm, ret, fr, lw) en (pc + 5) L G (.int x :: rest) (k x h1) h1) (rx : ∀ q h1, PfX w (own, cc, nL, nm, ret, fr, lw) en pc L G q (kx q h1) h1) :
    Pf w (own, cc, nL, nm, ret, fr, lw) en pc L G (rv w st :: rv w b :: rest) (o_callX oc k kx) h := by
  have fact : ∀ (s : State) (args : Array Value), (∀ z ∈ lw_all, z.before args s = true) → KW w s → ∀ (U : State), s.WarmedH U.vm → ∃ (d : ClassId) (kK : Class) (methk : Method) (ck : Code), Lambda.isMade { classPath := fun _ => none } U.vm d σ (wdA w t) = true ∧ U.lambdaCallable σ (wdA w t) = true ∧ U.vm.classes[wdA w t]? = some kK ∧ U.vm.method? ⟨wdA w t, 1⟩ = some methk ∧ methk.accessFlags = 0x0001 ∧ methk.code = some ck ∧ ck.code = code ∧ ck.maxLocals = 2 ∧ ck.exceptionTable.isEmpty = true ∧ methk.locks = false ∧ methk.sig.returnType = some .int ∧ plainName kK.name = true ∧
      (∀ (i : Nat) (z : Nat × Nat × FieldType), ([(fi0, 0, ty0)] : List (Nat × Nat × FieldType))[i]? = some z → ∃ f : Field, U.vm.fieldReady (wdA w t) z.1 (wdA w t) f ∧ f.isStatic = false ∧ f.slot = i) ∧ ∀ e : Env, LamSt e U (wdA w t) mi y 2 := by
    intro s args hall hK U hW
    have hKU := hK.warm hW
    obtain ⟨m2, k2, cf2, i0, p0, a1, a2, a3, a4, a5, a6, a7, a8⟩ := hKU.2.2.2.2.2.2.2.2.2.1.2 _ hz x lpc lix σ rfl
    obtain ⟨k3, hk3, hn3⟩ := className_of_methodNamed a1
    cases a2.symm.trans hk3
    have wat : ∀ c : Cond, c ∈ lw_all → ((c.onTables && c.keeps) = true ∨ ∃ ty, c = .arrayClass ty) → c.before #[] U = true := fun c hc hg => word_at hW hg (hall c hc)
    have hO := lam_obj (args := #[]) (U := U) (wat _ q0 (Or.inl rfl))
    obtain ⟨kK, tk, file, methk, ck, toy, tt, b1, b2, b3, b4, b5, b6, b7, b8, b9, b10, b11, b12, b13, b14, b15, b16, b17, b18, b19, b20, b21⟩ := lam_made hL a2 hn3 a7 hO
    refine ⟨m2.cls, kK, methk, ck, a7, a8, b1, b5, b11, b6, b7, b8, b9, b10, b12, by rw [b2]; exact hxn, b19, fun e => ?_⟩
    obtain ⟨-, -, -, -, -, g6, -⟩ := hL
    rw [hy2.1] at b13
    rw [hy2.2.1, hy2.2.2] at b16
    exact lam_st (bytes := cc2) (maxL := nL2) (ret := some .int) b1 b3 (by rw [b4]; exact g6.1) (by rw [b4, ← hy2.2.1, ← hy2.2.2]; exact g6.2.2) b17 b18 b13 b14 b16 hy (wat _ q6 (Or.inl (by first | rfl | simp [Cond.onTables, Cond.keeps, Cond.steady]))) (wat _ q4 (Or.inl (by first | rfl | simp [Cond.onTables, Cond.keeps, Cond.steady]))) (wat _ q5 (Or.inl (by first | rfl | simp [Cond.onTables, Cond.keeps, Cond.steady])))
  match oc, hM with
  | none, _ => exact Pf.none
  | some (r, h1), hM =>
    have hc := hM _ _ rfl
    have m1 := hc.1
    have enter : ∀ (hE : PH) (p : Program) (e : Env) (s : State) (m : MethodId) (args : Array Value) (below : List Frame) (meth : Method) (c : Code) (h0 : PH), Cx p s m args meth c w (own, cc, nL, nm, ret, fr, lw) → ∀ (ls : Array Slot), lh w ls nL L G → ∀ (H : Heap) (locs : List Loc), Rep w h H → gN h1 ≤ gN hE → gS h1 ≤ gS hE → gN h0 ≤ gN h → gS h0 ≤ gS h → NC ≤ gN h → ∀ T : State, T.heap = H → Stand p (wdL w) e (mkR fr lw h0 hE) s m args below meth c T locs (gN h - gN h0) (gS h - gS h0) →
        ∃ (qb : Addr) (vm₁ : Vm) (U₀ : State) (methk : Method) (ck : Code), s.WarmedH vm₁ ∧ U₀.vm = vm₁ ∧ U₀.heap = T.heap ∧ Stand p (wdL w) e (mkR fr lw h0 hE) s m args below meth c (T.setVm vm₁) locs (gN h - gN h0) (gS h - gS h0) ∧
          Stand p (wdL w) e { frames := fr2 + 1, cells := gN h1 - gN h, slots := gS h1 - gS h, locals := nL2 + 11 + lw2 } ((T.setVm vm₁).calling (F0 m pc ls rest) ⟨wdA w t, 1⟩ #[.ref qb, rv w st]) ⟨wdA w t, 1⟩ #[.ref qb, rv w st] (.java (F0 m pc ls rest) :: below) methk ck U₀ [] 0 0 ∧
          methk.locks = false ∧ methk.sig.returnType = some .int ∧ ck.maxLocals = 2 ∧ ck.code = code ∧ ck.exceptionTable.isEmpty = true ∧ LamSt e U₀ (wdA w t) mi y 2 ∧ KW w U₀ ∧
          Steps p.tables e below (T.setTop (F0 m pc ls (rv w st :: rv w b :: rest))) (U₀.setTop { method := ⟨wdA w t, 1⟩, pc := 5, locals := #[.val (.ref qb), .val (rv w st)], stack := ([fvl w h t 0 ty0 b, rv w st] : List Value).reverse, locked := none }) := by
      intro hE p e s m args below meth c h0 X ls hLl H locs x n1 n2 n3 n4 n5 T hT Z
      obtain ⟨dd, kK, methk, ck, f1, f2, f3, f4, f5, f6, f7, f8, f9, f10, f11, f12, -, -⟩ := fact s args X.2.2.2.2.1 X.2.2.2.2.2.1 s (State.WarmedH.refl s)
      obtain ⟨qb, cellB, hb, -, hcB, hkn, hobj, -, ro⟩ := x.2.2.2.2.2 b (by omega)
      have hrb := rv_some.mpr hb
      have hcls : cellB.cls = wdA w t := by rw [ro.1, hta]
      have hslot : ∀ (k : Nat) (ty : FieldType) (fd : Field), fd.slot = k → fTy t k = some ty → cellB.slots[fd.slot]? = some (fvl w h t k ty b) := by
        intro k ty fd e1 e2
        have z := ro.2.1 k ty (by rw [hta]; exact e2)
        rw [hta, X.2.2.2.2.2.1.2.2.2.2.2.2.2.2.2.1.1 t k ht.1] at z
        rw [e1]; exact z
      have hcB : T.heap[qb]? = some cellB := by rw [hT]; exact hcB
      obtain ⟨vm₁, hW₁, X₁, Y₀, go⟩ := lam_enter Z X.1 X.2.2.2.1 (X.2.2.2.2.1 _ q1) (va_Nw.use rfl (X.2.2.2.2.2.1.2.2.1 _ q2 rfl)) (X.2.2.2.2.1 _ q3) f1 f2 hσ f3 f4 f5 f6 f10 f8 f12 hcB hcls hobj (x1 := rv w st) (g := F0 m pc ls (rv w st :: rv w b :: rest)) rfl (by rw [X.2.2.1]; exact hLl.size) (rest := rest) (by rw [hrb]) (by rw [X.2.1]; exact d)
        (R' := { frames := fr2 + 1, cells := gN h1 - gN h, slots := gS h1 - gS h, locals := nL2 + 11 + lw2 }) (by show fr2 + 1 + 1 ≤ fr; omega) (by show 2 * 0 + (rest.map fun v => v.category).sum + (2 + 11) + (nL2 + 11 + lw2) ≤ lw; omega) (by show gN h - gN h0 + (gN h1 - gN h) ≤ gN hE - gN h0; omega) (by show gS h - gS h0 + (gS h1 - gS h) ≤ gS hE - gS h0; omega)
      have hent : entryFrame ⟨wdA w t, 1⟩ #[.ref qb, rv w st] 2 = { method := ⟨wdA w t, 1⟩, pc := 0, locals := #[.val (.ref qb), .val (rv w st)], stack := [], locked := none } := by
        rcases rv_ref w st with z | ⟨a, z⟩ <;> rw [z] <;> rfl
      rw [hent] at Y₀ go
      obtain ⟨-, -, -, -, -, -, -, -, -, -, -, -, -, -, -, -, hflds, hst⟩ := fact s args X.2.2.2.2.1 X.2.2.2.2.2.1 (((T.setVm vm₁).setTop (F0 m pc ls rest)).pushFrame (.java { method := ⟨wdA w t, 1⟩, pc := 0, locals := #[.val (.ref qb), .val (rv w st)], stack := [], locked := none })) hW₁
      obtain ⟨fd0, u0, v0, x0⟩ := hflds 0 _ rfl
      refine ⟨qb, vm₁, (((T.setVm vm₁).setTop (F0 m pc ls rest)).pushFrame (.java { method := ⟨wdA w t, 1⟩, pc := 0, locals := #[.val (.ref qb), .val (rv w st)], stack := [], locked := none })), methk, ck, hW₁, rfl, rfl, X₁, Y₀, f10, f11, f8, f7, f9, hst e, X.2.2.2.2.2.1.warm hW₁, go _ ?_⟩
      exact Steps.weaken (mid := [.java (F0 m pc ls rest)]) (lam_walk1 Y₀ X.1 rfl rfl f7 d0 d1 d4 u0 v0 (hslot 0 ty0 fd0 x0 hcap0) hcB hkn (rv_isRef w st) _ (Steps.refl _))
    refine fun rE hE z => ?_
    cases r with
    | inr xv =>
      have r9 := r9 xv h1 rE hE z
      have m2 := r9.1
      refine ⟨⟨by omega, by omega⟩, fun p e s m args below meth c h0 X y1 y2 y3 ls hLl H locs x y9 u => ?_⟩
      have hMet := hc.2 (by omega)
      refine W.after (v := some (.int xv)) (a := #[]) y9 y1 u (dpc := 5) (mc := gN h1 - gN h) (ms := gS h1 - gS h) (rest := rest) (fun T hT Z => ?_) (fun H1 locs1 a1 a2 a3 => W.cs (by omega) (by omega) (r9.2 p e s m args below meth c h0 X y1 (by omega) (by omega) ls hLl H1 locs1 a1 a2 a3))
      obtain ⟨qb, vm₁, U₀, methk, ck, hW₁, e1, e2, X₁, Y₀, g1, g2, g3, g4, g5, g6, g7, go⟩ := enter hE p e s m args below meth c h0 X ls hLl H locs x m2.1 m2.2 y2 y3 (by omega) T hT Z
      have dS' : decode ck.code 5 = .ok (.invokestatic mi, 3) := by rw [g4]; exact dS
      have dR' : decode ck.code (5 + 3) = .ok (.ireturn, 1) := by rw [g4]; exact dR
      have hK := back_of (l := wdL w) (R := { frames := fr2 + 1, cells := gN h1 - gN h, slots := gS h1 - gS h, locals := nL2 + 11 + lw2 }) (p := p) (e := e) (below := .java (F0 m pc ls rest) :: below) (s := (T.setVm vm₁).calling (F0 m pc ls rest) ⟨wdA w t, 1⟩ #[.ref qb, rv w st]) (sargs := #[.ref qb, rv w st]) (len := 3) (W := 0) (bytes := cc2) (maxL := nL2) (ret := some .int) hMet pcp_blind rfl rfl (Nat.le_refl _) (by show 0 + (nL2 + 11) + lw2 ≤ nL2 + 11 + lw2; omega)
        (fun w9 hw9 a' U hU => pay_in X.2.2.2.2.1 (lw_meth q6) w9 hw9 a' U (State.WarmedH.trans hW₁ hU)) List.mem_cons_self (fun a' U hU => word_at (State.WarmedH.trans hW₁ hU) (Or.inl (by first | rfl | simp [Cond.onTables, Cond.keeps, Cond.steady])) (X.2.2.2.2.1 _ q5))
      obtain ⟨T', L9, k1, k2, k3, k4, k5⟩ := lam_ret X₁ (g0 := F0 m pc ls rest) rfl (by rw [X.2.1]; exact d) Y₀ X.1 g1 g2 (pcS := 5) (ls2 := #[.val (.ref qb), .val (rv w st)]) (by rw [g3]; rfl) g6 (argsL := [fvl w h t 0 ty0 b, rv w st]) rfl dS' dR' hK ⟨Nat.le_refl _, Nat.le_refl _⟩ ⟨rfl, g7, by rw [e2, hT]; exact x⟩
      exact ⟨some (.int xv), T, T', T', L9, hT, k1, k2, rfl, ⟨rfl, k3, by rw [e2] at k4; exact k4⟩, fun target h9 => (go.trans k5).trans h9⟩
    | inl q =>
      have r9x := rx q h1 rE hE z
      have m2 := r9x.1
      refine ⟨⟨by omega, by omega⟩, fun p e s m args below meth c h0 X y1 y2 y3 ls hLl H locs x y9 u => ?_⟩
      have hMet := hc.2 (by omega)
      intro T hT Z
      obtain ⟨qb, vm₁, U₀, methk, ck, hW₁, e1, e2, X₁, Y₀, g1, g2, g3, g4, g5, g6, g7, go⟩ := enter hE p e s m args below meth c h0 X ls hLl H locs x m2.1 m2.2 y2 y3 (by omega) T hT Z
      have dS' : decode ck.code 5 = .ok (.invokestatic mi, 3) := by rw [g4]; exact dS
      have hK := xx_back (l := wdL w) (R := { frames := fr2 + 1, cells := gN h1 - gN h, slots := gS h1 - gS h, locals := nL2 + 11 + lw2 }) (p := p) (e := e) (below := .java (F0 m pc ls rest) :: below) (s := (T.setVm vm₁).calling (F0 m pc ls rest) ⟨wdA w t, 1⟩ #[.ref qb, rv w st]) (sargs := #[.ref qb, rv w st]) (len := 3) (W9 := 0) (bytes := cc2) (maxL := nL2) (ret := some .int) hMet rfl rfl (Nat.le_refl _) (by show 0 + (nL2 + 11) + lw2 ≤ nL2 + 11 + lw2; omega)
        (fun w9 hw9 a' U hU => pay_in X.2.2.2.2.1 (lw_meth q6) w9 hw9 a' U (State.WarmedH.trans hW₁ hU)) List.mem_cons_self (fun a' U hU => word_at (State.WarmedH.trans hW₁ hU) (Or.inl (by first | rfl | simp [Cond.onTables, Cond.keeps, Cond.steady])) (X.2.2.2.2.1 _ q5))
      obtain ⟨T', L9, qa, k1, k2, k3, k4, k5, k6, k7, k8⟩ := lam_thr X₁ (g0 := F0 m pc ls rest) rfl Y₀ X.1 g1 g5 (pcS := 5) (ls2 := #[.val (.ref qb), .val (rv w st)]) (by rw [g3]; rfl) g6 (argsL := [fvl w h t 0 ty0 b, rv w st]) rfl dS' hK ⟨Nat.le_refl _, Nat.le_refl _⟩ ⟨rfl, g7, by rw [e2, hT]; exact x⟩
      have k7 : Fr w h H h1 T'.heap := by rw [e2, hT] at k7; exact k7
      obtain ⟨t9, z1, z2⟩ := (r9x.2 p e s m args below meth c h0 X y1 (by omega) (by omega) ls hLl T'.heap (locs ++ L9) k6 (y9.trans k7 y1) (fun z9 hz9 => (List.mem_append.mp hz9).elim (u z9) (k2 z9)) k4 k5 qa k3 rest) T' rfl (by
        have e5 : gN h - gN h0 + (gN h1 - gN h) = gN h1 - gN h0 := by omega
        have e6 : gS h - gS h0 + (gS h1 - gS h) = gS h1 - gS h0 := by omega
        rw [e5, e6] at k1
        exact k1)
      exact ⟨t9, (go.trans k8).trans z1, z2⟩
end PFL1
section PFL2
variable {w : Wd} {own nm : String} {cc : ByteArray} {nL fr lw : Nat} {ret : Option FieldType} {α β : Type} {en : α → Option Value ⊕ Nat} {o : Option (α × PH)} {h : PH} {pc : Nat} {rest : List Value} {L : List (Nat × Value)} {G : List (Nat × Nat)}
theorem r_app2 {t lpc lix mi ci nt fi0 fi1 : Nat} {σ : Lambda.Shape} {x : MethodName} {D : ClassFile} {fwd : Method} {laid : Array Field × Array FieldType × Array FieldType} {code : ByteArray} {ty0 ty1 : FieldType} {y : MethodName} {index count fr2 lw2 nL2 b st : Nat} {cc2 : ByteArray} {oc : Option ((Nat ⊕ Int32) × PH)} {k : Int32 → PH → Option (α × PH)} {kx : Nat → PH → Option (α × PH)}
    (ht : 310 ≤ t ∧ t < 328) (hz : (Cond.lambdaSite x lpc lix σ, t) ∈ lamTab) (hL : LamD σ x.cls D fwd laid code mi ci nt [(fi0, 0, ty0), (fi1, 1, ty1)]) (hcap0 : fTy t 0 = some ty0) (hcap1 : fTy t 1 = some ty1) (hσ : σ.iface = "HedgeMessages$Operation" ∧ σ.name = "apply" ∧ σ.sam.toString = "(LHedgeMessages$State;)I") (hy2 : σ.implClass = y.cls ∧ σ.implName = y.name ∧ σ.implDesc.toString = y.desc) (hxn : plainName (x.cls ++ "$$Lambda") = true)
    (d0 : decode code 0 = .ok (.aload_n 0, 1)) (d1 : decode code 1 = .ok (.getfield fi0, 3)) (d4 : decode code 4 = .ok (.aload_n 0, 1)) (d5 : decode code 5 = .ok (.getfield fi1, 3)) (d8 : decode code 8 = .ok (.aload_n 1, 1)) (dS : decode code 9 = .ok (.invokestatic mi, 3)) (dR : decode code 12 = .ok (.ireturn, 1))
    (hM : ∀ x h1, oc = some (x, h1) → Ctr w y (ws_ y cc2 nL2 (some .int)) fr2 lw2 [fvl w h t 0 ty0 b, fvl w h t 1 ty1 b, rv w st] h (match x with | .inl q => .inr q | .inr x => .inl (some (.int x))) h1)
    (q0 : Cond.instantiable "java/lang/Object" 0 ∈ lw_all) (q1 : Cond.methodLink own index xApp ∈ lw_all) (q2 : Cond.declares xApp ∈ lw_tbl) (q3 : Cond.interfaceMethod "HedgeMessages$Operation" "HedgeMessages$Operation" "apply" "(LHedgeMessages$State;)I" ∈ lw_all) (q4 : Cond.static y ∈ lw_all) (q5 : Cond.initialized y.cls ∈ lw_all) (q6 : Cond.code y cc2 nL2 (some .int) ∈ lw_all)
    (hy : y.cls ≠ "java/lang/invoke/MethodHandle" ∧ y.cls ≠ "java/lang/invoke/VarHandle" ∧ (parseMethodDescriptor y.desc).map (fun d => d.parameters.length) = some 3) (hRm : fr2 + 2 ≤ fr ∧ 8 + (2 + 11) + (nL2 + 11 + lw2) ≤ lw) (hs8 : (rest.map fun v => v.category).sum ≤ 8) (d : decode cc pc = .ok (.invokeinterface index count, 5)) (hta : gT h b = t)
    (r9 : ∀ x h1, Pf w (own, cc, nL, nm, ret, fr, lw) en (pc + 5) L G (.int x :: rest) (k x h1) h1) (rx : ∀ q h1, PfX w (own, cc, nL, nm, ret, fr, lw) en pc L G q (kx q h1) h1) :
    Pf w (own, cc, nL, nm, ret, fr, lw) en pc L G (rv w st :: rv w b :: rest) (o_callX oc k kx) h := by
  have fact : ∀ (s : State) (args : Array Value), (∀ z ∈ lw_all, z.before args s = true) → KW w s → ∀ (U : State), s.WarmedH U.vm → ∃ (d : ClassId) (kK : Class) (methk : Method) (ck : Code), Lambda.isMade { classPath := fun _ => none } U.vm d σ (wdA w t) = true ∧ U.lambdaCallable σ (wdA w t) = true ∧ U.vm.classes[wdA w t]? = some kK ∧ U.vm.method? ⟨wdA w t, 1⟩ = some methk ∧ methk.accessFlags = 0x0001 ∧ methk.code = some ck ∧ ck.code = code ∧ ck.maxLocals = 2 ∧ ck.exceptionTable.isEmpty = true ∧ methk.locks = false ∧ methk.sig.returnType = some .int ∧ plainName kK.name = true ∧
      (∀ (i : Nat) (z : Nat × Nat × FieldType), ([(fi0, 0, ty0), (fi1, 1, ty1)] : List (Nat × Nat × FieldType))[i]? = some z → ∃ f : Field, U.vm.fieldReady (wdA w t) z.1 (wdA w t) f ∧ f.isStatic = false ∧ f.slot = i) ∧ ∀ e : Env, LamSt e U (wdA w t) mi y 3 := by
    intro s args hall hK U hW
    have hKU := hK.warm hW
    obtain ⟨m2, k2, cf2, i0, p0, a1, a2, a3, a4, a5, a6, a7, a8⟩ := hKU.2.2.2.2.2.2.2.2.2.1.2 _ hz x lpc lix σ rfl
    obtain ⟨k3, hk3, hn3⟩ := className_of_methodNamed a1
    cases a2.symm.trans hk3
    have wat : ∀ c : Cond, c ∈ lw_all → ((c.onTables && c.keeps) = true ∨ ∃ ty, c = .arrayClass ty) → c.before #[] U = true := fun c hc hg => word_at hW hg (hall c hc)
    have hO := lam_obj (args := #[]) (U := U) (wat _ q0 (Or.inl rfl))
    obtain ⟨kK, tk, file, methk, ck, toy, tt, b1, b2, b3, b4, b5, b6, b7, b8, b9, b10, b11, b12, b13, b14, b15, b16, b17, b18, b19, b20, b21⟩ := lam_made hL a2 hn3 a7 hO
    refine ⟨m2.cls, kK, methk, ck, a7, a8, b1, b5, b11, b6, b7, b8, b9, b10, b12, by rw [b2]; exact hxn, b19, fun e => ?_⟩
    obtain ⟨-, -, -, -, -, g6, -⟩ := hL
    rw [hy2.1] at b13
    rw [hy2.2.1, hy2.2.2] at b16
    exact lam_st (bytes := cc2) (maxL := nL2) (ret := some .int) b1 b3 (by rw [b4]; exact g6.1) (by rw [b4, ← hy2.2.1, ← hy2.2.2]; exact g6.2.2) b17 b18 b13 b14 b16 hy (wat _ q6 (Or.inl (by first | rfl | simp [Cond.onTables, Cond.keeps, Cond.steady]))) (wat _ q4 (Or.inl (by first | rfl | simp [Cond.onTables, Cond.keeps, Cond.steady]))) (wat _ q5 (Or.inl (by first | rfl | simp [Cond.onTables, Cond.keeps, Cond.steady])))
  match oc, hM with
  | none, _ => exact Pf.none
  | some (r, h1), hM =>
    have hc := hM _ _ rfl
    have m1 := hc.1
    have enter : ∀ (hE : PH) (p : Program) (e : Env) (s : State) (m : MethodId) (args : Array Value) (below : List Frame) (meth : Method) (c : Code) (h0 : PH), Cx p s m args meth c w (own, cc, nL, nm, ret, fr, lw) → ∀ (ls : Array Slot), lh w ls nL L G → ∀ (H : Heap) (locs : List Loc), Rep w h H → gN h1 ≤ gN hE → gS h1 ≤ gS hE → gN h0 ≤ gN h → gS h0 ≤ gS h → NC ≤ gN h → ∀ T : State, T.heap = H → Stand p (wdL w) e (mkR fr lw h0 hE) s m args below meth c T locs (gN h - gN h0) (gS h - gS h0) →
        ∃ (qb : Addr) (vm₁ : Vm) (U₀ : State) (methk : Method) (ck : Code), s.WarmedH vm₁ ∧ U₀.vm = vm₁ ∧ U₀.heap = T.heap ∧ Stand p (wdL w) e (mkR fr lw h0 hE) s m args below meth c (T.setVm vm₁) locs (gN h - gN h0) (gS h - gS h0) ∧
          Stand p (wdL w) e { frames := fr2 + 1, cells := gN h1 - gN h, slots := gS h1 - gS h, locals := nL2 + 11 + lw2 } ((T.setVm vm₁).calling (F0 m pc ls rest) ⟨wdA w t, 1⟩ #[.ref qb, rv w st]) ⟨wdA w t, 1⟩ #[.ref qb, rv w st] (.java (F0 m pc ls rest) :: below) methk ck U₀ [] 0 0 ∧
          methk.locks = false ∧ methk.sig.returnType = some .int ∧ ck.maxLocals = 2 ∧ ck.code = code ∧ ck.exceptionTable.isEmpty = true ∧ LamSt e U₀ (wdA w t) mi y 3 ∧ KW w U₀ ∧
          Steps p.tables e below (T.setTop (F0 m pc ls (rv w st :: rv w b :: rest))) (U₀.setTop { method := ⟨wdA w t, 1⟩, pc := 9, locals := #[.val (.ref qb), .val (rv w st)], stack := ([fvl w h t 0 ty0 b, fvl w h t 1 ty1 b, rv w st] : List Value).reverse, locked := none }) := by
      intro hE p e s m args below meth c h0 X ls hLl H locs x n1 n2 n3 n4 n5 T hT Z
      obtain ⟨dd, kK, methk, ck, f1, f2, f3, f4, f5, f6, f7, f8, f9, f10, f11, f12, -, -⟩ := fact s args X.2.2.2.2.1 X.2.2.2.2.2.1 s (State.WarmedH.refl s)
      obtain ⟨qb, cellB, hb, -, hcB, hkn, hobj, -, ro⟩ := x.2.2.2.2.2 b (by omega)
      have hrb := rv_some.mpr hb
      have hcls : cellB.cls = wdA w t := by rw [ro.1, hta]
      have hslot : ∀ (k : Nat) (ty : FieldType) (fd : Field), fd.slot = k → fTy t k = some ty → cellB.slots[fd.slot]? = some (fvl w h t k ty b) := by
        intro k ty fd e1 e2
        have z := ro.2.1 k ty (by rw [hta]; exact e2)
        rw [hta, X.2.2.2.2.2.1.2.2.2.2.2.2.2.2.2.1.1 t k ht.1] at z
        rw [e1]; exact z
      have hcB : T.heap[qb]? = some cellB := by rw [hT]; exact hcB
      obtain ⟨vm₁, hW₁, X₁, Y₀, go⟩ := lam_enter Z X.1 X.2.2.2.1 (X.2.2.2.2.1 _ q1) (va_Nw.use rfl (X.2.2.2.2.2.1.2.2.1 _ q2 rfl)) (X.2.2.2.2.1 _ q3) f1 f2 hσ f3 f4 f5 f6 f10 f8 f12 hcB hcls hobj (x1 := rv w st) (g := F0 m pc ls (rv w st :: rv w b :: rest)) rfl (by rw [X.2.2.1]; exact hLl.size) (rest := rest) (by rw [hrb]) (by rw [X.2.1]; exact d)
        (R' := { frames := fr2 + 1, cells := gN h1 - gN h, slots := gS h1 - gS h, locals := nL2 + 11 + lw2 }) (by show fr2 + 1 + 1 ≤ fr; omega) (by show 2 * 0 + (rest.map fun v => v.category).sum + (2 + 11) + (nL2 + 11 + lw2) ≤ lw; omega) (by show gN h - gN h0 + (gN h1 - gN h) ≤ gN hE - gN h0; omega) (by show gS h - gS h0 + (gS h1 - gS h) ≤ gS hE - gS h0; omega)
      have hent : entryFrame ⟨wdA w t, 1⟩ #[.ref qb, rv w st] 2 = { method := ⟨wdA w t, 1⟩, pc := 0, locals := #[.val (.ref qb), .val (rv w st)], stack := [], locked := none } := by
        rcases rv_ref w st with z | ⟨a, z⟩ <;> rw [z] <;> rfl
      rw [hent] at Y₀ go
      obtain ⟨-, -, -, -, -, -, -, -, -, -, -, -, -, -, -, -, hflds, hst⟩ := fact s args X.2.2.2.2.1 X.2.2.2.2.2.1 (((T.setVm vm₁).setTop (F0 m pc ls rest)).pushFrame (.java { method := ⟨wdA w t, 1⟩, pc := 0, locals := #[.val (.ref qb), .val (rv w st)], stack := [], locked := none })) hW₁
      obtain ⟨fd0, u0, v0, x0⟩ := hflds 0 _ rfl
      obtain ⟨fd1, u1, v1, x1⟩ := hflds 1 _ rfl
      refine ⟨qb, vm₁, (((T.setVm vm₁).setTop (F0 m pc ls rest)).pushFrame (.java { method := ⟨wdA w t, 1⟩, pc := 0, locals := #[.val (.ref qb), .val (rv w st)], stack := [], locked := none })), methk, ck, hW₁, rfl, rfl, X₁, Y₀, f10, f11, f8, f7, f9, hst e, X.2.2.2.2.2.1.warm hW₁, go _ ?_⟩
      exact Steps.weaken (mid := [.java (F0 m pc ls rest)]) (lam_walk2 Y₀ X.1 rfl rfl f7 d0 d1 d4 d5 d8 u0 v0 (hslot 0 ty0 fd0 x0 hcap0) u1 v1 (hslot 1 ty1 fd1 x1 hcap1) hcB hkn (rv_isRef w st) _ (Steps.refl _))
    refine fun rE hE z => ?_
    cases r with
    | inr xv =>
      have r9 := r9 xv h1 rE hE z
      have m2 := r9.1
      refine ⟨⟨by omega, by omega⟩, fun p e s m args below meth c h0 X y1 y2 y3 ls hLl H locs x y9 u => ?_⟩
      have hMet := hc.2 (by omega)
      refine W.after (v := some (.int xv)) (a := #[]) y9 y1 u (dpc := 5) (mc := gN h1 - gN h) (ms := gS h1 - gS h) (rest := rest) (fun T hT Z => ?_) (fun H1 locs1 a1 a2 a3 => W.cs (by omega) (by omega) (r9.2 p e s m args below meth c h0 X y1 (by omega) (by omega) ls hLl H1 locs1 a1 a2 a3))
      obtain ⟨qb, vm₁, U₀, methk, ck, hW₁, e1, e2, X₁, Y₀, g1, g2, g3, g4, g5, g6, g7, go⟩ := enter hE p e s m args below meth c h0 X ls hLl H locs x m2.1 m2.2 y2 y3 (by omega) T hT Z
      have dS' : decode ck.code 9 = .ok (.invokestatic mi, 3) := by rw [g4]; exact dS
      have dR' : decode ck.code (9 + 3) = .ok (.ireturn, 1) := by rw [g4]; exact dR
      have hK := back_of (l := wdL w) (R := { frames := fr2 + 1, cells := gN h1 - gN h, slots := gS h1 - gS h, locals := nL2 + 11 + lw2 }) (p := p) (e := e) (below := .java (F0 m pc ls rest) :: below) (s := (T.setVm vm₁).calling (F0 m pc ls rest) ⟨wdA w t, 1⟩ #[.ref qb, rv w st]) (sargs := #[.ref qb, rv w st]) (len := 3) (W := 0) (bytes := cc2) (maxL := nL2) (ret := some .int) hMet pcp_blind rfl rfl (Nat.le_refl _) (by show 0 + (nL2 + 11) + lw2 ≤ nL2 + 11 + lw2; omega)
        (fun w9 hw9 a' U hU => pay_in X.2.2.2.2.1 (lw_meth q6) w9 hw9 a' U (State.WarmedH.trans hW₁ hU)) List.mem_cons_self (fun a' U hU => word_at (State.WarmedH.trans hW₁ hU) (Or.inl (by first | rfl | simp [Cond.onTables, Cond.keeps, Cond.steady])) (X.2.2.2.2.1 _ q5))
      obtain ⟨T', L9, k1, k2, k3, k4, k5⟩ := lam_ret X₁ (g0 := F0 m pc ls rest) rfl (by rw [X.2.1]; exact d) Y₀ X.1 g1 g2 (pcS := 9) (ls2 := #[.val (.ref qb), .val (rv w st)]) (by rw [g3]; rfl) g6 (argsL := [fvl w h t 0 ty0 b, fvl w h t 1 ty1 b, rv w st]) rfl dS' dR' hK ⟨Nat.le_refl _, Nat.le_refl _⟩ ⟨rfl, g7, by rw [e2, hT]; exact x⟩
      exact ⟨some (.int xv), T, T', T', L9, hT, k1, k2, rfl, ⟨rfl, k3, by rw [e2] at k4; exact k4⟩, fun target h9 => (go.trans k5).trans h9⟩
    | inl q =>
      have r9x := rx q h1 rE hE z
      have m2 := r9x.1
      refine ⟨⟨by omega, by omega⟩, fun p e s m args below meth c h0 X y1 y2 y3 ls hLl H locs x y9 u => ?_⟩
      have hMet := hc.2 (by omega)
      intro T hT Z
      obtain ⟨qb, vm₁, U₀, methk, ck, hW₁, e1, e2, X₁, Y₀, g1, g2, g3, g4, g5, g6, g7, go⟩ := enter hE p e s m args below meth c h0 X ls hLl H locs x m2.1 m2.2 y2 y3 (by omega) T hT Z
      have dS' : decode ck.code 9 = .ok (.invokestatic mi, 3) := by rw [g4]; exact dS
      have hK := xx_back (l := wdL w) (R := { frames := fr2 + 1, cells := gN h1 - gN h, slots := gS h1 - gS h, locals := nL2 + 11 + lw2 }) (p := p) (e := e) (below := .java (F0 m pc ls rest) :: below) (s := (T.setVm vm₁).calling (F0 m pc ls rest) ⟨wdA w t, 1⟩ #[.ref qb, rv w st]) (sargs := #[.ref qb, rv w st]) (len := 3) (W9 := 0) (bytes := cc2) (maxL := nL2) (ret := some .int) hMet rfl rfl (Nat.le_refl _) (by show 0 + (nL2 + 11) + lw2 ≤ nL2 + 11 + lw2; omega)
        (fun w9 hw9 a' U hU => pay_in X.2.2.2.2.1 (lw_meth q6) w9 hw9 a' U (State.WarmedH.trans hW₁ hU)) List.mem_cons_self (fun a' U hU => word_at (State.WarmedH.trans hW₁ hU) (Or.inl (by first | rfl | simp [Cond.onTables, Cond.keeps, Cond.steady])) (X.2.2.2.2.1 _ q5))
      obtain ⟨T', L9, qa, k1, k2, k3, k4, k5, k6, k7, k8⟩ := lam_thr X₁ (g0 := F0 m pc ls rest) rfl Y₀ X.1 g1 g5 (pcS := 9) (ls2 := #[.val (.ref qb), .val (rv w st)]) (by rw [g3]; rfl) g6 (argsL := [fvl w h t 0 ty0 b, fvl w h t 1 ty1 b, rv w st]) rfl dS' hK ⟨Nat.le_refl _, Nat.le_refl _⟩ ⟨rfl, g7, by rw [e2, hT]; exact x⟩
      have k7 : Fr w h H h1 T'.heap := by rw [e2, hT] at k7; exact k7
      obtain ⟨t9, z1, z2⟩ := (r9x.2 p e s m args below meth c h0 X y1 (by omega) (by omega) ls hLl T'.heap (locs ++ L9) k6 (y9.trans k7 y1) (fun z9 hz9 => (List.mem_append.mp hz9).elim (u z9) (k2 z9)) k4 k5 qa k3 rest) T' rfl (by
        have e5 : gN h - gN h0 + (gN h1 - gN h) = gN h1 - gN h0 := by omega
        have e6 : gS h - gS h0 + (gS h1 - gS h) = gS h1 - gS h0 := by omega
        rw [e5, e6] at k1
        exact k1)
      exact ⟨t9, (go.trans k8).trans z1, z2⟩
end PFL2
