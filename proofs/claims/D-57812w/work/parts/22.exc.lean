set_option maxRecDepth 100000
/-! ===== exceptions: new E(), a throw, a call that throws, catching ===== -/
theorem back9L {p : Program} {l : Launch} {e : Env} {R : Room} {s : State} {m : MethodId} {args : Array Value} {below : List Frame} {meth : Method} {c : Code} {locs L : List Loc} {cells slots : Nat} {T S : State} {R' : Room} {k n : Nat} (X : Stand p l e R s m args below meth c T locs cells slots) (Y : Stand p l e R' ((T.setVm s.vm).setFrames (.invoking m args :: below)) m args below meth c T [] 0 0) (Z : Stand p l e R' ((T.setVm s.vm).setFrames (.invoking m args :: below)) m args below meth c S L k n) :
    Stand p l e R s m args below meth c S (locs ++ L) (cells + k) (slots + n) := by
  have hW0 : s.WarmedH ((T.setVm s.vm).setFrames (.invoking m args :: below)).vm := State.WarmedH.refl s
  refine { admits := X.admits, cas := X.cas, clock := X.clock, frames := X.frames, room := X.room, hears := X.hears, method := X.method, code := X.code, here := Z.here, tail := Z.tail, warmed := State.WarmedH.trans hW0 Z.warmed, limits := Z.limits.trans (Y.limits.symm.trans X.limits), bytes := Z.bytes.trans (Y.bytes.symm.trans X.bytes), same := ?_ }
  obtain ⟨e1, e2⟩ := Z.same
  rw [State.setFrames_setFrames] at e1
  have h2 : (T.setVm s.vm).sameButNew (S.setVm s.vm) L k n := ⟨e1, e2⟩
  exact X.same.trans h2
set_option maxHeartbeats 1000000 in
/-- the constructor E() of a new exception, no traces kept (follows the proof of Stand.ctorThrow0) -/
theorem x_ctorNew0 {p : Program} {l : Launch} {e : Env} {R : Room} {s : State} {m₀ : MethodId} {args : Array Value} {below : List Frame} {meth : Method} {c : Code} {W : State} {locs : List Loc} {cells slots : Nat} (X : Stand p l e R s m₀ args below meth c W locs cells slots) (hexec : p.tables.exec = Jvm.exec) (htr : e.platform.stackTraces = false) {own cls : String} {names : List String} {ic : Nat}
    (hown : s.vm.findClass own = some m₀.cls) (hcls : Bundle.fit cls = true) (hnames : ∀ n ∈ names, Bundle.fit n = true)
    (h : ∀ a ∈ Bundle.ownAtoms0 own ic cls names, a.before args s = true)
    (hlocs : ∀ x ∈ locs, ∀ cell, s.heap[x.base]? = some cell → cell.vm.isStatics = false)
    {a : Addr} {cX : ClassId} {kX : Class} (hfoundX : s.vm.findClass cls = some cX) (hkX : s.vm.classes[cX]? = some kX) (hcell : W.heap[a]? = some (freshCell cX kX)) (hnew : s.heap.size ≤ a)
    {g : JFrame} (hg : g.method = m₀) (hsize : g.locals.size = c.maxLocals) {rest : List Value} (hstack : g.stack = .ref a :: .ref a :: rest)
    (hd6 : decode c.code g.pc = .ok (.invokespecial ic, 3))
    (hRframes : names.length + 3 < R.frames) (hRlocals : 2 * g.monitorRoom + ((Value.ref a :: rest).map fun v => v.category).sum + (13 * (names.length + 1) + 41) ≤ R.locals) :
    ∃ (vm₂ : Vm) (ce : Cell) (L : List Loc), Stand p l e R s m₀ args below meth c ((W.setVm vm₂).setCell a ce) (locs ++ L) cells slots ∧ ce.cls = cX ∧ ce.vm = .none ∧ (∀ z ∈ L, z.base = a) ∧
      ∀ target, Steps p.tables e below (((W.setVm vm₂).setCell a ce).setTop { g with pc := g.pc + 3, stack := .ref a :: rest }) target → Steps p.tables e below (W.setTop g) target := by
  have hpl : e.platform.magicAccessors = ({} : Platform).magicAccessors := by rw [X.admits.platform]
  have at0 : ∀ x, x ∈ Bundle.ownAtoms0 own ic cls names → x.holds args s none s [] = true := fun x hx => h x hx
  obtain ⟨B, Z, L, LZ, Y⟩ := ThrowableC.of_atoms (args := args) (by rw [X.admits.platform]) (by rw [X.admits.platform]) hpl (fun x hx => h x (by simp [Bundle.ownAtoms0, hx]))
  obtain ⟨P1, Ps, hlen, L1, hL, hn1, up1, up⟩ := Bundle.chain0 (args := args) hpl Y.init0 names cls hcls hnames (fun x hx => h x (by simp [Bundle.ownAtoms0, hx]))
  have hfound : s.vm.findClass cls = some P1.m.cls := findClass_of_methodNamed hn1
  cases Option.some.inj (hfoundX.symm.trans hfound)
  obtain ⟨_, kX', hc1, hk, hord, -, -, hn6⟩ := Cond.instantiable_spec (at0 (.instantiable cls 6) (by simp [Bundle.ownAtoms0]))
  cases Option.some.inj (hc1.symm.trans hfound)
  cases Option.some.inj (hkX.symm.trans hk)
  have pick : ∀ (y : MethodName) (mk : MethodId), Cond.selects cls y y ∈ Bundle.ownAtoms0 own ic cls names → s.methodNamed? y = some mk → (y.cls ≠ "java/lang/invoke/MethodHandle" ∧ y.cls ≠ "java/lang/invoke/VarHandle") → selectMethod e.platform s.vm P1.m.cls mk = .method mk := by
    intro y mk hy hmk hne
    obtain ⟨_, _, _, u1, u2, u3, u4, -⟩ := Cond.selects_spec (at0 _ hy)
    cases Option.some.inj (u1.symm.trans hfound)
    cases Option.some.inj (u2.symm.trans (State.methodFound?_of_named hmk hne))
    cases Option.some.inj (u3.symm.trans hmk)
    rw [Launch.admits_selectMethod X.admits]; exact u4
  have sel1 := pick _ _ (by simp [Bundle.ownAtoms0]) Y.fill0 (by decide)
  have sel2 := pick _ _ (by simp [Bundle.ownAtoms0]) Y.fill (by decide)
  obtain ⟨st0, hst0, hiss⟩ := Y.statics
  obtain ⟨u0, hu0⟩ := Cond.staticRefV Y.unassigned L.unassignedStatic L.statics hst0 hiss (at0 (.isRef (.static Bundle.tN "UNASSIGNED_STACK" Bundle.steD)) (by simp [Bundle.ownAtoms0]))
  obtain ⟨v0, hv0⟩ := Cond.staticRefV Y.sentinel L.sentinelStatic L.statics hst0 hiss (at0 (.isRef (.static Bundle.tN "SUPPRESSED_SENTINEL" Bundle.listD)) (by simp [Bundle.ownAtoms0]))
  obtain ⟨kb, ib, fb, b1, b2, b3, b4, -, b5, b6, b7⟩ := Cond.ownField (t := .object "java/lang/Object") Y.found L.cls (by decide +kernel) (at0 (.fieldLink Bundle.tN 198 Bundle.tN "backtrace" "Ljava/lang/Object;") (by simp [Bundle.ownAtoms0])) (at0 (.lays Bundle.tN Bundle.tN "backtrace" "Ljava/lang/Object;") (by simp [Bundle.ownAtoms0])) e.platform hpl
  obtain ⟨st1, hst1, hvm1, -, hkeep⟩ := X.same.2.2.2.2.2 B.aS st0 hst0
  have hst1 : W.heap[B.aS]? = some st1 := hst1
  have hfar : ∀ i, (⟨B.aS, i⟩ : Loc) ∉ locs := fun i hmem => by
    have := hlocs _ hmem st0 hst0
    rw [hiss] at this; cases this
  have hkn : st1.vm ≠ .unknown := by
    rw [hvm1]; intro hu
    rw [show st0.vm = .unknown from hu] at hiss
    cases hiss
  obtain ⟨tC, dC, lC, nC⟩ := Cond.laysAt hfound hk Y.cause (at0 (.lays cls Bundle.tN "cause" "Ljava/lang/Throwable;") (by simp [Bundle.ownAtoms0]))
  obtain ⟨tS, dS, lS, nS⟩ := Cond.laysAt hfound hk Y.stack (at0 (.lays cls Bundle.tN "stackTrace" Bundle.steD) (by simp [Bundle.ownAtoms0]))
  obtain ⟨tP, dP, lP, nP⟩ := Cond.laysAt hfound hk Y.supp (at0 (.lays cls Bundle.tN "suppressedExceptions" Bundle.listD) (by simp [Bundle.ownAtoms0]))
  obtain ⟨tB, dB, lB, nB⟩ := Cond.laysAt hfound hk b7 (at0 (.lays cls Bundle.tN "backtrace" "Ljava/lang/Object;") (by simp [Bundle.ownAtoms0]))
  have x1 := Cond.laysApart lB lC nB nC (by rw [b5, Y.causeName]; decide)
  have x2 := Cond.laysApart lB lS nB nS (by rw [b5, Y.stackName]; decide)
  have x3 := Cond.laysApart lB lP nB nP (by rw [b5, Y.suppName]; decide)
  have hskip : SkipFacts B e.platform s (fun u => u) u0 ((preparedCellV B.toThrowableT (freshCell P1.m.cls kX) a u0 v0).withEntry W.cur) :=
    ⟨{ ci198 := kb, i198 := ib, fBack := fb }, ⟨b1, b2, b3, b4⟩, by
      have := fresh_default (c := P1.m.cls) tB
      rw [b6] at this
      simpa [preparedCellV, Cell.setSlot, Cell.withEntry, Array.getElem?_setIfInBounds, x1, x2, x3, x1.symm, x2.symm, x3.symm, defaultValue] using this, fun _ _ => rfl⟩
  obtain ⟨_, _, _, _, vm₁, hn2, -, -, -, -, -, -, -, hW₁, go1⟩ := Steps.initCold (tb := p.tables) (e := e) (below := below) (s := s) (U := W) X.here hexec X.warmed hpl hown (t := Bundle.init0 cls) rfl rfl (Bundle.fit_spec hcls).2
    (at0 (.methodLink own ic (Bundle.init0 cls)) (by simp [Bundle.ownAtoms0])) (h (.instanceMethod (Bundle.init0 cls)) (by cases names <;> simp [Bundle.ownAtoms0, Bundle.chain0Atoms, Bundle.passAtoms])) (bytes := Bundle.five) (maxL := 1) (h (.code (Bundle.init0 cls) Bundle.five 1 none) (by cases names <;> simp [Bundle.ownAtoms0, Bundle.chain0Atoms, Bundle.passAtoms]))
    (f := g) hg (a := a) (rest := .ref a :: rest) hstack hd6
  cases Option.some.inj (hn2.symm.trans hn1)
  obtain ⟨vm₂, X₂, go2⟩ := (X.noted hW₁).ctorPlainOffV hexec (g := { g with stack := .ref a :: rest }) hg hsize B L Z LZ (P1 :: Ps)
    (fun P hP => (List.mem_cons.mp hP).elim (fun z => by rw [z]; exact L1) (hL P)) ⟨up1, up⟩ (u0 := u0) (sen := v0) (self := a) (cell := freshCell P1.m.cls kX) (cellS := st1)
    hcell (fun _ => by simp) (by simp) rfl rfl sel1 sel2 hst1 (Nat.ne_of_lt (Nat.lt_of_lt_of_le (Array.getElem?_eq_some_iff.mp hst0).1 hnew)) hkn (by rw [hkeep _ (hfar _)]; exact hu0) (by rw [hkeep _ (hfar _)]; exact hv0)
    (Takes.of_laid hk hord tC (by rw [Y.causeType]; rfl)) (Takes.of_laid hk hord tS (by rw [Y.stackType]; exact fits_refV_array _ u0)) (Takes.of_laid hk hord tP (by rw [Y.suppType]; exact fits_refV_object _ v0)) Y.objLocals hskip htr [] hd6
    (by simp only [List.length_cons, hlen]; omega) (by simp only [List.length_cons, hlen]; exact hRlocals)
  refine ⟨vm₂, _, _, X₂, rfl, rfl, fun z hz => ?_, fun target hr => go1 _ (fun acts => by rw [doInvoke_state]; exact go2 _ hr)⟩
  simp only [List.mem_cons, List.not_mem_nil, or_false] at hz
  rcases hz with rfl | rfl | rfl | rfl <;> rfl
theorem push_set (H : Heap) (a b : Cell) : (H.push a).setIfInBounds H.size b = H.push b := by
  apply Array.ext_getElem?
  intro i
  by_cases hi : i = H.size
  · subst hi
    simp
  · rw [Array.getElem?_setIfInBounds_ne (fun q => hi q.symm), Array.getElem?_push, Array.getElem?_push, if_neg hi, if_neg hi]
/-- new E(); dup; invokespecial: the object made, on the stack -/
theorem v_nx {p : Program} {l : Launch} {e : Env} {R : Room} {s : State} {m : MethodId} {args : Array Value} {below : List Frame} {meth : Method} {c : Code} {H : Heap} {locs : List Loc} {cells slots : Nat} {Q : State → Prop} {cc : ByteArray} {pc : Nat} {ls : Array Slot} {rest : List Value} (hexec : p.tables.exec = Jvm.exec) (hb : c.code = cc) (hl : l.stackTraces = false) {own cls : String} {names : List String} {ik ic : Nat}
    (hown : s.vm.findClass own = some m.cls) (hcls : Bundle.fit cls = true) (hnames : ∀ n ∈ names, Bundle.fit n = true)
    (hk : Cond.classLink own ik cls ∈ lw_all) (hini : Cond.initialized cls ∈ lw_all) (hall : ∀ x ∈ lw_all, x.before args s = true)
    (hat : ∀ s' : State, s.WarmedH s'.vm → s.vm = s'.vm → s'.heap = H → ∀ w ∈ Bundle.ownAtoms0 own ic cls names, w.before args s' = true) (hsize : ls.size = c.maxLocals)
    (d0 : decode cc pc = .ok (.new ik, 3)) (d3 : decode cc (pc + 3) = .ok (.dup, 1)) (d4 : decode cc (pc + 4) = .ok (.invokespecial ic, 3))
    (hRframes : names.length + 3 < R.frames) (hRlocals : (rest.map fun v => v.category).sum + (13 * (names.length + 1) + 42) ≤ R.locals) (hRcells : cells + 1 ≤ R.cells) (hRslots : slots + 6 ≤ R.slots)
    (k : ∀ (ce : Cell) (L : List Loc), s.vm.findClass cls = some ce.cls → ce.vm = .none → (∀ z ∈ L, z.base = H.size) → W p l e R s m args below meth c (H.push ce) (locs ++ L) (cells + 1) (slots + 6) Q (F0 m (pc + 7) ls (.ref H.size :: rest))) :
    W p l e R s m args below meth c H locs cells slots Q (F0 m pc ls rest) := by
  intro T hT X
  have htr : e.platform.stackTraces = false := (show e.platform.stackTraces = l.stackTraces by rw [X.admits.platform]).trans hl
  have Y := vx_rebase X (R' := { frames := R.frames, locals := R.locals, cells := 1, slots := 6 }) (Nat.le_refl _) (Nat.le_refl _) hRcells hRslots
  have hW0 : s.WarmedH ((T.setVm s.vm).setFrames (.invoking m args :: below)).vm := State.WarmedH.refl s
  have hhp : ((T.setVm s.vm).setFrames (.invoking m args :: below)).heap = H := hT
  have hA := hat _ hW0 rfl hhp
  have good : ∀ x : Cond, x ∈ lw_all → vx_ot x = true → x.before args ((T.setVm s.vm).setFrames (.invoking m args :: below)) = true := fun x hx hg => vx_ot_at hW0 rfl hg (hall x hx)
  have hins : (Cond.instantiable cls 6).before args ((T.setVm s.vm).setFrames (.invoking m args :: below)) = true := hA _ (by simp [Bundle.ownAtoms0])
  obtain ⟨vm₁, cX, kX, hfX, hkX, -, -, X₁, st1⟩ := Y.newCold hexec (own := own) (C := cls) (index := ik) (n := 6) hown (good _ hk rfl) hins (good _ hini rfl)
    (g := F0 m pc ls rest) rfl (by rw [hb]; exact d0) (Nat.le_refl _) (Nat.le_refl _)
  have hcat : (Value.ref T.heap.size).category = 1 := rfl
  have hT9 : ((T.setVm vm₁).pushCell { cls := cX, slots := kX.instanceTypes.map defaultValue, vm := .none }).heap = H.push (freshCell cX kX) := by rw [← hT]; rfl
  generalize hT1 : (T.setVm vm₁).pushCell { cls := cX, slots := kX.instanceTypes.map defaultValue, vm := .none } = T1 at X₁ st1 hT9
  have hcellA : T1.heap[T.heap.size]? = some (freshCell cX kX) := by rw [hT9, hT, Array.getElem?_push_size]
  have d3' : decode c.code (pc + 3) = .ok (.dup, 1) := by rw [hb]; exact d3
  obtain ⟨vm₂, ce, L, X₂, h1, h2, h3, go⟩ := x_ctorNew0 X₁ hexec htr (own := own) (cls := cls) (names := names) (ic := ic) hown hcls hnames hA (fun x hx => nomatch hx) hfX hkX hcellA (Nat.le_refl _)
    (g := { method := m, pc := pc + 4, locals := ls, stack := .ref T.heap.size :: .ref T.heap.size :: rest, locked := none }) rfl hsize (rest := rest) rfl
    (by rw [hb]; exact d4) hRframes (by simp only [List.map_cons, List.sum_cons, hcat]; show 2 * 0 + _ + _ ≤ R.locals; omega)
  rw [List.nil_append] at X₂
  have X3 := back9L X Y X₂
  obtain ⟨t, a1, b1⟩ := k ce L (by rw [h1]; exact hfX) h2 (fun z hz => by rw [h3 z hz, hT]) _ (by rw [← push_set H (freshCell cX kX) ce, ← hT9, ← hT]; rfl) X3
  refine ⟨t, st1 _ ?_, b1⟩
  show Steps p.tables e below (T1.setTop { method := m, pc := pc + 3, locals := ls, stack := .ref T.heap.size :: rest, locked := none }) _
  jvm_step X₁.here [X₁.here.top, hexec, d3', Value.category]
  refine go _ ?_
  rw [← hT] at a1
  exact a1
/-- the statics that a throwable's constructor reads -/
theorem ex_heap {w : Wd} {h : PH} {H : Heap} {s s' : State} {args : Array Value} (hK : KW w s) (hR : Rep w h H) (hW : s.WarmedH s'.vm) (hh : s'.heap = H) :
    (Cond.isRef (.static Bundle.tN "UNASSIGNED_STACK" Bundle.steD)).before args s' = true ∧ (Cond.isRef (.static Bundle.tN "SUPPRESSED_SENTINEL" Bundle.listD)).before args s' = true ∧ (Cond.laysStatic Bundle.tN "UNASSIGNED_STACK" Bundle.steD).before args s' = true ∧ (Cond.laysStatic Bundle.tN "SUPPRESSED_SENTINEL" Bundle.listD).before args s' = true := by
  have hq : ∀ a : Nat, a < (wdH w).size → ¬ wdN w ≤ a → H[a]? = (wdH w)[a]? := fun a _ h2 => hR.2.2.2.2.1 a (Nat.not_le.mp h2)
  obtain ⟨h1, -, h3, h4⟩ := hK.2.2.2.2.2.1
  have key : ∀ {C n d : String} {k : Nat}, (C, n, d, k) ∈ stTab → (Cond.isRef (.static C n d)).before args s' = true := by
    intro C n d k hm
    have z := va_Z.moved hW.alike ((h1 _ hm).kept hq)
    rw [← hh] at z
    rcases rv_ref w k with q | ⟨a, q⟩
    · dsimp only at z; rw [q] at z; exact vx_isRef z rfl
    · dsimp only at z; rw [q] at z; exact vx_isRef z rfl
  refine ⟨key (k := 20) (by decide), key (k := 21) (by decide), ?_, ?_⟩
  · have z := vx_L.moved hW.alike (h3.kept hq)
    rw [← hh] at z
    exact z.word
  · have z := vx_L.moved hW.alike (h4.kept hq)
    rw [← hh] at z
    exact z.word
section PFX
variable {w : Wd} {own nm : String} {cc : ByteArray} {nL fr lw : Nat} {ret : Option FieldType} {α β : Type} {en : α → Option Value ⊕ Nat} {o : Option (α × PH)} {h : PH} {pc : Nat} {rest st0 : List Value} {L L' : List (Nat × Value)} {G G' : List (Nat × Nat)}
theorem r_nx {t ik ic : Nat} {cls : String} {names : List String} {K : Nat → PH → Option (α × PH)} (ht : (cls, t) ∈ exTab) (hcls : Bundle.fit cls = true) (hnames : ∀ n ∈ names, Bundle.fit n = true) (q1 : Cond.classLink own ik cls ∈ lw_all) (q2 : Cond.initialized cls ∈ lw_all)
    (hat : ∀ (s s' : State) (args : Array Value), s.WarmedH s'.vm → s.vm = s'.vm → (∀ x ∈ lw_all, x.before args s = true) → KW3 s → ((Cond.isRef (.static Bundle.tN "UNASSIGNED_STACK" Bundle.steD)).before args s' = true ∧ (Cond.isRef (.static Bundle.tN "SUPPRESSED_SENTINEL" Bundle.listD)).before args s' = true ∧ (Cond.laysStatic Bundle.tN "UNASSIGNED_STACK" Bundle.steD).before args s' = true ∧ (Cond.laysStatic Bundle.tN "SUPPRESSED_SENTINEL" Bundle.listD).before args s' = true) → ∀ x ∈ Bundle.ownAtoms0 own ic cls names, x.before args s' = true)
    (hRm : names.length + 3 < fr ∧ 8 + (13 * (names.length + 1) + 42) ≤ lw) (hl4 : rest.length ≤ 4) (d0 : decode cc pc = .ok (.new ik, 3)) (d3 : decode cc (pc + 3) = .ok (.dup, 1)) (d4 : decode cc (pc + 4) = .ok (.invokespecial ic, 3))
    (r9 : ∀ q9 h1, Pf w (own, cc, nL, nm, ret, fr, lw) en (pc + 7) L G (rv w q9 :: rest) (K q9 h1) h1) : Pf w (own, cc, nL, nm, ret, fr, lw) en pc L G rest (o_no t 6 h K) h := by
  unfold o_no
  refine fun rE hE q => ?_
  have hm := (r9 _ _ rE hE q).1
  rw [gN_nO, gS_nO] at hm
  have hs := sum_cat rest hl4
  have ht3 : 300 ≤ t ∧ t < 303 := by
    simp only [exTab, List.mem_cons, List.not_mem_nil, or_false, Prod.mk.injEq] at ht
    rcases ht with z | z | z <;> omega
  refine ⟨⟨by omega, by omega⟩, fun p e s m args below meth c h0 X y1 y2 y3 ls hL H locs x y u => ?_⟩
  refine v_nx X.1 X.2.1 X.2.2.2.2.2.1.2.2.2.2.2.2.2.2.2.2 X.2.2.2.1 hcls hnames q1 q2 X.2.2.2.2.1 (fun s' g1 g2 g3 => hat s s' args g1 g2 X.2.2.2.2.1 X.2.2.2.2.2.1.2.2.1 (ex_heap X.2.2.2.2.2.1 x g1 g3)) (by rw [X.2.2.1]; exact hL.size) d0 d3 d4 hRm.1 (by show _ ≤ lw; omega) (by show gN h - gN h0 + 1 ≤ gN hE - gN h0; omega) (by show gS h - gS h0 + 6 ≤ gS hE - gS h0; omega) (fun ce L9 k1 k2 k3 => ?_)
  have hcX := X.2.2.2.2.2.1.2.2.2.2.2.2.2.1.2.2.1 _ ht
  have hce : ce.cls = wdA w t := Option.some.inj (k1.symm.trans hcX)
  have hT : ∀ b, b ≠ gN h → gT (nO t 6 h) b = gT h b := fun b hb => by rw [gT_nO, if_neg hb]
  have hTn : gT (nO t 6 h) (gN h) = t := by rw [gT_nO, if_pos rfl]
  obtain ⟨R1, R2⟩ := x.new (h' := nO t 6 h) (cell := ce) rfl hT k2 (fun _ => by
      refine ⟨by rw [hTn]; exact hce, fun k ty hk => ?_, fun z1 z2 => (by rw [hTn] at z2; omega)⟩
      rw [hTn, fTy_none (by omega) (by omega)] at hk
      cases hk) (fun b c hb => Ro_nO hb)
  have key := (r9 _ _ rE hE q).2 p e s m args below meth c h0 X y1 (by rw [gN_nO]; omega) (by rw [gS_nO]; omega) ls hL _ (locs ++ L9) R1 (y.new rfl hT x.1 x.2.1 y1) (fun z hz => (List.mem_append.mp hz).elim (u z) (fun z9 => by rw [k3 z z9, x.1]; omega))
  rw [rv_some.mpr R2, gN_nO, gS_nO] at key
  exact W.cs (by omega) (by omega) key
/-- the exception q over this method's frame at pc -/
def PfX {α : Type} (w : Wd) (M : Mc) (en : α → Option Value ⊕ Nat) (pc : Nat) (L : List (Nat × Value)) (G : List (Nat × Nat)) (q : Nat) (o : Option (α × PH)) (h : PH) : Prop :=
  ∀ (rE : α) (hE : PH), o = some (rE, hE) → (gN h ≤ gN hE ∧ gS h ≤ gS hE) ∧ ∀ (p : Program) (e : Env) (s : State) (m : MethodId) (args : Array Value) (below : List Frame) (meth : Method) (c : Code) (h0 : PH), Cx p s m args meth c w M → NC ≤ gN h0 → gN h0 ≤ gN h → gS h0 ≤ gS h →
    ∀ (ls : Array Slot), lh w ls M.2.2.1 L G → ∀ (H : Heap) (locs : List Loc), Rep w h H → Fr w h0 s.heap h H → (∀ q ∈ locs, wdN w ≤ q.base) → NC ≤ q → gT h q ≠ 0 → ∀ (a : Addr), rvo w q = some a → ∀ (rest : List Value),
      vx_W p (wdL w) e (mkR M.2.2.2.2.2.1 M.2.2.2.2.2.2 h0 hE) s m args below meth c H locs (gN h - gN h0) (gS h - gS h0) (QQ w below args s h0 hE (en rE)) (F0 m pc ls rest) a
theorem PfX.none {M : Mc} {q : Nat} : PfX w M en pc L G q none h := fun _ _ z => by cases z
theorem Rep.thrown {H : Heap} {q a : Nat} (hR : Rep w h H) (hq : NC ≤ q) (hg : gT h q ≠ 0) (ha : rvo w q = some a) : ∃ ce : Cell, H[a]? = some ce ∧ ce.vm = .none ∧ ce.cls = wdA w (gT h q) := by
  obtain ⟨a2, ce, h1, -, h3, -, -, h6, h7⟩ := hR.2.2.2.2.2 q hg
  cases h1.symm.trans ha
  exact ⟨ce, h3, h6 hq, h7.1⟩
theorem tab_out {c : Code} {tb : List (Nat × Nat × Nat × Nat)} (h1 : c.exceptionTable.toList = tableOf tb) (h2 : (tb.all fun z => !(decide (z.1 ≤ pc) && decide (pc < z.2.1))) = true) : ∀ x ∈ c.exceptionTable.toList, covers x pc = false := by
  intro x hx
  rw [h1] at hx
  obtain ⟨z, hz, rfl⟩ := List.mem_map.mp hx
  have := List.all_eq_true.mp h2 z hz
  simp only [Bool.not_eq_true', Bool.and_eq_false_iff, decide_eq_false_iff_not] at this
  unfold covers
  simp only [Bool.and_eq_false_iff, decide_eq_false_iff_not]
  exact this
/-- nobody catches it here -/
theorem x_out {q : Nat} (hout : ((tabN own nm).all fun z => !(decide (z.1 ≤ pc) && decide (pc < z.2.1))) = true) : PfX w (own, cc, nL, nm, ret, fr, lw) (eX en) pc L G q (some (.inl q, h)) h := by
  intro rE hE z
  cases z
  refine ⟨⟨Nat.le_refl _, Nat.le_refl _⟩, fun p e s m args below meth c h0 X y1 y2 y3 ls hL H locs x y u hq hg a ha rest => ?_⟩
  intro T hT Z
  obtain ⟨ce, c1, c2, -⟩ := x.thrown hq hg ha
  obtain ⟨st1, hrun, hend, hW, hsm⟩ := Z.leaveThrown a (g := F0 m pc ls rest) rfl rfl rfl (tab_out X.2.2.2.2.2.2.2.2.2.1 hout) X.2.2.2.2.2.2.1
  have e1 : (T.setFrames (.throwing a :: below)).heap = H := hT
  exact ⟨_, st1, .threw a, hrun, hend, a, ce, locs, ha, hq, hg, rfl, by rw [e1]; exact c1, c2, by rw [e1]; exact x, by rw [e1]; exact y, hW, hsm, u⟩
def o_thr {α : Type} (v : Nat) (h : PH) (k : Option α) : Option α := if NC ≤ v ∧ gT h v ≠ 0 then k else none
/-- athrow -/
theorem r_athrow {q : Nat} (d : decode cc pc = .ok (.athrow, 1)) (r9 : PfX w (own, cc, nL, nm, ret, fr, lw) en pc L G q o h) : Pf w (own, cc, nL, nm, ret, fr, lw) en pc L G (rv w q :: rest) (o_thr q h o) h := by
  unfold o_thr
  split
  next hc =>
    refine fun rE hE z => ⟨(r9 rE hE z).1, fun p e s m args below meth c h0 X y1 y2 y3 ls hL H locs x y u => ?_⟩
    obtain ⟨a, ce, a1, -, a3, a4, a5, a6, a7⟩ := x.2.2.2.2.2 q hc.2
    have k := (r9 rE hE z).2 p e s m args below meth c h0 X y1 y2 y3 ls hL H locs x y u hc.1 hc.2 a a1 rest
    rw [rv_some.mpr a1]
    intro T hT Z
    obtain ⟨t, b1, b2⟩ := k T hT Z
    refine ⟨t, ?_, b2⟩
    have d9 : decode c.code pc = .ok (.athrow, 1) := by rw [X.2.1]; exact d
    jvm_step Z.here [Z.here.top, X.1, d9]
    exact b1
  next => exact Pf.none
end PFX
section NXA
theorem nxat_300 {own : String} {ic : Nat} (ql : Cond.methodLink own ic (Bundle.init0 "java/lang/IllegalArgumentException") ∈ lw_all) (s s' : State) (args : Array Value) (hW : s.WarmedH s'.vm) (hv : s.vm = s'.vm) (hall : ∀ x ∈ lw_all, x.before args s = true) (hK : KW3 s) (hx : (Cond.isRef (.static Bundle.tN "UNASSIGNED_STACK" Bundle.steD)).before args s' = true ∧ (Cond.isRef (.static Bundle.tN "SUPPRESSED_SENTINEL" Bundle.listD)).before args s' = true ∧ (Cond.laysStatic Bundle.tN "UNASSIGNED_STACK" Bundle.steD).before args s' = true ∧ (Cond.laysStatic Bundle.tN "SUPPRESSED_SENTINEL" Bundle.listD).before args s' = true) :
    ∀ x ∈ Bundle.ownAtoms0 own ic "java/lang/IllegalArgumentException" ["java/lang/RuntimeException", "java/lang/Exception"], x.before args s' = true := by
  have a : ∀ {x : Cond}, x ∈ lw_all → vx_ot x = true → x.before args s' = true := fun hx hg => vx_ot_at hW hv hg (hall _ hx)
  have k : ∀ {x : Cond}, x ∈ lw_tbl → nwk x = true → x.onTables = true → x.before args s' = true := fun hx hn ho => vx_ot_at (args := args) hW hv (by unfold vx_ot; rw [ho]; rfl) (va_Nw.use ho (hK _ hx hn))
  exact vx_c (a q152 rfl) (vx_c (a q274 rfl) (vx_c (a q283 rfl) (vx_c (a q290 rfl) (vx_c (a q293 rfl) (vx_c (a q295 rfl) (vx_c (a q275 rfl) (vx_c (a q276 rfl) (vx_c (a q193 rfl) (vx_c (a q194 rfl) (vx_c (a q277 rfl) (vx_c (a q282 rfl) (vx_c (a q291 rfl) (vx_c (a q532 rfl) (vx_c (a q264 rfl) (vx_c (a q533 rfl) (vx_c (a q266 rfl) (vx_c (a q534 rfl) (vx_c (a q268 rfl) (vx_c (a q278 rfl) (vx_c hx.2.2.1 (vx_c (a q280 rfl) (vx_c hx.2.2.2 (vx_c (a q270 rfl) (vx_c (a q1484 rfl) (vx_c (a q1485 rfl) (vx_c (a q1486 rfl) (vx_c (a q1459 rfl) (vx_c (k q255 rfl rfl) (vx_c (a q1459 rfl) (vx_c (a q1460 rfl) (vx_c (a q1461 rfl) (vx_c (a q1462 rfl) (vx_c (k q257 rfl rfl) (vx_c (a q1462 rfl) (vx_c (a q1463 rfl) (vx_c (a q1464 rfl) (vx_c (a q275 rfl) (vx_c (k q259 rfl rfl) (vx_c (a ql rfl) (vx_c (a q253 rfl) (vx_c (k q254 rfl rfl) (vx_c (a q261 rfl) (vx_c (a q262 rfl) (vx_c (a q263 rfl) (vx_c (a q265 rfl) (vx_c (a q267 rfl) (vx_c (a q269 rfl) (vx_c hx.1 (vx_c hx.2.1 (vx_c (a q530 rfl) (vx_c (a q272 rfl) (vx_c (a q271 rfl) vx_n))))))))))))))))))))))))))))))))))))))))))))))))))))
theorem nxat_301 {own : String} {ic : Nat} (ql : Cond.methodLink own ic (Bundle.init0 "java/lang/IllegalStateException") ∈ lw_all) (s s' : State) (args : Array Value) (hW : s.WarmedH s'.vm) (hv : s.vm = s'.vm) (hall : ∀ x ∈ lw_all, x.before args s = true) (hK : KW3 s) (hx : (Cond.isRef (.static Bundle.tN "UNASSIGNED_STACK" Bundle.steD)).before args s' = true ∧ (Cond.isRef (.static Bundle.tN "SUPPRESSED_SENTINEL" Bundle.listD)).before args s' = true ∧ (Cond.laysStatic Bundle.tN "UNASSIGNED_STACK" Bundle.steD).before args s' = true ∧ (Cond.laysStatic Bundle.tN "SUPPRESSED_SENTINEL" Bundle.listD).before args s' = true) :
    ∀ x ∈ Bundle.ownAtoms0 own ic "java/lang/IllegalStateException" ["java/lang/RuntimeException", "java/lang/Exception"], x.before args s' = true := by
  have a : ∀ {x : Cond}, x ∈ lw_all → vx_ot x = true → x.before args s' = true := fun hx hg => vx_ot_at hW hv hg (hall _ hx)
  have k : ∀ {x : Cond}, x ∈ lw_tbl → nwk x = true → x.onTables = true → x.before args s' = true := fun hx hn ho => vx_ot_at (args := args) hW hv (by unfold vx_ot; rw [ho]; rfl) (va_Nw.use ho (hK _ hx hn))
  exact vx_c (a q152 rfl) (vx_c (a q274 rfl) (vx_c (a q283 rfl) (vx_c (a q290 rfl) (vx_c (a q293 rfl) (vx_c (a q295 rfl) (vx_c (a q275 rfl) (vx_c (a q276 rfl) (vx_c (a q193 rfl) (vx_c (a q194 rfl) (vx_c (a q277 rfl) (vx_c (a q282 rfl) (vx_c (a q291 rfl) (vx_c (a q532 rfl) (vx_c (a q264 rfl) (vx_c (a q533 rfl) (vx_c (a q266 rfl) (vx_c (a q534 rfl) (vx_c (a q268 rfl) (vx_c (a q278 rfl) (vx_c hx.2.2.1 (vx_c (a q280 rfl) (vx_c hx.2.2.2 (vx_c (a q270 rfl) (vx_c (a q1456 rfl) (vx_c (a q1457 rfl) (vx_c (a q1458 rfl) (vx_c (a q1459 rfl) (vx_c (k q255 rfl rfl) (vx_c (a q1459 rfl) (vx_c (a q1460 rfl) (vx_c (a q1461 rfl) (vx_c (a q1462 rfl) (vx_c (k q257 rfl rfl) (vx_c (a q1462 rfl) (vx_c (a q1463 rfl) (vx_c (a q1464 rfl) (vx_c (a q275 rfl) (vx_c (k q259 rfl rfl) (vx_c (a ql rfl) (vx_c (a q1447 rfl) (vx_c (k q1448 rfl rfl) (vx_c (a q1449 rfl) (vx_c (a q287 rfl) (vx_c (a q1450 rfl) (vx_c (a q1451 rfl) (vx_c (a q1452 rfl) (vx_c (a q1453 rfl) (vx_c hx.1 (vx_c hx.2.1 (vx_c (a q530 rfl) (vx_c (a q272 rfl) (vx_c (a q1454 rfl) vx_n))))))))))))))))))))))))))))))))))))))))))))))))))))
theorem nxat_302 {own : String} {ic : Nat} (ql : Cond.methodLink own ic (Bundle.init0 "java/lang/IndexOutOfBoundsException") ∈ lw_all) (s s' : State) (args : Array Value) (hW : s.WarmedH s'.vm) (hv : s.vm = s'.vm) (hall : ∀ x ∈ lw_all, x.before args s = true) (hK : KW3 s) (hx : (Cond.isRef (.static Bundle.tN "UNASSIGNED_STACK" Bundle.steD)).before args s' = true ∧ (Cond.isRef (.static Bundle.tN "SUPPRESSED_SENTINEL" Bundle.listD)).before args s' = true ∧ (Cond.laysStatic Bundle.tN "UNASSIGNED_STACK" Bundle.steD).before args s' = true ∧ (Cond.laysStatic Bundle.tN "SUPPRESSED_SENTINEL" Bundle.listD).before args s' = true) :
    ∀ x ∈ Bundle.ownAtoms0 own ic "java/lang/IndexOutOfBoundsException" ["java/lang/RuntimeException", "java/lang/Exception"], x.before args s' = true := by
  have a : ∀ {x : Cond}, x ∈ lw_all → vx_ot x = true → x.before args s' = true := fun hx hg => vx_ot_at hW hv hg (hall _ hx)
  have k : ∀ {x : Cond}, x ∈ lw_tbl → nwk x = true → x.onTables = true → x.before args s' = true := fun hx hn ho => vx_ot_at (args := args) hW hv (by unfold vx_ot; rw [ho]; rfl) (va_Nw.use ho (hK _ hx hn))
  exact vx_c (a q152 rfl) (vx_c (a q274 rfl) (vx_c (a q283 rfl) (vx_c (a q290 rfl) (vx_c (a q293 rfl) (vx_c (a q295 rfl) (vx_c (a q275 rfl) (vx_c (a q276 rfl) (vx_c (a q193 rfl) (vx_c (a q194 rfl) (vx_c (a q277 rfl) (vx_c (a q282 rfl) (vx_c (a q291 rfl) (vx_c (a q532 rfl) (vx_c (a q264 rfl) (vx_c (a q533 rfl) (vx_c (a q266 rfl) (vx_c (a q534 rfl) (vx_c (a q268 rfl) (vx_c (a q278 rfl) (vx_c hx.2.2.1 (vx_c (a q280 rfl) (vx_c hx.2.2.2 (vx_c (a q270 rfl) (vx_c (a q1789 rfl) (vx_c (a q1790 rfl) (vx_c (a q1791 rfl) (vx_c (a q1459 rfl) (vx_c (k q255 rfl rfl) (vx_c (a q1459 rfl) (vx_c (a q1460 rfl) (vx_c (a q1461 rfl) (vx_c (a q1462 rfl) (vx_c (k q257 rfl rfl) (vx_c (a q1462 rfl) (vx_c (a q1463 rfl) (vx_c (a q1464 rfl) (vx_c (a q275 rfl) (vx_c (k q259 rfl rfl) (vx_c (a ql rfl) (vx_c (a q1780 rfl) (vx_c (k q1781 rfl rfl) (vx_c (a q1782 rfl) (vx_c (a q288 rfl) (vx_c (a q1783 rfl) (vx_c (a q1784 rfl) (vx_c (a q1785 rfl) (vx_c (a q1786 rfl) (vx_c hx.1 (vx_c hx.2.1 (vx_c (a q530 rfl) (vx_c (a q272 rfl) (vx_c (a q1787 rfl) vx_n))))))))))))))))))))))))))))))))))))))))))))))))))))
theorem nx_X1_1 {w : Wd} {nm : String} {cc : ByteArray} {nL fr lw : Nat} {ret : Option FieldType} {α : Type} {en : α → Option Value ⊕ Nat} {h : PH} {pc : Nat} {rest : List Value} {L : List (Nat × Value)} {G : List (Nat × Nat)} {K : Nat → PH → Option (α × PH)} (hRm : 2 + 3 < fr ∧ 8 + (13 * (2 + 1) + 42) ≤ lw) (hl4 : rest.length ≤ 4) (d0 : decode cc pc = .ok (.new 1, 3)) (d3 : decode cc (pc + 3) = .ok (.dup, 1)) (d4 : decode cc (pc + 4) = .ok (.invokespecial 3, 3)) (r9 : ∀ q9 h1, Pf w ("HedgeMessages", cc, nL, nm, ret, fr, lw) en (pc + 7) L G (rv w q9 :: rest) (K q9 h1) h1) : Pf w ("HedgeMessages", cc, nL, nm, ret, fr, lw) en pc L G rest (o_no 302 6 h K) h :=
  r_nx (names := ["java/lang/RuntimeException", "java/lang/Exception"]) (by decide) (by decide) (by decide) q1779 q178 (nxat_302 q1788) hRm hl4 d0 d3 d4 r9
theorem nx_X1_7 {w : Wd} {nm : String} {cc : ByteArray} {nL fr lw : Nat} {ret : Option FieldType} {α : Type} {en : α → Option Value ⊕ Nat} {h : PH} {pc : Nat} {rest : List Value} {L : List (Nat × Value)} {G : List (Nat × Nat)} {K : Nat → PH → Option (α × PH)} (hRm : 2 + 3 < fr ∧ 8 + (13 * (2 + 1) + 42) ≤ lw) (hl4 : rest.length ≤ 4) (d0 : decode cc pc = .ok (.new 7, 3)) (d3 : decode cc (pc + 3) = .ok (.dup, 1)) (d4 : decode cc (pc + 4) = .ok (.invokespecial 9, 3)) (r9 : ∀ q9 h1, Pf w ("HedgeMessages", cc, nL, nm, ret, fr, lw) en (pc + 7) L G (rv w q9 :: rest) (K q9 h1) h1) : Pf w ("HedgeMessages", cc, nL, nm, ret, fr, lw) en pc L G rest (o_no 300 6 h K) h :=
  r_nx (names := ["java/lang/RuntimeException", "java/lang/Exception"]) (by decide) (by decide) (by decide) q1482 q155 (nxat_300 q1483) hRm hl4 d0 d3 d4 r9
theorem nx_X1_10 {w : Wd} {nm : String} {cc : ByteArray} {nL fr lw : Nat} {ret : Option FieldType} {α : Type} {en : α → Option Value ⊕ Nat} {h : PH} {pc : Nat} {rest : List Value} {L : List (Nat × Value)} {G : List (Nat × Nat)} {K : Nat → PH → Option (α × PH)} (hRm : 2 + 3 < fr ∧ 8 + (13 * (2 + 1) + 42) ≤ lw) (hl4 : rest.length ≤ 4) (d0 : decode cc pc = .ok (.new 10, 3)) (d3 : decode cc (pc + 3) = .ok (.dup, 1)) (d4 : decode cc (pc + 4) = .ok (.invokespecial 12, 3)) (r9 : ∀ q9 h1, Pf w ("HedgeMessages", cc, nL, nm, ret, fr, lw) en (pc + 7) L G (rv w q9 :: rest) (K q9 h1) h1) : Pf w ("HedgeMessages", cc, nL, nm, ret, fr, lw) en pc L G rest (o_no 301 6 h K) h :=
  r_nx (names := ["java/lang/RuntimeException", "java/lang/Exception"]) (by decide) (by decide) (by decide) q1446 q173 (nxat_301 q1455) hRm hl4 d0 d3 d4 r9
end NXA
