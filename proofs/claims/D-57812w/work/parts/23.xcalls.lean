/-! ===== calls that may throw ===== -/
def xxPost (w : Wd) (h0 hE : PH) (q mc ms : Nat) : Pt → Array Value → Addr → Pt → Prop := fun A _ qa B =>
  ∃ (t : State) (L : List Loc), B.U.heap = t.heap ∧ rvo w q = some qa ∧ NC ≤ q ∧ gT hE q ≠ 0 ∧ Rep w hE t.heap ∧ Fr w h0 A.U.heap hE t.heap ∧ B.locs = A.locs ++ L ∧ (∀ z ∈ L, wdN w ≤ z.base) ∧ B.cells = A.cells + mc ∧ B.slots = A.slots + ms
section XB
variable {l : Launch} {R : Room} {p : Program} {e : Env} {below : List Frame} {s : State} {sargs : Array Value} {y : MethodName} {len W9 : Nat}
/-- a callee whose contract says that it throws -/
theorem xx_back {w : Wd} {As : List Value} {h0 hE : PH} {q : Nat} {ws : List Cond} {rm : Room} {mc ms : Nat} {bytes : ByteArray} {maxL : Nat} {ret : Option FieldType} (hM : MetFree l y (headSpec ws rm) (pcp w As h0) (fun _ _ _ _ _ => True) (fun _ st o t => xq w h0 hE q mc ms (fun z => wdN w ≤ z) st o t)) (hrc : rm.cells = mc) (hrs : rm.slots = ms)
    (hframes : rm.frames + 1 ≤ R.frames) (hlocals : W9 + (maxL + 11) + rm.locals ≤ R.locals)
    (hws : ∀ w ∈ ws, ∀ a' U, s.WarmedH U.vm → w.before a' U = true) (hcode : Cond.code y bytes maxL ret ∈ ws) (hinit : ∀ a' U, s.WarmedH U.vm → (Cond.initialized y.cls).before a' U = true) :
    vx_Back l R p e below s sargs y len W9 (PreOf R mc ms (pcp w As h0)) (fun _ _ _ _ => False) (xxPost w h0 hE q mc ms) := by
  intro m meth c A g ig mk a X hg hsize hdg hW hn hp
  have h1 : (headSpec ws rm).pre.before a A.U = true := atoms_intro fun w hw => hws w hw _ _ X.warmed
  have h4 : A.cells + (headSpec ws rm).room.cells ≤ R.cells := by rw [show (headSpec ws rm).room.cells = mc from hrc]; exact hp.1
  have h5 : A.slots + (headSpec ws rm).room.slots ≤ R.slots := by rw [show (headSpec ws rm).room.slots = ms from hrs]; exact hp.2.1
  have hPc : pcp w As h0 a (A.U.calling g mk a) := pcp_blind _ _ _ _ hp.2.2
  obtain ⟨methY, cY, hmY, hcY, -, hlY, -⟩ := Cond.code_spec hn (hws _ hcode a A.U X.warmed)
  obtain ⟨kY, hkY, -⟩ := className_of_methodNamed hn
  have h : At A.U g.method c below := by rw [hg]; exact X.here
  have hloc : W9 + (maxL + 11) + (headSpec ws rm).room.locals ≤ R.locals := hlocals
  have happ : (headSpec ws rm).appliesLoose y e.platform (A.U.calling g mk a) = true :=
    Spec.appliesLoose_calling (g := g) h hdg hn hkY (Cond.initialized_spec (findClass_of_methodNamed hn) hkY (hinit a A.U X.warmed))
      (X.room_calling (g := g) (R' := (headSpec ws rm).room) hsize hmY hcY hframes (by rw [hlY]; omega) h4 h5) h1
  obtain ⟨mid, hmid⟩ := h.above
  obtain ⟨o, t, hsteps, -, hend, hq⟩ := Steps.callFree hM p X.admits X.cas X.clock (acts := []) (show (A.U.setTop g).frames = (.java g :: mid) ++ below by rw [State.frames_setTop' g h.top, hmid]; rfl) happ hPc trivial
  obtain ⟨qa, ce, L, g1, g2, g3, rfl, g4, g5, g6, g7, g8, g9, g10⟩ := hq
  rw [State.frames_setTop' g h.top] at hend
  obtain ⟨f0, hf0⟩ := Option.isSome_iff_exists.mp h.top
  obtain ⟨r, hr⟩ := State.topJava?_eq_some.mp hf0
  obtain ⟨r1, r2⟩ := id g9
  have hend' : t.frames = .throwing qa :: .java g :: A.U.frames.tail := hend
  have ht : t = ((({ A.U with heap := t.heap, slotsUsed := t.slotsUsed } : State).setVm t.vm).setTop g).pushFrame (.throwing qa) := by
    have e3 : t = ({ (A.U.calling g mk a).setFrames t.frames with heap := t.heap, slotsUsed := t.slotsUsed } : State).setVm t.vm := by
      have r1' : ({ t with vm := (A.U.calling g mk a).vm } : State) = ({ (A.U.calling g mk a).setFrames t.frames with heap := t.heap, slotsUsed := t.slotsUsed } : State) := r1
      have z : t = ({ t with vm := (A.U.calling g mk a).vm } : State).setVm t.vm := rfl
      rw [r1'] at z
      exact z
    have hr' : (({ A.U with heap := t.heap, slotsUsed := t.slotsUsed } : State).setVm t.vm).frames = .java f0 :: r := hr
    refine e3.trans ?_
    rw [hend', State.calling_eq h.top, State.setFrames_setFrames, State.pushFrame, State.frames_setTop _ hr', State.setTop_of_frames _ hr', State.setFrames_setFrames, hr]
    rfl
  have hWt : A.U.WarmedH t.vm := g8
  have hsame : A.U.sameButNew ({ A.U with heap := t.heap, slotsUsed := t.slotsUsed } : State) L mc ms := by
    refine ⟨?_, r2⟩
    obtain ⟨z, hz, -⟩ := State.frames_cons hr
    show ({ A.U with heap := t.heap, slotsUsed := t.slotsUsed } : State) = { A.U.setFrames A.U.frames with heap := t.heap, slotsUsed := t.slotsUsed }
    rw [State.setFrames_self hz]
  subst hg
  refine Or.inr ⟨qa, ⟨(({ A.U with heap := t.heap, slotsUsed := t.slotsUsed } : State).setVm t.vm), A.locs ++ L, A.cells + mc, A.slots + ms⟩,
    ⟨X.admits, X.cas, X.clock, X.frames, X.room, X.hears, X.method, X.code, (X.here.setHeapUsed t.heap t.slotsUsed).setVm hWt.alike, X.tail, State.WarmedH.trans X.warmed hWt, X.limits, X.bytes, X.same.trans (hsame.setVm s.vm)⟩,
    ⟨t, L, rfl, g1, g2, g3, g6, g7, rfl, g10, rfl, rfl⟩, ?_⟩
  show Steps p.tables e below _ (((({ A.U with heap := t.heap, slotsUsed := t.slotsUsed } : State).setVm t.vm).setTop g).pushFrame (.throwing qa))
  rw [← ht]
  exact hsteps
end XB
section XW
variable {p : Program} {e : Env} {R : Room} {s : State} {m : MethodId} {args : Array Value} {below : List Frame} {meth : Method} {c : Code} {Q : State → Prop} {w : Wd} {H : Heap} {locs : List Loc} {cells slots : Nat}
/-- behind a call that threw -/
theorem W.afterX {l : Launch} {mc ms q : Nat} {h h1 : PH} {a : Array Value} {rest : List Value} {g : JFrame} {h0 : PH} {H0 : Heap} (hF : Fr w h0 H0 h H) (hn0 : NC ≤ gN h0) (hl : ∀ q ∈ locs, wdN w ≤ q.base)
    (hr : ∀ T : State, T.heap = H → Stand p l e R s m args below meth c T locs cells slots → ∃ (qa : Addr) (vm₁ : Vm) (B : Pt), s.WarmedH vm₁ ∧ Stand p l e R s m args below meth c B.U B.locs B.cells B.slots ∧ xxPost w h h1 q mc ms ⟨T.setVm vm₁, locs, cells, slots⟩ a qa B ∧ Steps p.tables e below (T.setTop g) ((B.U.setTop { g with stack := rest }).pushFrame (.throwing qa)))
    (k : ∀ (H' : Heap) (locs' : List Loc) (qa : Addr), rvo w q = some qa → NC ≤ q → gT h1 q ≠ 0 → Rep w h1 H' → Fr w h0 H0 h1 H' → (∀ q ∈ locs', wdN w ≤ q.base) → vx_W p l e R s m args below meth c H' locs' (cells + mc) (slots + ms) Q { g with stack := rest } qa) : W p l e R s m args below meth c H locs cells slots Q g := by
  intro T hT X
  obtain ⟨qa, vm₁, ⟨U, l2, c2, s2⟩, -, X', ⟨t, L, e1, g1, g2, g3, g6, g7, e2, hL, e3, e4⟩, st⟩ := hr T hT X
  dsimp only [Pt.U, Pt.locs, Pt.cells, Pt.slots] at X' e1 e2 e3 e4 st g7
  subst e2; subst e3; subst e4
  have g7 : Fr w h H h1 t.heap := by rw [← hT]; exact g7
  obtain ⟨t2, a1, b1⟩ := k U.heap _ qa g1 g2 g3 (by rw [e1]; exact g6) (by rw [e1]; exact hF.trans g7 hn0) (fun z hz => (List.mem_append.mp hz).elim (hl z) (hL z)) U rfl X'
  exact ⟨t2, st.trans a1, b1⟩
theorem vx_cs {l : Launch} {cells' slots' : Nat} {g : JFrame} {q : Addr} (hc : cells = cells') (hs : slots = slots') (k : vx_W p l e R s m args below meth c H locs cells' slots' Q g q) : vx_W p l e R s m args below meth c H locs cells slots Q g q := by
  subst hc; subst hs; exact k
theorem x_callSN {T : State} {l : Launch} (X : Stand p l e R s m args below meth c T locs cells slots) (hexec : p.tables.exec = Jvm.exec) {own : String} {index : Nat} {host : String} {y : MethodName} {bytes : ByteArray} {maxL : Nat} {ret : Option FieldType}
    (hown : s.vm.findClass own = some m.cls) (hlink : (Cond.methodLinkNest own index y host).before args s = true) (hstat : (Cond.static y).before args s = true) (hinit : (Cond.initialized y.cls).before args s = true)
    (hcode : (Cond.code y bytes maxL ret).before args s = true) (hy : y.cls ≠ "java/lang/invoke/MethodHandle" ∧ y.cls ≠ "java/lang/invoke/VarHandle")
    {W9 : Nat} {Pre : Pt → Array Value → Prop} {Post : Pt → Array Value → Option Value → Pt → Prop} {PostX : Pt → Array Value → Addr → Pt → Prop} (hK : vx_Back l R p e below s args y 3 W9 Pre Post PostX)
    {g : JFrame} (hg : g.method = m) (hsize : g.locals.size = c.maxLocals) {argsL rest : List Value} (hlen : ∀ sig, parseMethodDescriptor y.desc = some sig → argsL.length = sig.parameters.length)
    (hstack : g.stack = argsL.reverse ++ rest) (hW : 2 * g.monitorRoom + (rest.map fun v => v.category).sum ≤ W9) (hdg : decode c.code g.pc = .ok (.invokestatic index, 3))
    (hpre : ∀ vm₁, s.WarmedH vm₁ → Pre ⟨T.setVm vm₁, locs, cells, slots⟩ argsL.toArray) :
    (∃ (v : Option Value) (vm₁ : Vm) (B : Pt), s.WarmedH vm₁ ∧ Stand p l e R s m args below meth c B.U B.locs B.cells B.slots ∧ Post ⟨T.setVm vm₁, locs, cells, slots⟩ argsL.toArray v B ∧
      ∀ target, Steps p.tables e below (B.U.setTop { g with pc := g.pc + 3, stack := v.toList ++ rest }) target → Steps p.tables e below (T.setTop g) target) ∨
    (∃ (q : Addr) (vm₁ : Vm) (B : Pt), s.WarmedH vm₁ ∧ Stand p l e R s m args below meth c B.U B.locs B.cells B.slots ∧ PostX ⟨T.setVm vm₁, locs, cells, slots⟩ argsL.toArray q B ∧
      Steps p.tables e below (T.setTop g) ((B.U.setTop { g with stack := rest }).pushFrame (.throwing q))) := by
  obtain ⟨mk, hnamed⟩ := Cond.code_named hcode
  obtain ⟨methM, cM, hmethM, -, -, -, -, -, -, hsigM⟩ := Cond.code_spec hnamed hcode
  obtain ⟨kP, hkP, -⟩ := className_of_methodNamed hnamed
  obtain ⟨vm₁, X₁, go⟩ := X.invokestaticNest hexec hown hlink hnamed hmethM (Cond.static_spec hnamed hmethM hstat) hkP (Cond.initialized_spec (findClass_of_methodNamed hnamed) hkP hinit) hy (g := g) hg (argsL := argsL) (rest := rest) (hlen _ hsigM) hstack hdg
  rcases hK m meth c ⟨T.setVm vm₁, locs, cells, slots⟩ { g with stack := rest } (.invokestatic index) mk argsL.toArray X₁ hg hsize hdg hW (X₁.named hnamed) (hpre vm₁ X₁.warmed) with ⟨v, B, X', hpost, hsteps⟩ | ⟨q, B, X', hpost, hsteps⟩
  · exact Or.inl ⟨v, vm₁, B, X₁.warmed, X', hpost, fun target h => go _ fun acts => by rw [doInvoke_state]; exact hsteps.trans h⟩
  · exact Or.inr ⟨q, vm₁, B, X₁.warmed, X', hpost, go _ fun acts => by rw [doInvoke_state]; exact hsteps⟩
end XW
section PF5
variable {w : Wd} {own nm : String} {cc : ByteArray} {nL fr lw : Nat} {ret : Option FieldType} {α β : Type} {en : α → Option Value ⊕ Nat} {o : Option (α × PH)} {h : PH} {pc : Nat} {rest st0 : List Value} {L L' : List (Nat × Value)} {G G' : List (Nat × Nat)}
theorem r_xVi {y : MethodName} {index n fr2 lw2 nL2 t b : Nat} {C : String} {cc2 : ByteArray} {ret2 : Option FieldType} {As : List Value} {oc : Option ((Nat ⊕ Int32) × PH)} {k : Int32 → PH → Option (α × PH)} {kx : Nat → PH → Option (α × PH)} (ht : 1 ≤ t ∧ t < 100) {r : vz_C} (hr : gcl[t - 1]? = some r) (hC : r.1 = C) (hM : ∀ x h1, oc = some (x, h1) → Ctr w y (ws_ y cc2 nL2 ret2) fr2 lw2 (rv w b :: As) h (match x with | .inl q => .inr q | .inr x => .inl (some (.int x))) h1) (q1 : Cond.methodLink own index y ∈ lw_all) (q2 : Cond.instanceMethod y ∈ lw_all) (q3 : Cond.selects C y y ∈ lw_all) (q4 : Cond.initialized y.cls ∈ lw_all) (q5 : Cond.code y cc2 nL2 ret2 ∈ lw_all) (hy : y.cls ≠ "java/lang/invoke/MethodHandle" ∧ y.cls ≠ "java/lang/invoke/VarHandle" ∧ (parseMethodDescriptor y.desc).map (fun d => d.parameters.length) = some n) (hn : As.length = n) (hRm : fr2 + 1 ≤ fr ∧ 8 + (nL2 + 11) + lw2 ≤ lw) (hs8 : (rest.map fun v => v.category).sum ≤ 8) (hst : As.reverse ++ rv w b :: rest = st0) (d : decode cc pc = .ok (.invokevirtual index, 3))
    (r9 : ∀ x h1, Pf w (own, cc, nL, nm, ret, fr, lw) en (pc + 3) L G (.int x :: rest) (k x h1) h1) (rx : ∀ q h1, PfX w (own, cc, nL, nm, ret, fr, lw) en pc L G q (kx q h1) h1) : Pf w (own, cc, nL, nm, ret, fr, lw) en pc L G st0 (o_ck t b h (o_callX oc k kx)) h := by
  match oc, hM with
  | none, _ => exact by unfold o_ck; split <;> exact Pf.none
  | some (.inr x, h1), hM =>
    exact r_cVi (oc := some (x, h1)) (k := k) ht hr hC (fun x2 h2 e2 => by cases e2; exact hM _ _ rfl) q1 q2 q3 q4 q5 hy hn hRm hs8 hst d r9
  | some (.inl q, h1), hM =>
    unfold o_ck
    by_cases hta : gT h b = t
    · rw [if_pos hta]
      refine fun rE hE z => ?_
      have hc := hM _ _ rfl
      have m1 := hc.1
      have z : kx q h1 = some (rE, hE) := z
      have r9x := rx q h1 rE hE z
      have m2 := r9x.1
      refine ⟨⟨by omega, by omega⟩, fun p e s m args below meth c h0 X y1 y2 y3 ls hL H locs x y9 u => ?_⟩
      have hMet := hc.2 (by omega)
      obtain ⟨qb, hb, hrc⟩ := recv_ok x X.2.2.2.2.2.1 hta ht hr hC
      rw [hb] at hMet
      obtain ⟨⟨w1, w2, w3, w4, w5, w6, w7, w8, w9, w10, w11⟩, w12, w13⟩ := callW_of (R := mkR fr lw h0 hE) (s := s) (args := args) (own := own) (C := C) (index := index) (mc := gN h1 - gN h) (ms := gS h1 - gS h) (rm := mkR fr2 lw2 h h1) (n := n) X.2.2.2.2.1 q1 q2 q3 q4 q5 rfl rfl hy hRm
      have hK := xx_back (l := wdL w) (R := mkR fr lw h0 hE) (p := p) (e := e) (below := below) (s := s) (sargs := args) (len := 3) (W9 := 8) (bytes := cc2) (maxL := nL2) (ret := ret2) hMet rfl rfl w3 w4 w5 w6 (fun a' U hW => word_at hW (Or.inl (by first | rfl | simp [Cond.onTables, Cond.keeps, Cond.steady])) w8)
      obtain ⟨cellB, hcB, hoB, hclB⟩ := hrc
      refine W.afterX (rest := rest) (a := (Value.ref qb :: As).toArray) (q := q) (h1 := h1) (mc := gN h1 - gN h) (ms := gS h1 - gS h) y9 y1 u (fun T hT Z => ?_) (fun H1 locs1 qa a1 a2 a3 a4 a5 a6 => ?_)
      · rcases vx_callV Z X.1 (C := C) (bytes := cc2) (maxL := nL2) (ret := ret2) X.2.2.2.1 w11 w12 w13 w7 w9 hK (by rw [hT]; exact hcB) hoB hclB (g := F0 m pc ls st0) rfl (hL.size.trans X.2.2.1.symm) (argsL := As) (rest := rest) (fun sig hh => hn.trans (w10 sig hh)) (by rw [← hst, hb]) (lv_room hs8) (by rw [X.2.1]; exact d)
          (fun vm₁ hW₁ => ⟨by show gN h - gN h0 + (gN h1 - gN h) ≤ gN hE - gN h0; omega, by show gS h - gS h0 + (gS h1 - gS h) ≤ gS hE - gS h0; omega, rfl, X.2.2.2.2.2.1.warm hW₁, by rw [show (T.setVm vm₁).heap = H from hT]; exact x⟩) with ⟨_, _, _, _, _, hf, _⟩ | ⟨qa, vm₁, Bq, b1, b2, b3, b4⟩
        · exact hf.elim
        · exact ⟨qa, vm₁, Bq, b1, b2, b3, b4⟩
      · have kk := r9x.2 p e s m args below meth c h0 X y1 (by omega) (by omega) ls hL H1 locs1 a4 a5 a6 a2 a3 qa a1 rest
        exact vx_cs (by omega) (by omega) kk
    · rw [if_neg hta]; exact Pf.none
theorem r_xVr {y : MethodName} {index n fr2 lw2 nL2 t b : Nat} {C : String} {cc2 : ByteArray} {ret2 : Option FieldType} {As : List Value} {oc : Option ((Nat ⊕ Nat) × PH)} {k : Nat → PH → Option (α × PH)} {kx : Nat → PH → Option (α × PH)} (ht : 1 ≤ t ∧ t < 100) {r : vz_C} (hr : gcl[t - 1]? = some r) (hC : r.1 = C) (hM : ∀ x h1, oc = some (x, h1) → Ctr w y (ws_ y cc2 nL2 ret2) fr2 lw2 (rv w b :: As) h (match x with | .inl q => .inr q | .inr x => .inl (some (rv w x))) h1) (q1 : Cond.methodLink own index y ∈ lw_all) (q2 : Cond.instanceMethod y ∈ lw_all) (q3 : Cond.selects C y y ∈ lw_all) (q4 : Cond.initialized y.cls ∈ lw_all) (q5 : Cond.code y cc2 nL2 ret2 ∈ lw_all) (hy : y.cls ≠ "java/lang/invoke/MethodHandle" ∧ y.cls ≠ "java/lang/invoke/VarHandle" ∧ (parseMethodDescriptor y.desc).map (fun d => d.parameters.length) = some n) (hn : As.length = n) (hRm : fr2 + 1 ≤ fr ∧ 8 + (nL2 + 11) + lw2 ≤ lw) (hs8 : (rest.map fun v => v.category).sum ≤ 8) (hst : As.reverse ++ rv w b :: rest = st0) (d : decode cc pc = .ok (.invokevirtual index, 3))
    (r9 : ∀ x h1, Pf w (own, cc, nL, nm, ret, fr, lw) en (pc + 3) L G (rv w x :: rest) (k x h1) h1) (rx : ∀ q h1, PfX w (own, cc, nL, nm, ret, fr, lw) en pc L G q (kx q h1) h1) : Pf w (own, cc, nL, nm, ret, fr, lw) en pc L G st0 (o_ck t b h (o_callX oc k kx)) h := by
  match oc, hM with
  | none, _ => exact by unfold o_ck; split <;> exact Pf.none
  | some (.inr x, h1), hM =>
    exact r_cVr (oc := some (x, h1)) (k := k) ht hr hC (fun x2 h2 e2 => by cases e2; exact hM _ _ rfl) q1 q2 q3 q4 q5 hy hn hRm hs8 hst d r9
  | some (.inl q, h1), hM =>
    unfold o_ck
    by_cases hta : gT h b = t
    · rw [if_pos hta]
      refine fun rE hE z => ?_
      have hc := hM _ _ rfl
      have m1 := hc.1
      have z : kx q h1 = some (rE, hE) := z
      have r9x := rx q h1 rE hE z
      have m2 := r9x.1
      refine ⟨⟨by omega, by omega⟩, fun p e s m args below meth c h0 X y1 y2 y3 ls hL H locs x y9 u => ?_⟩
      have hMet := hc.2 (by omega)
      obtain ⟨qb, hb, hrc⟩ := recv_ok x X.2.2.2.2.2.1 hta ht hr hC
      rw [hb] at hMet
      obtain ⟨⟨w1, w2, w3, w4, w5, w6, w7, w8, w9, w10, w11⟩, w12, w13⟩ := callW_of (R := mkR fr lw h0 hE) (s := s) (args := args) (own := own) (C := C) (index := index) (mc := gN h1 - gN h) (ms := gS h1 - gS h) (rm := mkR fr2 lw2 h h1) (n := n) X.2.2.2.2.1 q1 q2 q3 q4 q5 rfl rfl hy hRm
      have hK := xx_back (l := wdL w) (R := mkR fr lw h0 hE) (p := p) (e := e) (below := below) (s := s) (sargs := args) (len := 3) (W9 := 8) (bytes := cc2) (maxL := nL2) (ret := ret2) hMet rfl rfl w3 w4 w5 w6 (fun a' U hW => word_at hW (Or.inl (by first | rfl | simp [Cond.onTables, Cond.keeps, Cond.steady])) w8)
      obtain ⟨cellB, hcB, hoB, hclB⟩ := hrc
      refine W.afterX (rest := rest) (a := (Value.ref qb :: As).toArray) (q := q) (h1 := h1) (mc := gN h1 - gN h) (ms := gS h1 - gS h) y9 y1 u (fun T hT Z => ?_) (fun H1 locs1 qa a1 a2 a3 a4 a5 a6 => ?_)
      · rcases vx_callV Z X.1 (C := C) (bytes := cc2) (maxL := nL2) (ret := ret2) X.2.2.2.1 w11 w12 w13 w7 w9 hK (by rw [hT]; exact hcB) hoB hclB (g := F0 m pc ls st0) rfl (hL.size.trans X.2.2.1.symm) (argsL := As) (rest := rest) (fun sig hh => hn.trans (w10 sig hh)) (by rw [← hst, hb]) (lv_room hs8) (by rw [X.2.1]; exact d)
          (fun vm₁ hW₁ => ⟨by show gN h - gN h0 + (gN h1 - gN h) ≤ gN hE - gN h0; omega, by show gS h - gS h0 + (gS h1 - gS h) ≤ gS hE - gS h0; omega, rfl, X.2.2.2.2.2.1.warm hW₁, by rw [show (T.setVm vm₁).heap = H from hT]; exact x⟩) with ⟨_, _, _, _, _, hf, _⟩ | ⟨qa, vm₁, Bq, b1, b2, b3, b4⟩
        · exact hf.elim
        · exact ⟨qa, vm₁, Bq, b1, b2, b3, b4⟩
      · have kk := r9x.2 p e s m args below meth c h0 X y1 (by omega) (by omega) ls hL H1 locs1 a4 a5 a6 a2 a3 qa a1 rest
        exact vx_cs (by omega) (by omega) kk
    · rw [if_neg hta]; exact Pf.none
theorem r_xVu {y : MethodName} {index n fr2 lw2 nL2 t b : Nat} {C : String} {cc2 : ByteArray} {ret2 : Option FieldType} {As : List Value} {oc : Option ((Nat ⊕ Unit) × PH)} {k : Unit → PH → Option (α × PH)} {kx : Nat → PH → Option (α × PH)} (ht : 1 ≤ t ∧ t < 100) {r : vz_C} (hr : gcl[t - 1]? = some r) (hC : r.1 = C) (hM : ∀ x h1, oc = some (x, h1) → Ctr w y (ws_ y cc2 nL2 ret2) fr2 lw2 (rv w b :: As) h (match x with | .inl q => .inr q | .inr x => .inl (none)) h1) (q1 : Cond.methodLink own index y ∈ lw_all) (q2 : Cond.instanceMethod y ∈ lw_all) (q3 : Cond.selects C y y ∈ lw_all) (q4 : Cond.initialized y.cls ∈ lw_all) (q5 : Cond.code y cc2 nL2 ret2 ∈ lw_all) (hy : y.cls ≠ "java/lang/invoke/MethodHandle" ∧ y.cls ≠ "java/lang/invoke/VarHandle" ∧ (parseMethodDescriptor y.desc).map (fun d => d.parameters.length) = some n) (hn : As.length = n) (hRm : fr2 + 1 ≤ fr ∧ 8 + (nL2 + 11) + lw2 ≤ lw) (hs8 : (rest.map fun v => v.category).sum ≤ 8) (hst : As.reverse ++ rv w b :: rest = st0) (d : decode cc pc = .ok (.invokevirtual index, 3))
    (r9 : ∀ x h1, Pf w (own, cc, nL, nm, ret, fr, lw) en (pc + 3) L G (rest) (k x h1) h1) (rx : ∀ q h1, PfX w (own, cc, nL, nm, ret, fr, lw) en pc L G q (kx q h1) h1) : Pf w (own, cc, nL, nm, ret, fr, lw) en pc L G st0 (o_ck t b h (o_callX oc k kx)) h := by
  match oc, hM with
  | none, _ => exact by unfold o_ck; split <;> exact Pf.none
  | some (.inr x, h1), hM =>
    exact r_cVu (oc := some (x, h1)) (k := k) ht hr hC (fun x2 h2 e2 => by cases e2; exact hM _ _ rfl) q1 q2 q3 q4 q5 hy hn hRm hs8 hst d r9
  | some (.inl q, h1), hM =>
    unfold o_ck
    by_cases hta : gT h b = t
    · rw [if_pos hta]
      refine fun rE hE z => ?_
      have hc := hM _ _ rfl
      have m1 := hc.1
      have z : kx q h1 = some (rE, hE) := z
      have r9x := rx q h1 rE hE z
      have m2 := r9x.1
      refine ⟨⟨by omega, by omega⟩, fun p e s m args below meth c h0 X y1 y2 y3 ls hL H locs x y9 u => ?_⟩
      have hMet := hc.2 (by omega)
      obtain ⟨qb, hb, hrc⟩ := recv_ok x X.2.2.2.2.2.1 hta ht hr hC
      rw [hb] at hMet
      obtain ⟨⟨w1, w2, w3, w4, w5, w6, w7, w8, w9, w10, w11⟩, w12, w13⟩ := callW_of (R := mkR fr lw h0 hE) (s := s) (args := args) (own := own) (C := C) (index := index) (mc := gN h1 - gN h) (ms := gS h1 - gS h) (rm := mkR fr2 lw2 h h1) (n := n) X.2.2.2.2.1 q1 q2 q3 q4 q5 rfl rfl hy hRm
      have hK := xx_back (l := wdL w) (R := mkR fr lw h0 hE) (p := p) (e := e) (below := below) (s := s) (sargs := args) (len := 3) (W9 := 8) (bytes := cc2) (maxL := nL2) (ret := ret2) hMet rfl rfl w3 w4 w5 w6 (fun a' U hW => word_at hW (Or.inl (by first | rfl | simp [Cond.onTables, Cond.keeps, Cond.steady])) w8)
      obtain ⟨cellB, hcB, hoB, hclB⟩ := hrc
      refine W.afterX (rest := rest) (a := (Value.ref qb :: As).toArray) (q := q) (h1 := h1) (mc := gN h1 - gN h) (ms := gS h1 - gS h) y9 y1 u (fun T hT Z => ?_) (fun H1 locs1 qa a1 a2 a3 a4 a5 a6 => ?_)
      · rcases vx_callV Z X.1 (C := C) (bytes := cc2) (maxL := nL2) (ret := ret2) X.2.2.2.1 w11 w12 w13 w7 w9 hK (by rw [hT]; exact hcB) hoB hclB (g := F0 m pc ls st0) rfl (hL.size.trans X.2.2.1.symm) (argsL := As) (rest := rest) (fun sig hh => hn.trans (w10 sig hh)) (by rw [← hst, hb]) (lv_room hs8) (by rw [X.2.1]; exact d)
          (fun vm₁ hW₁ => ⟨by show gN h - gN h0 + (gN h1 - gN h) ≤ gN hE - gN h0; omega, by show gS h - gS h0 + (gS h1 - gS h) ≤ gS hE - gS h0; omega, rfl, X.2.2.2.2.2.1.warm hW₁, by rw [show (T.setVm vm₁).heap = H from hT]; exact x⟩) with ⟨_, _, _, _, _, hf, _⟩ | ⟨qa, vm₁, Bq, b1, b2, b3, b4⟩
        · exact hf.elim
        · exact ⟨qa, vm₁, Bq, b1, b2, b3, b4⟩
      · have kk := r9x.2 p e s m args below meth c h0 X y1 (by omega) (by omega) ls hL H1 locs1 a4 a5 a6 a2 a3 qa a1 rest
        exact vx_cs (by omega) (by omega) kk
    · rw [if_neg hta]; exact Pf.none
theorem r_xSu {y : MethodName} {index n fr2 lw2 nL2 : Nat} {cc2 : ByteArray} {ret2 : Option FieldType} {As : List Value} {oc : Option ((Nat ⊕ Unit) × PH)} {k : Unit → PH → Option (α × PH)} {kx : Nat → PH → Option (α × PH)}  (hM : ∀ x h1, oc = some (x, h1) → Ctr w y (ws_ y cc2 nL2 ret2) fr2 lw2 (As) h (match x with | .inl q => .inr q | .inr x => .inl (none)) h1) (q1 : Cond.methodLink own index y ∈ lw_all) (q2 : Cond.static y ∈ lw_all) (q4 : Cond.initialized y.cls ∈ lw_all) (q5 : Cond.code y cc2 nL2 ret2 ∈ lw_all) (hy : y.cls ≠ "java/lang/invoke/MethodHandle" ∧ y.cls ≠ "java/lang/invoke/VarHandle" ∧ (parseMethodDescriptor y.desc).map (fun d => d.parameters.length) = some n) (hn : As.length = n) (hRm : fr2 + 1 ≤ fr ∧ 8 + (nL2 + 11) + lw2 ≤ lw) (hs8 : (rest.map fun v => v.category).sum ≤ 8) (hst : As.reverse ++ rest = st0) (d : decode cc pc = .ok (.invokestatic index, 3))
    (r9 : ∀ x h1, Pf w (own, cc, nL, nm, ret, fr, lw) en (pc + 3) L G (rest) (k x h1) h1) (rx : ∀ q h1, PfX w (own, cc, nL, nm, ret, fr, lw) en pc L G q (kx q h1) h1) : Pf w (own, cc, nL, nm, ret, fr, lw) en pc L G st0 (o_callX oc k kx) h := by
  match oc, hM with
  | none, _ => exact Pf.none
  | some (.inr x, h1), hM =>
    exact r_cSu (oc := some (x, h1)) (k := k) (fun x2 h2 e2 => by cases e2; exact hM _ _ rfl) q1 q2 q4 q5 hy hn hRm hs8 hst d r9
  | some (.inl q, h1), hM =>
    refine fun rE hE z => ?_
    have hc := hM _ _ rfl
    have m1 := hc.1
    have z : kx q h1 = some (rE, hE) := z
    have r9x := rx q h1 rE hE z
    have m2 := r9x.1
    refine ⟨⟨by omega, by omega⟩, fun p e s m args below meth c h0 X y1 y2 y3 ls hL H locs x y9 u => ?_⟩
    have hMet := hc.2 (by omega)
    obtain ⟨⟨w1, w2, w3, w4, w5, w6, w7, w8, w9, w10, w11⟩, w12⟩ := va_cwS (R := mkR fr lw h0 hE) (s := s) (args := args) (own := own) (index := index) (mc := gN h1 - gN h) (ms := gS h1 - gS h) (rm := mkR fr2 lw2 h h1) n X.2.2.2.2.1 (lw_S q1 q2 q4 q5) rfl rfl rfl hy hRm
    have hK := xx_back (l := wdL w) (R := mkR fr lw h0 hE) (p := p) (e := e) (below := below) (s := s) (sargs := args) (len := 3) (W9 := 8) (bytes := cc2) (maxL := nL2) (ret := ret2) hMet rfl rfl w3 w4 w5 w6 (fun a' U hW => word_at hW (Or.inl (by first | rfl | simp [Cond.onTables, Cond.keeps, Cond.steady])) w8)
    refine W.afterX (rest := rest) (a := As.toArray) (q := q) (h1 := h1) (mc := gN h1 - gN h) (ms := gS h1 - gS h) y9 y1 u (fun T hT Z => ?_) (fun H1 locs1 qa a1 a2 a3 a4 a5 a6 => ?_)
    · rcases vx_callS Z X.1 (bytes := cc2) (maxL := nL2) (ret := ret2) X.2.2.2.1 w11 w12 w8 w7 w9 hK (g := F0 m pc ls st0) rfl (hL.size.trans X.2.2.1.symm) (argsL := As) (rest := rest) (fun sig hh => hn.trans (w10 sig hh)) hst.symm (lv_room hs8) (by rw [X.2.1]; exact d)
        (fun vm₁ hW₁ => ⟨by show gN h - gN h0 + (gN h1 - gN h) ≤ gN hE - gN h0; omega, by show gS h - gS h0 + (gS h1 - gS h) ≤ gS hE - gS h0; omega, rfl, X.2.2.2.2.2.1.warm hW₁, by rw [show (T.setVm vm₁).heap = H from hT]; exact x⟩) with ⟨_, _, _, _, _, hf, _⟩ | ⟨qa, vm₁, Bq, b1, b2, b3, b4⟩
      · exact hf.elim
      · exact ⟨qa, vm₁, Bq, b1, b2, b3, b4⟩
    · have kk := r9x.2 p e s m args below meth c h0 X y1 (by omega) (by omega) ls hL H1 locs1 a4 a5 a6 a2 a3 qa a1 rest
      exact vx_cs (by omega) (by omega) kk
theorem r_xSi {y : MethodName} {index n fr2 lw2 nL2 : Nat} {cc2 : ByteArray} {ret2 : Option FieldType} {As : List Value} {oc : Option ((Nat ⊕ Int32) × PH)} {k : Int32 → PH → Option (α × PH)} {kx : Nat → PH → Option (α × PH)}  (hM : ∀ x h1, oc = some (x, h1) → Ctr w y (ws_ y cc2 nL2 ret2) fr2 lw2 (As) h (match x with | .inl q => .inr q | .inr x => .inl (some (.int x))) h1) (q1 : Cond.methodLink own index y ∈ lw_all) (q2 : Cond.static y ∈ lw_all) (q4 : Cond.initialized y.cls ∈ lw_all) (q5 : Cond.code y cc2 nL2 ret2 ∈ lw_all) (hy : y.cls ≠ "java/lang/invoke/MethodHandle" ∧ y.cls ≠ "java/lang/invoke/VarHandle" ∧ (parseMethodDescriptor y.desc).map (fun d => d.parameters.length) = some n) (hn : As.length = n) (hRm : fr2 + 1 ≤ fr ∧ 8 + (nL2 + 11) + lw2 ≤ lw) (hs8 : (rest.map fun v => v.category).sum ≤ 8) (hst : As.reverse ++ rest = st0) (d : decode cc pc = .ok (.invokestatic index, 3))
    (r9 : ∀ x h1, Pf w (own, cc, nL, nm, ret, fr, lw) en (pc + 3) L G (.int x :: rest) (k x h1) h1) (rx : ∀ q h1, PfX w (own, cc, nL, nm, ret, fr, lw) en pc L G q (kx q h1) h1) : Pf w (own, cc, nL, nm, ret, fr, lw) en pc L G st0 (o_callX oc k kx) h := by
  match oc, hM with
  | none, _ => exact Pf.none
  | some (.inr x, h1), hM =>
    exact r_cSi (oc := some (x, h1)) (k := k) (fun x2 h2 e2 => by cases e2; exact hM _ _ rfl) q1 q2 q4 q5 hy hn hRm hs8 hst d r9
  | some (.inl q, h1), hM =>
    refine fun rE hE z => ?_
    have hc := hM _ _ rfl
    have m1 := hc.1
    have z : kx q h1 = some (rE, hE) := z
    have r9x := rx q h1 rE hE z
    have m2 := r9x.1
    refine ⟨⟨by omega, by omega⟩, fun p e s m args below meth c h0 X y1 y2 y3 ls hL H locs x y9 u => ?_⟩
    have hMet := hc.2 (by omega)
    obtain ⟨⟨w1, w2, w3, w4, w5, w6, w7, w8, w9, w10, w11⟩, w12⟩ := va_cwS (R := mkR fr lw h0 hE) (s := s) (args := args) (own := own) (index := index) (mc := gN h1 - gN h) (ms := gS h1 - gS h) (rm := mkR fr2 lw2 h h1) n X.2.2.2.2.1 (lw_S q1 q2 q4 q5) rfl rfl rfl hy hRm
    have hK := xx_back (l := wdL w) (R := mkR fr lw h0 hE) (p := p) (e := e) (below := below) (s := s) (sargs := args) (len := 3) (W9 := 8) (bytes := cc2) (maxL := nL2) (ret := ret2) hMet rfl rfl w3 w4 w5 w6 (fun a' U hW => word_at hW (Or.inl (by first | rfl | simp [Cond.onTables, Cond.keeps, Cond.steady])) w8)
    refine W.afterX (rest := rest) (a := As.toArray) (q := q) (h1 := h1) (mc := gN h1 - gN h) (ms := gS h1 - gS h) y9 y1 u (fun T hT Z => ?_) (fun H1 locs1 qa a1 a2 a3 a4 a5 a6 => ?_)
    · rcases vx_callS Z X.1 (bytes := cc2) (maxL := nL2) (ret := ret2) X.2.2.2.1 w11 w12 w8 w7 w9 hK (g := F0 m pc ls st0) rfl (hL.size.trans X.2.2.1.symm) (argsL := As) (rest := rest) (fun sig hh => hn.trans (w10 sig hh)) hst.symm (lv_room hs8) (by rw [X.2.1]; exact d)
        (fun vm₁ hW₁ => ⟨by show gN h - gN h0 + (gN h1 - gN h) ≤ gN hE - gN h0; omega, by show gS h - gS h0 + (gS h1 - gS h) ≤ gS hE - gS h0; omega, rfl, X.2.2.2.2.2.1.warm hW₁, by rw [show (T.setVm vm₁).heap = H from hT]; exact x⟩) with ⟨_, _, _, _, _, hf, _⟩ | ⟨qa, vm₁, Bq, b1, b2, b3, b4⟩
      · exact hf.elim
      · exact ⟨qa, vm₁, Bq, b1, b2, b3, b4⟩
    · have kk := r9x.2 p e s m args below meth c h0 X y1 (by omega) (by omega) ls hL H1 locs1 a4 a5 a6 a2 a3 qa a1 rest
      exact vx_cs (by omega) (by omega) kk
theorem r_xSNi {y : MethodName} {index n fr2 lw2 nL2 : Nat} {cc2 : ByteArray} {ret2 : Option FieldType} {As : List Value} {oc : Option ((Nat ⊕ Int32) × PH)} {k : Int32 → PH → Option (α × PH)} {kx : Nat → PH → Option (α × PH)}  (hM : ∀ x h1, oc = some (x, h1) → Ctr w y (ws_ y cc2 nL2 ret2) fr2 lw2 (As) h (match x with | .inl q => .inr q | .inr x => .inl (some (.int x))) h1) {host : String} (q1 : Cond.methodLinkNest own index y host ∈ lw_tbl) (q2 : Cond.static y ∈ lw_all) (q4 : Cond.initialized y.cls ∈ lw_all) (q5 : Cond.code y cc2 nL2 ret2 ∈ lw_all) (hy : y.cls ≠ "java/lang/invoke/MethodHandle" ∧ y.cls ≠ "java/lang/invoke/VarHandle" ∧ (parseMethodDescriptor y.desc).map (fun d => d.parameters.length) = some n) (hn : As.length = n) (hRm : fr2 + 1 ≤ fr ∧ 8 + (nL2 + 11) + lw2 ≤ lw) (hs8 : (rest.map fun v => v.category).sum ≤ 8) (hst : As.reverse ++ rest = st0) (d : decode cc pc = .ok (.invokestatic index, 3))
    (r9 : ∀ x h1, Pf w (own, cc, nL, nm, ret, fr, lw) en (pc + 3) L G (.int x :: rest) (k x h1) h1) (rx : ∀ q h1, PfX w (own, cc, nL, nm, ret, fr, lw) en pc L G q (kx q h1) h1) : Pf w (own, cc, nL, nm, ret, fr, lw) en pc L G st0 (o_callX oc k kx) h := by
  match oc, hM with
  | none, _ => exact Pf.none
  | some (.inr x, h1), hM =>
    exact r_cSNi (oc := some (x, h1)) (k := k) (fun x2 h2 e2 => by cases e2; exact hM _ _ rfl) q1 q2 q4 q5 hy hn hRm hs8 hst d r9
  | some (.inl q, h1), hM =>
    refine fun rE hE z => ?_
    have hc := hM _ _ rfl
    have m1 := hc.1
    have z : kx q h1 = some (rE, hE) := z
    have r9x := rx q h1 rE hE z
    have m2 := r9x.1
    refine ⟨⟨by omega, by omega⟩, fun p e s m args below meth c h0 X y1 y2 y3 ls hL H locs x y9 u => ?_⟩
    have hMet := hc.2 (by omega)
    obtain ⟨⟨w1, w2, w3, w4, w5, w6⟩, w7, w8, w9, w10, w11⟩ := va_cnB (R := mkR fr lw h0 hE) (s := s) (args := args) (own := own) (host := host) (index := index) (mc := gN h1 - gN h) (ms := gS h1 - gS h) (rm := mkR fr2 lw2 h h1) n X.2.2.2.2.1 (lw_meth q5) rfl rfl rfl (X.2.2.2.2.2.1.2.2.1 _ q1 rfl) (X.2.2.2.2.1 _ q4) hy hRm
    have hK := xx_back (l := wdL w) (R := mkR fr lw h0 hE) (p := p) (e := e) (below := below) (s := s) (sargs := args) (len := 3) (W9 := 8) (bytes := cc2) (maxL := nL2) (ret := ret2) hMet rfl rfl w3 w4 w5 w6 (fun a' U hW => word_at hW (Or.inl (by first | rfl | simp [Cond.onTables, Cond.keeps, Cond.steady])) w8)
    refine W.afterX (rest := rest) (a := As.toArray) (q := q) (h1 := h1) (mc := gN h1 - gN h) (ms := gS h1 - gS h) y9 y1 u (fun T hT Z => ?_) (fun H1 locs1 qa a1 a2 a3 a4 a5 a6 => ?_)
    · rcases x_callSN Z X.1 (bytes := cc2) (maxL := nL2) (ret := ret2) X.2.2.2.1 w11 (X.2.2.2.2.1 _ q2) w8 w7 w9 hK (g := F0 m pc ls st0) rfl (hL.size.trans X.2.2.1.symm) (argsL := As) (rest := rest) (fun sig hh => hn.trans (w10 sig hh)) hst.symm (lv_room hs8) (by rw [X.2.1]; exact d)
        (fun vm₁ hW₁ => ⟨by show gN h - gN h0 + (gN h1 - gN h) ≤ gN hE - gN h0; omega, by show gS h - gS h0 + (gS h1 - gS h) ≤ gS hE - gS h0; omega, rfl, X.2.2.2.2.2.1.warm hW₁, by rw [show (T.setVm vm₁).heap = H from hT]; exact x⟩) with ⟨_, _, _, _, _, hf, _⟩ | ⟨qa, vm₁, Bq, b1, b2, b3, b4⟩
      · exact hf.elim
      · exact ⟨qa, vm₁, Bq, b1, b2, b3, b4⟩
    · have kk := r9x.2 p e s m args below meth c h0 X y1 (by omega) (by omega) ls hL H1 locs1 a4 a5 a6 a2 a3 qa a1 rest
      exact vx_cs (by omega) (by omega) kk
theorem ho_nil {o n : String} {pc : Nat} (h : tabN o n = []) : ((tabN o n).all fun z => !(decide (z.1 ≤ pc) && decide (pc < z.2.1))) = true := by
  rw [h]
  rfl
theorem cls_ex {s : State} {cls : String} {t : Nat} (hK : KW w s) (h : (cls, t) ∈ exTab) : s.vm.findClass cls = some (wdA w t) := hK.2.2.2.2.2.2.2.1.2.2.1 _ h
theorem cls_gcl {s : State} {t : Nat} {r : vz_C} (hK : KW w s) (ht : 1 ≤ t ∧ t < 100) (hr : gcl[t - 1]? = some r) : s.vm.findClass r.1 = some (wdA w t) := (hK.1 t r ht.1 ht.2 hr).2.1
/-- caught by a row of the table that names the class of the tag t -/
theorem x_catch {q t a b hpc ct : Nat} {cls : String} {pre suf : List (Nat × Nat × Nat × Nat)} (htab : tabN own nm = pre ++ (a, b, hpc, ct) :: suf) (hpass : ∀ z ∈ pre, (decide (z.1 ≤ pc) && decide (pc < z.2.1)) = false ∨ (z.2.2.2 ≠ 0 ∧ ∃ n2 : String, Cond.classLink own z.2.2.2 n2 ∈ lw_all ∧ (cls, n2) ∈ ncTab))
    (hx : (decide (a ≤ pc) && decide (pc < b)) = true) (h0 : ct ≠ 0) (hlink : Cond.classLink own ct cls ∈ lw_all) (hcast : Cond.castable cls cls ∈ lw_tbl) (hcl : ∀ s : State, KW w s → s.vm.findClass cls = some (wdA w t)) {o1 : Option (α × PH)}
    (r9 : gT h q = t → Pf w (own, cc, nL, nm, ret, fr, lw) en hpc L G [rv w q] o h) (r8 : gT h q ≠ t → PfX w (own, cc, nL, nm, ret, fr, lw) en pc L G q o1 h) : PfX w (own, cc, nL, nm, ret, fr, lw) en pc L G q (if gT h q = t then o else o1) h := by
  by_cases ht : gT h q = t
  · rw [if_pos ht]
    have r9 := r9 ht
    refine fun rE hE z => ⟨(r9 rE hE z).1, fun p e s m args below meth c h0' X y1 y2 y3 ls hL H locs x y u hq hg a9 ha rest => ?_⟩
    obtain ⟨ce, c1, c2, c3⟩ := x.thrown hq hg ha
    have hKs := X.2.2.2.2.2.1
    have k := (r9 rE hE z).2 p e s m args below meth c h0' X y1 y2 y3 ls hL H locs x y u
    rw [rv_some.mpr ha] at k
    have hsp : c.exceptionTable.toList = tableOf pre ++ ⟨a, b, hpc, ct⟩ :: tableOf suf := by
      rw [X.2.2.2.2.2.2.2.2.2.1, htab]
      show List.map _ _ = _
      rw [List.map_append]
      rfl
    exact vx_catch X.2.2.2.1 (tableOf pre) ⟨a, b, hpc, ct⟩ (tableOf suf) hsp (fun z2 hz2 => by
      obtain ⟨z3, hz3, rfl⟩ := List.mem_map.mp hz2
      rcases hpass z3 hz3 with h9 | ⟨h9, n2, hn2, hn3⟩
      · exact Or.inl h9
      · exact Or.inr ⟨h9, n2, X.2.2.2.2.1 _ hn2, hKs.2.2.2.2.2.2.2.1.2.2.2 _ hn3⟩) hx h0 (X.2.2.2.2.1 _ hlink) (va_Nw.use rfl (hKs.2.2.1 _ hcast rfl)) c1 c2 (by rw [c3, ht]; exact hcl s hKs) k
  · rw [if_neg ht]; exact r8 ht
def isEx (t : Nat) : Bool := t == 13 || t == 300 || t == 301 || t == 302
def o_any {α : Type} (q : Nat) (h : PH) (k : Option α) : Option α := if isEx (gT h q) = true then k else none
theorem isEx_cls {s : State} {t : Nat} (hK : KW w s) (h : isEx t = true) : ∃ kX, s.vm.classes[wdA w t]? = some kX := by
  unfold isEx at h
  simp only [Bool.or_eq_true, beq_iff_eq] at h
  have key : ∀ cls : String, s.vm.findClass cls = some (wdA w t) → ∃ kX, s.vm.classes[wdA w t]? = some kX := fun cls z => by
    obtain ⟨kX, hk, -⟩ := Vm.findClass_spec z
    exact ⟨kX, hk⟩
  rcases h with ((z | z) | z) | z
  · subst z; exact key _ (cls_gcl hK (t := 13) (by decide) gcl_13)
  · subst z; exact key _ (cls_ex (t := 300) hK (List.mem_cons_self))
  · subst z; exact key _ (cls_ex (t := 301) hK (List.mem_cons_of_mem _ List.mem_cons_self))
  · subst z; exact key _ (cls_ex (t := 302) hK (List.mem_cons_of_mem _ (List.mem_cons_of_mem _ List.mem_cons_self)))
/-- caught by a row for all -/
theorem x_any {q a b hpc : Nat} {pre suf : List (Nat × Nat × Nat × Nat)} (htab : tabN own nm = pre ++ (a, b, hpc, 0) :: suf) (hpass : ∀ z ∈ pre, (decide (z.1 ≤ pc) && decide (pc < z.2.1)) = false)
    (hx : (decide (a ≤ pc) && decide (pc < b)) = true) (r9 : Pf w (own, cc, nL, nm, ret, fr, lw) en hpc L G [rv w q] o h) : PfX w (own, cc, nL, nm, ret, fr, lw) en pc L G q (o_any q h o) h := by
  unfold o_any
  by_cases hex : isEx (gT h q) = true
  rotate_left
  · rw [if_neg hex]; exact PfX.none
  rw [if_pos hex]
  refine fun rE hE z => ⟨(r9 rE hE z).1, fun p e s m args below meth c h0' X y1 y2 y3 ls hL H locs x y u hq hg a9 ha rest => ?_⟩
  obtain ⟨ce, c1, c2, c3⟩ := x.thrown hq hg ha
  have k := (r9 rE hE z).2 p e s m args below meth c h0' X y1 y2 y3 ls hL H locs x y u
  rw [rv_some.mpr ha] at k
  have hsp : c.exceptionTable.toList = tableOf pre ++ ⟨a, b, hpc, 0⟩ :: tableOf suf := by
    rw [X.2.2.2.2.2.2.2.2.2.1, htab]
    show List.map _ _ = _
    rw [List.map_append]
    rfl
  intro T hT Z
  obtain ⟨kX, hkX⟩ : ∃ kX, s.vm.classes[ce.cls]? = some kX := by
    rw [c3]
    exact isEx_cls X.2.2.2.2.2.1 hex
  obtain ⟨vm', Z', st⟩ := Z.thenCaughtThrough a9 (g := F0 m pc ls rest) rfl (Steps.refl _) (by rw [hT]; exact c1) (by rw [c2]; rfl) ⟨kX, hkX⟩ (tableOf pre) ⟨a, b, hpc, 0⟩ (tableOf suf) hsp
    (fun z2 hz2 => by
      obtain ⟨z3, hz3, rfl⟩ := List.mem_map.mp hz2
      exact Or.inl (hpass z3 hz3)) hx (Or.inl rfl)
  obtain ⟨t, b1, b2⟩ := k (T.setVm vm') hT Z'
  exact ⟨t, st.trans b1, b2⟩
end PF5
