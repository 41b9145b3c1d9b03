/-! ===== null tests, comparisons of references, casts, statics, String constants, ends ===== -/
section PF3
variable {w : Wd} {own nm : String} {cc : ByteArray} {nL fr lw : Nat} {ret : Option FieldType} {α β : Type} {en : α → Option Value ⊕ Nat} {o : Option (α × PH)} {h : PH} {pc : Nat} {rest : List Value} {L L' : List (Nat × Value)} {G G' : List (Nat × Nat)}
theorem rv_nn {H : Heap} {a : Nat} (hR : Rep w h H) (ha : gT h a ≠ 0 ∨ NC ≤ a) : ∃ q, rv w a = .ref q := by
  rcases ha with ha | ha
  · obtain ⟨q, cell, h1, -⟩ := hR.2.2.2.2.2 a ha
    exact ⟨q, rv_some.mpr h1⟩
  · exact ⟨_, rv_new ha⟩
theorem r_ifnull {a : Nat} {off : Int} {tgt : Nat} {o1 o2 : Option (α × PH)} (d : decode cc pc = .ok (.ifnull off, 3)) (ht : (pc : Int) + off = (tgt : Int)) (r1 : a = 0 → Pf w (own, cc, nL, nm, ret, fr, lw) en tgt L G rest o1 h) (r2 : ¬ a = 0 → Pf w (own, cc, nL, nm, ret, fr, lw) en (pc + 3) L G rest o2 h) :
    Pf w (own, cc, nL, nm, ret, fr, lw) en pc L G (rv w a :: rest) (o_nul a h o1 o2) h := by
  unfold o_nul
  by_cases ha : a = 0
  · rw [if_pos ha]
    exact Pf.lift (fun p e R s m args below meth c Q H locs cells slots ls X hl k => by rw [ha, rv_0]; exact lv_ifnullN X.1 X.2.1 d ht k) (r1 ha)
  · rw [if_neg ha]
    by_cases hn : gT h a ≠ 0 ∨ NC ≤ a
    · rw [if_pos hn]
      refine fun rE hE q => ⟨(r2 ha rE hE q).1, fun p e s m args below meth c h0 X y1 y2 y3 ls hL H locs x y u => ?_⟩
      obtain ⟨b, hb⟩ := rv_nn x hn
      rw [hb]
      exact lv_ifnull X.1 X.2.1 d ((r2 ha rE hE q).2 p e s m args below meth c h0 X y1 y2 y3 ls hL H locs x y u)
    · rw [if_neg hn]; exact Pf.none
theorem r_ifnonnull {a : Nat} {off : Int} {tgt : Nat} {o1 o2 : Option (α × PH)} (d : decode cc pc = .ok (.ifnonnull off, 3)) (ht : (pc : Int) + off = (tgt : Int)) (r1 : a = 0 → Pf w (own, cc, nL, nm, ret, fr, lw) en (pc + 3) L G rest o1 h) (r2 : ¬ a = 0 → Pf w (own, cc, nL, nm, ret, fr, lw) en tgt L G rest o2 h) :
    Pf w (own, cc, nL, nm, ret, fr, lw) en pc L G (rv w a :: rest) (o_nul a h o1 o2) h := by
  unfold o_nul
  by_cases ha : a = 0
  · rw [if_pos ha]
    exact Pf.lift (fun p e R s m args below meth c Q H locs cells slots ls X hl k => by rw [ha, rv_0]; exact lv_ifnonnullN X.1 X.2.1 d k) (r1 ha)
  · rw [if_neg ha]
    by_cases hn : gT h a ≠ 0 ∨ NC ≤ a
    · rw [if_pos hn]
      refine fun rE hE q => ⟨(r2 ha rE hE q).1, fun p e s m args below meth c h0 X y1 y2 y3 ls hL H locs x y u => ?_⟩
      obtain ⟨b, hb⟩ := rv_nn x hn
      rw [hb]
      exact lv_ifnonnull X.1 X.2.1 d ht ((r2 ha rE hE q).2 p e s m args below meth c h0 X y1 y2 y3 ls hL H locs x y u)
    · rw [if_neg hn]; exact Pf.none
theorem okne_ok {a b : Nat} (hK : KW5 w) (hne : a ≠ b) (hk : okne a b = true) : rvo w a ≠ rvo w b := by
  unfold okne at hk
  simp only [Bool.and_eq_true, Bool.or_eq_true, beq_iff_eq, bne_iff_ne, decide_eq_true_eq, ne_eq] at hk
  obtain ⟨⟨ha, hb⟩, hc⟩ := hk
  have key : ∀ x : Nat, (x = 0 ∨ NC ≤ x) ∨ ¬ grp x = 0 → (x = 0 ∧ rvo w x = none) ∨ (NC ≤ x ∧ rvo w x = some (wdN w + (x - NC))) ∨ (x ≠ 0 ∧ x < NC ∧ grp x ≠ 0 ∧ rvo w x = wdK w x ∧ ∃ q, wdK w x = some q ∧ q < wdN w) := by
    intro x hx
    by_cases hx0 : x = 0
    · exact Or.inl ⟨hx0, by rw [hx0]; rfl⟩
    · by_cases hxn : NC ≤ x
      · exact Or.inr (Or.inl ⟨hxn, rvo_new hxn⟩)
      · have hg : grp x ≠ 0 := by
          rcases hx with hx | hx
          · rcases hx with hx | hx
            · exact absurd hx hx0
            · exact absurd hx hxn
          · exact hx
        refine Or.inr (Or.inr ⟨hx0, by omega, hg, ?_, hK.1 x (by omega) hg⟩)
        unfold rvo
        rw [if_neg hx0, if_pos (by omega)]
  intro e
  rcases key a ha with ⟨a1, a2⟩ | ⟨a1, a2⟩ | ⟨a1, a2, a3, a4, q1, a5, a6⟩ <;> rcases key b hb with ⟨b1, b2⟩ | ⟨b1, b2⟩ | ⟨b1, b2, b3, b4, q2, b5, b6⟩
  · omega
  · rw [a2, b2] at e; cases e
  · rw [a2, b4, b5] at e; cases e
  · rw [a2, b2] at e; cases e
  · rw [a2, b2] at e
    have := Option.some.inj e
    omega
  · rw [a2, b4, b5] at e
    have := Option.some.inj e
    omega
  · rw [b2, a4, a5] at e; cases e
  · rw [a4, a5, b2] at e
    have := Option.some.inj e
    omega
  · rcases hc with hc | hc
    · omega
    · rw [a4, b4] at e
      exact hne (hK.2 a b a2 b2 a3 hc e)
theorem r_acmp_eq {a b : Nat} {off : Int} {tgt : Nat} {o1 o2 : Option (α × PH)} (d : decode cc pc = .ok (.if_acmp .eq off, 3)) (ht : (pc : Int) + off = (tgt : Int)) (r1 : a = b → Pf w (own, cc, nL, nm, ret, fr, lw) en tgt L G rest o1 h) (r2 : ¬ a = b → Pf w (own, cc, nL, nm, ret, fr, lw) en (pc + 3) L G rest o2 h) :
    Pf w (own, cc, nL, nm, ret, fr, lw) en pc L G (rv w b :: rv w a :: rest) (o_acmp a b o1 o2) h := by
  unfold o_acmp
  by_cases hab : a = b
  · rw [if_pos hab]
    exact Pf.lift (fun p e R s m args below meth c Q H locs cells slots ls X hl k => lv_acmp_eq X.1 X.2.1 d ht (fun _ => k) (fun z => absurd (by rw [hab]) z)) (r1 hab)
  · rw [if_neg hab]
    by_cases hn : okne a b = true
    · rw [if_pos hn]
      exact Pf.lift (fun p e R s m args below meth c Q H locs cells slots ls X hl k => lv_acmp_eq X.1 X.2.1 d ht (fun z => absurd z (okne_ok X.2.2.2.2.2.1.2.2.2.2.1 hab hn)) (fun _ => k)) (r2 hab)
    · rw [if_neg hn]; exact Pf.none
theorem r_acmp_ne {a b : Nat} {off : Int} {tgt : Nat} {o1 o2 : Option (α × PH)} (d : decode cc pc = .ok (.if_acmp .ne off, 3)) (ht : (pc : Int) + off = (tgt : Int)) (r1 : a = b → Pf w (own, cc, nL, nm, ret, fr, lw) en (pc + 3) L G rest o1 h) (r2 : ¬ a = b → Pf w (own, cc, nL, nm, ret, fr, lw) en tgt L G rest o2 h) :
    Pf w (own, cc, nL, nm, ret, fr, lw) en pc L G (rv w b :: rv w a :: rest) (o_acmp a b o1 o2) h := by
  unfold o_acmp
  by_cases hab : a = b
  · rw [if_pos hab]
    exact Pf.lift (fun p e R s m args below meth c Q H locs cells slots ls X hl k => lv_acmp_ne X.1 X.2.1 d ht (fun z => absurd (by rw [hab]) z) (fun _ => k)) (r1 hab)
  · rw [if_neg hab]
    by_cases hn : okne a b = true
    · rw [if_pos hn]
      exact Pf.lift (fun p e R s m args below meth c Q H locs cells slots ls X hl k => lv_acmp_ne X.1 X.2.1 d ht (fun _ => k) (fun z => absurd z (okne_ok X.2.2.2.2.2.1.2.2.2.2.1 hab hn))) (r2 hab)
    · rw [if_neg hn]; exact Pf.none
/-- the object's cell, as a receiver or an object that is cast -/
theorem Rep.obj {s : State} {H : Heap} {t a : Nat} {r : vz_C} (hR : Rep w h H) (hK : KW w s) (hta : gT h a = t) (ht : 1 ≤ t ∧ t < 100) (hr : gcl[t - 1]? = some r) : ∃ q, rv w a = .ref q ∧ rvo w a = some q ∧ ∃ cell : Cell, H[q]? = some cell ∧ cell.vm.isStatics = false ∧ s.vm.findClass r.1 = some cell.cls := by
  obtain ⟨q, cell, h1, -, h3, -, h5, -, h7⟩ := hR.2.2.2.2.2 a (by omega)
  have hKn := hK.1 t r ht.1 ht.2 hr
  exact ⟨q, rv_some.mpr h1, h1, cell, h3, h5, by rw [h7.1, hta]; exact hKn.2.1⟩
theorem r_castS {t a index : Nat} {nm2 : String} {r : vz_C} (ht : 1 ≤ t ∧ t < 100) (hr : gcl[t - 1]? = some r) (hn : r.1 = nm2) (hl : Cond.classLink own index nm2 ∈ lw_all) (d : decode cc pc = .ok (.checkcast index, 3))
    (r9 : Pf w (own, cc, nL, nm, ret, fr, lw) en (pc + 3) L G (rv w a :: rest) o h) : Pf w (own, cc, nL, nm, ret, fr, lw) en pc L G (rv w a :: rest) (o_cast t a h o) h := by
  unfold o_cast
  by_cases ha : a = 0 ∨ gT h a = t
  · rw [if_pos ha]
    by_cases h0 : a = 0
    · exact Pf.lift (fun p e R s m args below meth c Q H locs cells slots ls X hl9 k => by rw [h0, rv_0] at k ⊢; exact lv_castN X.1 X.2.1 d k) r9
    · have hta : gT h a = t := by rcases ha with z | z; exact absurd z h0; exact z
      refine fun rE hE q => ⟨(r9 rE hE q).1, fun p e s m args below meth c h0 X y1 y2 y3 ls hL H locs x y u => ?_⟩
      obtain ⟨b, hb, -, cell, c1, c2, c3⟩ := x.obj X.2.2.2.2.2.1 hta ht hr
      have k := (r9 rE hE q).2 p e s m args below meth c h0 X y1 y2 y3 ls hL H locs x y u
      rw [hb] at k ⊢
      exact va_castE X.1 X.2.1 X.2.2.2.1 (X.2.2.2.2.1 _ hl) ⟨cell, c1, c2, by rw [← hn]; exact c3⟩ d k
  · rw [if_neg ha]; exact Pf.none
theorem r_castY {t a index : Nat} {nm2 : String} {r : vz_C} (ht : 1 ≤ t ∧ t < 100) (hr : gcl[t - 1]? = some r) (hn : Cond.castable r.1 nm2 ∈ lw_tbl) (hl : Cond.classLink own index nm2 ∈ lw_all) (d : decode cc pc = .ok (.checkcast index, 3))
    (r9 : Pf w (own, cc, nL, nm, ret, fr, lw) en (pc + 3) L G (rv w a :: rest) o h) : Pf w (own, cc, nL, nm, ret, fr, lw) en pc L G (rv w a :: rest) (o_cast t a h o) h := by
  unfold o_cast
  by_cases ha : a = 0 ∨ gT h a = t
  · rw [if_pos ha]
    by_cases h0 : a = 0
    · exact Pf.lift (fun p e R s m args below meth c Q H locs cells slots ls X hl9 k => by rw [h0, rv_0] at k ⊢; exact lv_castN X.1 X.2.1 d k) r9
    · have hta : gT h a = t := by rcases ha with z | z; exact absurd z h0; exact z
      refine fun rE hE q => ⟨(r9 rE hE q).1, fun p e s m args below meth c h0 X y1 y2 y3 ls hL H locs x y u => ?_⟩
      obtain ⟨b, hb, -, hc⟩ := x.obj X.2.2.2.2.2.1 hta ht hr
      have k := (r9 rE hE q).2 p e s m args below meth c h0 X y1 y2 y3 ls hL H locs x y u
      rw [hb] at k ⊢
      exact va_castY X.1 X.2.1 X.2.2.2.1 (X.2.2.2.2.1 _ hl) (X.2.2.2.2.2.1.2.2.1 _ hn rfl) hc d k
  · rw [if_neg ha]; exact Pf.none
/-- an array is cast to its own type -/
theorem r_castA {t a index : Nat} {nm2 : String} {ty : FieldType} (hg : gaT t = some ty) (ht : t < 205) (hn : "[" ++ ty.toString = nm2) (hl : Cond.classLink own index nm2 ∈ lw_all) (d : decode cc pc = .ok (.checkcast index, 3))
    (r9 : Pf w (own, cc, nL, nm, ret, fr, lw) en (pc + 3) L G (rv w a :: rest) o h) : Pf w (own, cc, nL, nm, ret, fr, lw) en pc L G (rv w a :: rest) (o_cast t a h o) h := by
  unfold o_cast
  by_cases ha : a = 0 ∨ gT h a = t
  · rw [if_pos ha]
    by_cases h0 : a = 0
    · exact Pf.lift (fun p e R s m args below meth c Q H locs cells slots ls X hl9 k => by rw [h0, rv_0] at k ⊢; exact lv_castN X.1 X.2.1 d k) r9
    · have hta : gT h a = t := by rcases ha with z | z; exact absurd z h0; exact z
      refine fun rE hE q => ⟨(r9 rE hE q).1, fun p e s m args below meth c h0 X y1 y2 y3 ls hL H locs x y u => ?_⟩
      obtain ⟨b, cell, h1, -, h3, -, h5, -, -, -, -, h10, -⟩ := x.arr X.2.2.2.2.2.1.2.1 hta hg
      obtain ⟨kA, comp, -, -, k3⟩ := X.2.2.2.2.2.1.2.1 t _ hg
      have k := (r9 rE hE q).2 p e s m args below meth c h0 X y1 y2 y3 ls hL H locs x y u
      rw [rv_some.mpr h1] at k ⊢
      exact va_castE X.1 X.2.1 X.2.2.2.1 (X.2.2.2.2.1 _ hl) ⟨cell, h3, h5, by rw [← hn, h10]; exact (k3 ht).1⟩ d k
  · rw [if_neg ha]; exact Pf.none
theorem r_instS {t a index : Nat} {nm2 : String} {r : vz_C} (ht : 1 ≤ t ∧ t < 100) (hr : gcl[t - 1]? = some r) (hn : r.1 = nm2) (hl : Cond.classLink own index nm2 ∈ lw_all) (d : decode cc pc = .ok (.instanceof index, 3))
    (r9 : Pf w (own, cc, nL, nm, ret, fr, lw) en (pc + 3) L G (.int 1 :: rest) o h) : Pf w (own, cc, nL, nm, ret, fr, lw) en pc L G (rv w a :: rest) (o_ck t a h o) h := by
  unfold o_ck
  by_cases hta : gT h a = t
  · rw [if_pos hta]
    refine fun rE hE q => ⟨(r9 rE hE q).1, fun p e s m args below meth c h0 X y1 y2 y3 ls hL H locs x y u => ?_⟩
    obtain ⟨b, hb, -, cell, c1, c2, c3⟩ := x.obj X.2.2.2.2.2.1 hta ht hr
    rw [hb]
    exact va_instE X.1 X.2.1 X.2.2.2.1 (X.2.2.2.2.1 _ hl) ⟨cell, c1, c2, by rw [← hn]; exact c3⟩ d ((r9 rE hE q).2 p e s m args below meth c h0 X y1 y2 y3 ls hL H locs x y u)
  · rw [if_neg hta]; exact Pf.none
theorem v_gets {p : Program} {e : Env} {R : Room} {s : State} {m : MethodId} {args : Array Value} {below : List Frame} {meth : Method} {c : Code} {Q : State → Prop} {ls : Array Slot} {H : Heap} {locs : List Loc} {cells slots : Nat} {l : Launch} {C n d9 ref : String} {v : Value} {index : Nat} (hexec : p.tables.exec = Jvm.exec) (hb : c.code = cc) (hZ : va_Z C n d9 v (fun q => wdN w ≤ q) s (wdH w)) (hR : Rep w h H) (hown : s.vm.findClass own = some m.cls) (hlink : (Cond.fieldLink own index ref n d9).before args s = true) (href : ref = C) (hdg : decode cc pc = .ok (.getstatic index, 3))
    (kk : W p l e R s m args below meth c H locs cells slots Q (F0 m (pc + 3) ls (v :: rest))) : W p l e R s m args below meth c H locs cells slots Q (F0 m pc ls rest) := by
  obtain ⟨cf, kf, fi, f, a, cell, h1, h2, h3, h4, h5, h6, h7, h8⟩ := hZ
  subst href
  exact W.gets hexec hb hown hlink h1 h2 h3 h4 (by rw [hR.2.2.2.2.1 a (Nat.not_le.mp h8)]; exact h5) (fun e => by rw [e] at h6; cases h6) h7 rfl hdg kk
theorem r_gets {z : Nat} {C n d9 : String} {k index : Nat} (hz : stTab[z]? = some (C, n, d9, k)) (hl : Cond.fieldLink own index C n d9 ∈ lw_all) (d : decode cc pc = .ok (.getstatic index, 3))
    (r9 : Pf w (own, cc, nL, nm, ret, fr, lw) en (pc + 3) L G (rv w k :: rest) o h) : Pf w (own, cc, nL, nm, ret, fr, lw) en pc L G rest o h :=
  fun rE hE q => ⟨(r9 rE hE q).1, fun p e s m args below meth c h0 X y1 y2 y3 ls hL H locs x y u => v_gets X.1 X.2.1 (X.2.2.2.2.2.1.2.2.2.2.2.1.1 _ (List.mem_of_getElem? hz)) x X.2.2.2.1 (X.2.2.2.2.1 _ hl) rfl d ((r9 rE hE q).2 p e s m args below meth c h0 X y1 y2 y3 ls hL H locs x y u)⟩
theorem r_geti {z : Nat} {C n d9 : String} {k : Int32} {index : Nat} (hz : siTab[z]? = some (C, n, d9, k)) (hl : Cond.fieldLink own index C n d9 ∈ lw_all) (d : decode cc pc = .ok (.getstatic index, 3))
    (r9 : Pf w (own, cc, nL, nm, ret, fr, lw) en (pc + 3) L G (.int k :: rest) o h) : Pf w (own, cc, nL, nm, ret, fr, lw) en pc L G rest o h :=
  fun rE hE q => ⟨(r9 rE hE q).1, fun p e s m args below meth c h0 X y1 y2 y3 ls hL H locs x y u => v_gets X.1 X.2.1 (X.2.2.2.2.2.1.2.2.2.2.2.1.2.1 _ (List.mem_of_getElem? hz)) x X.2.2.2.1 (X.2.2.2.2.1 _ hl) rfl d ((r9 rE hE q).2 p e s m args below meth c h0 X y1 y2 y3 ls hL H locs x y u)⟩
theorem rv_con {k q : Nat} (hk : wdK w k = some q) (h1 : k ≠ 0) (h2 : k < NC) : rv w k = .ref q := by
  apply rv_some.mpr
  unfold rvo
  rw [if_neg h1, if_pos h2]
  exact hk
theorem r_ldcS {z : Nat} {tx : String} {k index : Nat} (hz : strTab[z]? = some (own, index, tx, k)) (hk : k ≠ 0 ∧ k < NC) (d : decode cc pc = .ok (.ldc index, 2))
    (r9 : Pf w (own, cc, nL, nm, ret, fr, lw) en (pc + 2) L G (rv w k :: rest) o h) : Pf w (own, cc, nL, nm, ret, fr, lw) en pc L G rest o h :=
  Pf.lift (fun p e R s m args below meth c Q H locs cells slots ls X hl j => by
    obtain ⟨q, q1, q2⟩ := X.2.2.2.2.2.1.2.2.2.2.2.2.1 _ (List.mem_of_getElem? hz)
    rw [rv_con q1 hk.1 hk.2] at j
    exact va_ldcS X.1 X.2.1 X.2.2.2.1 q2 d j) r9
theorem r_ldcSw {z : Nat} {tx : String} {k index : Nat} (hz : strTab[z]? = some (own, index, tx, k)) (hk : k ≠ 0 ∧ k < NC) (d : decode cc pc = .ok (.ldc_w index, 3))
    (r9 : Pf w (own, cc, nL, nm, ret, fr, lw) en (pc + 3) L G (rv w k :: rest) o h) : Pf w (own, cc, nL, nm, ret, fr, lw) en pc L G rest o h :=
  Pf.lift (fun p e R s m args below meth c Q H locs cells slots ls X hl j => by
    obtain ⟨q, q1, q2⟩ := X.2.2.2.2.2.1.2.2.2.2.2.2.1 _ (List.mem_of_getElem? hz)
    rw [rv_con q1 hk.1 hk.2] at j
    intro T hT X9
    obtain ⟨t, a, b⟩ := j T hT X9
    exact ⟨t, Stand.ldcStringW X9 X.1 X.2.2.2.1 (text := tx) (a := q) q2.1 q2.2 (g := F0 m pc ls rest) rfl (by rw [X.2.1]; exact d) t a, b⟩) r9
theorem r_ldcM {index : Nat} (hl : Cond.classLink own index "[Ljava/lang/Object;" ∈ lw_all) (d : decode cc pc = .ok (.ldc index, 2))
    (r9 : Pf w (own, cc, nL, nm, ret, fr, lw) en (pc + 2) L G (rv w 9 :: rest) o h) : Pf w (own, cc, nL, nm, ret, fr, lw) en pc L G rest o h :=
  Pf.lift (fun p e R s m args below meth c Q H locs cells slots ls X hl9 j => by
    obtain ⟨⟨q, q1, q2⟩, -⟩ := X.2.2.2.2.2.1.2.2.2.2.2.2.2.1
    rw [rv_con q1 (by decide) (by decide)] at j
    exact va_ldcM X.1 X.2.1 X.2.2.2.1 (X.2.2.2.2.1 _ hl) q2 d j) r9
theorem r_objInit {a index : Nat} (hl : Cond.methodLink own index Lib.objectInit ∈ lw_all) (h2 : Cond.instanceMethod Lib.objectInit ∈ lw_all) (h3 : Cond.code Lib.objectInit ⟨#[0xb1]⟩ 1 none ∈ lw_all) (hr : rest.length ≤ 4) (hfr : 1 ≤ fr ∧ 20 ≤ lw) (d : decode cc pc = .ok (.invokespecial index, 3))
    (r9 : Pf w (own, cc, nL, nm, ret, fr, lw) en (pc + 3) L G rest o h) : Pf w (own, cc, nL, nm, ret, fr, lw) en pc L G (rv w a :: rest) (o_nul a h none o) h := by
  unfold o_nul
  by_cases ha : a = 0
  · rw [if_pos ha]; exact Pf.none
  · rw [if_neg ha]
    by_cases hn : gT h a ≠ 0 ∨ NC ≤ a
    · rw [if_pos hn]
      refine fun rE hE q => ⟨(r9 rE hE q).1, fun p e s m args below meth c h0 X y1 y2 y3 ls hL H locs x y u => ?_⟩
      obtain ⟨b, hb⟩ := rv_nn x hn
      rw [hb]
      have hsum : (rest.map fun v => v.category).sum ≤ 8 := by
        have : ∀ l : List Value, (l.map fun v => v.category).sum ≤ 2 * l.length := by
          intro l
          induction l with
          | nil => simp
          | cons v l ih =>
            have := lv_cat v
            simp only [List.map_cons, List.sum_cons, List.length_cons]
            omega
        have := this rest
        omega
      exact W.objInit X.1 X.2.1 X.2.2.2.1 (X.2.2.2.2.1 _ hl) (X.2.2.2.2.1 _ h2) (X.2.2.2.2.1 _ h3) rfl (by rw [X.2.2.1]; exact hL.size) rfl d hfr.1 (by show 2 * 0 + _ + 12 ≤ lw; omega) ((r9 rE hE q).2 p e s m args below meth c h0 X y1 y2 y3 ls hL H locs x y u)
    · rw [if_neg hn]; exact Pf.none
theorem sum_cat (l : List Value) (hl : l.length ≤ 4) : (l.map fun v => v.category).sum ≤ 8 := by
  have : ∀ l : List Value, (l.map fun v => v.category).sum ≤ 2 * l.length := by
    intro l
    induction l with
    | nil => simp
    | cons v l ih =>
      have := lv_cat v
      simp only [List.map_cons, List.sum_cons, List.length_cons]
      omega
  have := this l
  omega
/-! ends -/
def eI (v : Int32) : Option Value ⊕ Nat := .inl (some (.int v))
def eL (v : Int64) : Option Value ⊕ Nat := .inl (some (.long v))
def eF (v : UInt32) : Option Value ⊕ Nat := .inl (some (.float v))
def eD (v : UInt64) : Option Value ⊕ Nat := .inl (some (.double v))
def eR (w : Wd) (v : Nat) : Option Value ⊕ Nat := .inl (some (rv w v))
def eU (_ : Unit) : Option Value ⊕ Nat := .inl none
/-- a method that answers or throws -/
def eX {α : Type} (en : α → Option Value ⊕ Nat) (v : Nat ⊕ α) : Option Value ⊕ Nat := match v with | .inl q => .inr q | .inr x => en x
theorem x_iret {v : Int32} {ty : FieldType} (hr : ret = some ty) (hn : narrow ty (.int v) = .int v) (d : decode cc pc = .ok (.ireturn, 1)) (rE : α) (he : en rE = .inl (some (.int v))) (hE : PH) (hh : hE = h) (p : Program) (e : Env) (s : State) (m : MethodId) (args : Array Value) (below : List Frame) (meth : Method) (c : Code) (h0 : PH) (X : Cx p s m args meth c w (own, cc, nL, nm, ret, fr, lw)) (ls : Array Slot) (H : Heap) (locs : List Loc) (x : Rep w h H) (y : Fr w h0 s.heap h H) (u : ∀ q ∈ locs, wdN w ≤ q.base) :
    W p (wdL w) e (mkR fr lw h0 hE) s m args below meth c H locs (gN h - gN h0) (gS h - gS h0) (QQ w below args s h0 hE (en rE)) (F0 m pc ls [.int v]) := by
  subst hh
  rw [he]
  exact W.zret X.1 X.2.1 (X.2.2.2.2.2.2.2.2.1.trans hr) hn (fun t ht _ => ⟨rfl, by rw [ht]; exact x, by rw [ht]; exact y⟩) u d X.2.2.2.2.2.2.1
theorem r_iret {v : Int32} {ty : FieldType} (hr : ret = some ty) (hn : narrow ty (.int v) = .int v) (d : decode cc pc = .ok (.ireturn, 1)) : Pf w (own, cc, nL, nm, ret, fr, lw) eI pc L G [.int v] (some (v, h)) h := by
  intro rE hE q
  cases q
  exact ⟨⟨Nat.le_refl _, Nat.le_refl _⟩, fun p e s m args below meth c h0 X y1 y2 y3 ls hL H locs x y u => x_iret hr hn d v rfl h rfl p e s m args below meth c h0 X ls H locs x y u⟩
/-- a boolean, a byte, a char -/
theorem r_kret {v : Int32} {ty : FieldType} (hr : ret = some ty) (hi : ty = .int ∨ ty = .boolean ∨ ty = .byte ∨ ty = .char ∨ ty = .short) {ck : Nat} (hc : fK ty = ck) (d : decode cc pc = .ok (.ireturn, 1)) : Pf w (own, cc, nL, nm, ret, fr, lw) eI pc L G [.int v] (o_fit ck v (some (v, h))) h := by
  unfold o_fit
  by_cases hv : fitK ck v = true
  · rw [if_pos hv]
    exact r_iret hr (fitK_ok (by rcases hi with z | z | z | z | z <;> rw [z] <;> rfl) hi (by rw [hc]; exact hv)).1 d
  · rw [if_neg hv]; exact Pf.none
theorem r_iretX {v : Int32} {ty : FieldType} (hr : ret = some ty) (hn : narrow ty (.int v) = .int v) (d : decode cc pc = .ok (.ireturn, 1)) : Pf w (own, cc, nL, nm, ret, fr, lw) (eX eI) pc L G [.int v] (some (.inr v, h)) h := by
  intro rE hE q
  cases q
  exact ⟨⟨Nat.le_refl _, Nat.le_refl _⟩, fun p e s m args below meth c h0 X y1 y2 y3 ls hL H locs x y u => x_iret hr hn d (Sum.inr v : Nat ⊕ Int32) rfl h rfl p e s m args below meth c h0 X ls H locs x y u⟩
theorem r_kretX {v : Int32} {ty : FieldType} (hr : ret = some ty) (hi : ty = .int ∨ ty = .boolean ∨ ty = .byte ∨ ty = .char ∨ ty = .short) {ck : Nat} (hc : fK ty = ck) (d : decode cc pc = .ok (.ireturn, 1)) : Pf w (own, cc, nL, nm, ret, fr, lw) (eX eI) pc L G [.int v] (o_fit ck v (some (.inr v, h))) h := by
  unfold o_fit
  by_cases hv : fitK ck v = true
  · rw [if_pos hv]
    exact r_iretX hr (fitK_ok (by rcases hi with z | z | z | z | z <;> rw [z] <;> rfl) hi (by rw [hc]; exact hv)).1 d
  · rw [if_neg hv]; exact Pf.none
theorem x_vret (hr : ret = none) (d : decode cc pc = .ok (.return_, 1)) (rE : α) (he : en rE = .inl none) (hE : PH) (hh : hE = h) (p : Program) (e : Env) (s : State) (m : MethodId) (args : Array Value) (below : List Frame) (meth : Method) (c : Code) (h0 : PH) (X : Cx p s m args meth c w (own, cc, nL, nm, ret, fr, lw)) (ls : Array Slot) (H : Heap) (locs : List Loc) (x : Rep w h H) (y : Fr w h0 s.heap h H) (u : ∀ q ∈ locs, wdN w ≤ q.base) :
    W p (wdL w) e (mkR fr lw h0 hE) s m args below meth c H locs (gN h - gN h0) (gS h - gS h0) (QQ w below args s h0 hE (en rE)) (F0 m pc ls []) := by
  subst hh
  rw [he]
  exact W.vret X.1 X.2.1 (X.2.2.2.2.2.2.2.2.1.trans hr) (fun t ht _ => ⟨rfl, by rw [ht]; exact x, by rw [ht]; exact y⟩) u d X.2.2.2.2.2.2.1
theorem r_vret (hr : ret = none) (d : decode cc pc = .ok (.return_, 1)) : Pf w (own, cc, nL, nm, ret, fr, lw) eU pc L G [] (some ((), h)) h := by
  intro rE hE q
  cases q
  exact ⟨⟨Nat.le_refl _, Nat.le_refl _⟩, fun p e s m args below meth c h0 X y1 y2 y3 ls hL H locs x y u => x_vret hr d () rfl h rfl p e s m args below meth c h0 X ls H locs x y u⟩
theorem r_vretX (hr : ret = none) (d : decode cc pc = .ok (.return_, 1)) : Pf w (own, cc, nL, nm, ret, fr, lw) (eX eU) pc L G [] (some (.inr (), h)) h := by
  intro rE hE q
  cases q
  exact ⟨⟨Nat.le_refl _, Nat.le_refl _⟩, fun p e s m args below meth c h0 X y1 y2 y3 ls hL H locs x y u => x_vret hr d (Sum.inr () : Nat ⊕ Unit) rfl h rfl p e s m args below meth c h0 X ls H locs x y u⟩
theorem x_aret {v : Nat} {ty : FieldType} (hr : ret = some ty) (hty : ty.isReference = true) (d : decode cc pc = .ok (.areturn, 1)) (rE : α) (he : en rE = .inl (some (rv w v))) (hE : PH) (hh : hE = h) (p : Program) (e : Env) (s : State) (m : MethodId) (args : Array Value) (below : List Frame) (meth : Method) (c : Code) (h0 : PH) (X : Cx p s m args meth c w (own, cc, nL, nm, ret, fr, lw)) (ls : Array Slot) (H : Heap) (locs : List Loc) (x : Rep w h H) (y : Fr w h0 s.heap h H) (u : ∀ q ∈ locs, wdN w ≤ q.base) :
    W p (wdL w) e (mkR fr lw h0 hE) s m args below meth c H locs (gN h - gN h0) (gS h - gS h0) (QQ w below args s h0 hE (en rE)) (F0 m pc ls [rv w v]) := by
  subst hh
  rw [he]
  exact W.aret X.1 X.2.1 (X.2.2.2.2.2.2.2.2.1.trans hr) (by cases ty <;> first | exact Or.inl ⟨_, rfl⟩ | exact Or.inr ⟨_, rfl⟩ | (simp [FieldType.isReference] at hty)) (rv_ref w v) (fun t ht _ => ⟨rfl, by rw [ht]; exact x, by rw [ht]; exact y⟩) u d X.2.2.2.2.2.2.1
theorem r_aret {v : Nat} {ty : FieldType} (hr : ret = some ty) (hty : ty.isReference = true) (d : decode cc pc = .ok (.areturn, 1)) : Pf w (own, cc, nL, nm, ret, fr, lw) (eR w) pc L G [rv w v] (some (v, h)) h := by
  intro rE hE q
  cases q
  exact ⟨⟨Nat.le_refl _, Nat.le_refl _⟩, fun p e s m args below meth c h0 X y1 y2 y3 ls hL H locs x y u => x_aret hr hty d v rfl h rfl p e s m args below meth c h0 X ls H locs x y u⟩
theorem r_aretX {v : Nat} {ty : FieldType} (hr : ret = some ty) (hty : ty.isReference = true) (d : decode cc pc = .ok (.areturn, 1)) : Pf w (own, cc, nL, nm, ret, fr, lw) (eX (eR w)) pc L G [rv w v] (some (.inr v, h)) h := by
  intro rE hE q
  cases q
  exact ⟨⟨Nat.le_refl _, Nat.le_refl _⟩, fun p e s m args below meth c h0 X y1 y2 y3 ls hL H locs x y u => x_aret hr hty d (Sum.inr v : Nat ⊕ Nat) rfl h rfl p e s m args below meth c h0 X ls H locs x y u⟩
end PF3
