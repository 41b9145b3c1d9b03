/-! ===== arrays, new objects, comparisons of references, casts, ends ===== -/
section PF2
variable {w : Wd} {own nm : String} {cc : ByteArray} {nL fr lw : Nat} {ret : Option FieldType} {α β : Type} {en : α → Option Value ⊕ Nat} {o : Option (α × PH)} {h : PH} {pc : Nat} {rest : List Value} {L L' : List (Nat × Value)} {G G' : List (Nat × Nat)}
theorem inB_ok {i : Int32} {n : Nat} (hi : inB i n = true) : vp_in i n ∧ i.toNatClampNeg < n := by
  unfold inB at hi
  simp only [Bool.and_eq_true, decide_eq_true_eq] at hi
  have h1 : vp_in i n := vp_in_iff.mpr hi
  exact ⟨h1, Nat.not_le.mp fun q => h1 (Or.inr q)⟩
/-- the cell of an array -/
theorem Rep.arr {s : State} {H : Heap} {t a : Nat} {ty : FieldType} (hR : Rep w h H) (hK : KW2 w s) (hta : gT h a = t) (hg : gaT t = some ty) : ∃ (q : Nat) (cell : Cell), rvo w a = some q ∧ (a < NC → q < wdN w) ∧ H[q]? = some cell ∧ cell.vm ≠ .unknown ∧ cell.vm.isStatics = false ∧ (NC ≤ a → cell.vm = .none) ∧ s.isArrayOf cell ty ∧ cell.slots.size = gL h a ∧ (∀ i, i < gL h a → cell.slots[i]? = some (evl w h t a i)) ∧ cell.cls = wdA w t ∧ Ro w h a cell := by
  have ht : 100 ≤ t ∧ t < 300 := by
    unfold gaT at hg
    repeat' split at hg
    all_goals first | omega | cases hg
  obtain ⟨q, cell, h1, h2, h3, h4, h5, h6, h7⟩ := hR.2.2.2.2.2 a (by omega)
  obtain ⟨kA, comp, k1, k2, -⟩ := hK t ty hg
  have hr := h7.2.2 (by omega) (by omega)
  rw [hta] at hr
  refine ⟨q, cell, h1, h2, h3, h4, h5, h6, ⟨fun k z => ?_, kA, ?_, comp, k2⟩, hr.1, hr.2, by rw [h7.1, hta], h7⟩
  · rw [z] at h5; cases h5
  · rw [h7.1, hta]; exact k1
theorem r_al {t a : Nat} {ty : FieldType} {K : Int32 → Option (α × PH)} (hg : gaT t = some ty) (d : decode cc pc = .ok (.arraylength, 1))
    (r9 : ∀ x9, Pf w (own, cc, nL, nm, ret, fr, lw) en (pc + 1) L G (.int x9 :: rest) (K x9) h) : Pf w (own, cc, nL, nm, ret, fr, lw) en pc L G (rv w a :: rest) (o_al t a h K) h := by
  unfold o_al
  by_cases hta : gT h a = t
  · rw [if_pos hta]
    refine fun rE hE q => ⟨(r9 _ rE hE q).1, fun p e s m args below meth c h0 X y1 y2 y3 ls hL H locs x y u => ?_⟩
    obtain ⟨b, cell, h1, -, h3, -, -, -, h7, h8, -⟩ := x.arr X.2.2.2.2.2.1.2.1 hta hg
    rw [rv_some.mpr h1]
    exact W.alen X.1 X.2.1 h3 h7 (by rw [h8]) rfl rfl d ((r9 _ rE hE q).2 p e s m args below meth c h0 X y1 y2 y3 ls hL H locs x y u)
  · rw [if_neg hta]; exact Pf.none
theorem r_iald {a : Nat} {i : Int32} {K : Int32 → Option (α × PH)} (d : decode cc pc = .ok (.iaload, 1))
    (r9 : ∀ x9, Pf w (own, cc, nL, nm, ret, fr, lw) en (pc + 1) L G (.int x9 :: rest) (K x9) h) : Pf w (own, cc, nL, nm, ret, fr, lw) en pc L G (.int i :: rv w a :: rest) (o_ai 100 a i h K) h := by
  unfold o_ai
  by_cases hta : gT h a = 100 ∧ inB i (gL h a) = true
  · rw [if_pos hta]
    obtain ⟨hta, hi⟩ := hta
    refine fun rE hE q => ⟨(r9 _ rE hE q).1, fun p e s m args below meth c h0 X y1 y2 y3 ls hL H locs x y u => ?_⟩
    obtain ⟨b, cell, h1, -, h3, h4, -, -, h7, h8, h9, -⟩ := x.arr (ty := .int) X.2.2.2.2.2.1.2.1 hta rfl
    rw [rv_some.mpr h1]
    exact W.iald X.1 X.2.1 h3 h7 h4 (by rw [h8]; exact (inB_ok hi).1) (h9 _ (inB_ok hi).2) rfl rfl d ((r9 _ rE hE q).2 p e s m args below meth c h0 X y1 y2 y3 ls hL H locs x y u)
  · rw [if_neg hta]; exact Pf.none
theorem r_bald {a : Nat} {i : Int32} {K : Int32 → Option (α × PH)} (d : decode cc pc = .ok (.baload, 1))
    (r9 : ∀ x9, Pf w (own, cc, nL, nm, ret, fr, lw) en (pc + 1) L G (.int x9 :: rest) (K x9) h) : Pf w (own, cc, nL, nm, ret, fr, lw) en pc L G (.int i :: rv w a :: rest) (o_ai 101 a i h K) h := by
  unfold o_ai
  by_cases hta : gT h a = 101 ∧ inB i (gL h a) = true
  · rw [if_pos hta]
    obtain ⟨hta, hi⟩ := hta
    refine fun rE hE q => ⟨(r9 _ rE hE q).1, fun p e s m args below meth c h0 X y1 y2 y3 ls hL H locs x y u => ?_⟩
    obtain ⟨b, cell, h1, -, h3, h4, -, -, h7, h8, h9, -⟩ := x.arr (ty := .byte) X.2.2.2.2.2.1.2.1 hta rfl
    rw [rv_some.mpr h1]
    exact W.bald X.1 X.2.1 h3 h7 h4 (by rw [h8]; exact (inB_ok hi).1) (h9 _ (inB_ok hi).2) rfl rfl d ((r9 _ rE hE q).2 p e s m args below meth c h0 X y1 y2 y3 ls hL H locs x y u)
  · rw [if_neg hta]; exact Pf.none
theorem r_aald {t a : Nat} {C : String} {i : Int32} {K : Nat → Option (α × PH)} (hg : gaT t = some (.object C)) (ht : ¬ t < 200) (d : decode cc pc = .ok (.aaload, 1))
    (r9 : ∀ x9, Pf w (own, cc, nL, nm, ret, fr, lw) en (pc + 1) L G (rv w x9 :: rest) (K x9) h) : Pf w (own, cc, nL, nm, ret, fr, lw) en pc L G (.int i :: rv w a :: rest) (o_ab t a i h K) h := by
  unfold o_ab
  by_cases hta : gT h a = t ∧ inB i (gL h a) = true
  · rw [if_pos hta]
    obtain ⟨hta, hi⟩ := hta
    refine fun rE hE q => ⟨(r9 _ rE hE q).1, fun p e s m args below meth c h0 X y1 y2 y3 ls hL H locs x y u => ?_⟩
    obtain ⟨b, cell, h1, -, h3, h4, -, -, h7, h8, h9, -⟩ := x.arr X.2.2.2.2.2.1.2.1 hta hg
    rw [rv_some.mpr h1]
    have hv := h9 _ (inB_ok hi).2
    unfold evl at hv
    rw [if_neg ht] at hv
    exact W.aald X.1 X.2.1 h3 h7 rfl h4 (by rw [h8]; exact (inB_ok hi).1) hv rfl rfl d ((r9 _ rE hE q).2 p e s m args below meth c h0 X y1 y2 y3 ls hL H locs x y u)
  · rw [if_neg hta]; exact Pf.none
theorem capT_none {t : Nat} (ht : t < 310) (k : Nat) : capT t k = none := by
  unfold capT
  split <;> first | omega | rfl
theorem fTy_none {t : Nat} (h1 : 100 ≤ t) (h2 : t < 310) (k : Nat) : fTy t k = none := by
  unfold fTy
  rw [if_neg (by omega)]
  exact capT_none h2 k
theorem Ro_wA {t a b i : Nat} {v : Int32} {cell : Cell} (hba : b ≠ a) (ro : Ro w h b cell) : Ro w (wA t a i v h) b cell := by
  obtain ⟨r1, r2, r3⟩ := ro
  refine ⟨r1, r2, fun q1 q2 => ⟨(r3 q1 q2).1, fun j hj => ?_⟩⟩
  have h9 := (r3 q1 q2).2 j hj
  show cell.slots[j]? = some (evl w (wA t a i v h) (gT h b) b j)
  rw [h9]
  unfold evl
  rw [gA_wA, if_neg (show ¬ (gT h b = t ∧ b = a ∧ j = i) from fun q => hba q.2.1)]
  rfl
theorem Ro_wB {t a b i : Nat} {v : Nat} {cell : Cell} (hba : b ≠ a) (ro : Ro w h b cell) : Ro w (wB t a i v h) b cell := by
  obtain ⟨r1, r2, r3⟩ := ro
  refine ⟨r1, r2, fun q1 q2 => ⟨(r3 q1 q2).1, fun j hj => ?_⟩⟩
  have h9 := (r3 q1 q2).2 j hj
  show cell.slots[j]? = some (evl w (wB t a i v h) (gT h b) b j)
  rw [h9]
  unfold evl
  rw [gB_wB, if_neg (show ¬ (gT h b = t ∧ b = a ∧ j = i) from fun q => hba q.2.1)]
  rfl
/-- the world behind a store of a number into an array -/
theorem Rep.stA {H H' : Heap} {t a q i : Nat} {v : Int32} {cell : Cell} (hR : Rep w h H) (hta : gT h a = t) (ht : 100 ≤ t ∧ t < 200) (haN : NC ≤ a) (hq : rvo w a = some q) (hvm : cell.vm = .none) (ro : Ro w h a cell) (hi : i < gL h a)
    (e1 : H'[q]? = some (cell.setSlot i (.int v))) (e2 : H'.size = H.size) (e3 : ∀ x, x ≠ q → H'[x]? = H[x]?) : Rep w (wA t a i v h) H' := by
  have hr := ro.2.2 (by omega) (by omega)
  have hslot := hr.2 i hi
  refine hR.upd rfl rfl rfl haN hq e1 e2 e3 hvm ⟨ro.1, fun k ty hk => ?_, fun h1 h2 => ⟨?_, fun j hj => ?_⟩⟩ (fun b c hb => Ro_wA hb)
  · rw [gT_wA, hta, fTy_none ht.1 (by omega)] at hk
    cases hk
  · show (cell.slots.setIfInBounds i (.int v)).size = gL h a
    rw [Array.size_setIfInBounds]
    exact hr.1
  · rw [slots_set hslot]
    show _ = some (evl w (wA t a i v h) (gT h a) a j)
    unfold evl
    rw [if_pos (show gT h a < 200 by omega), gA_wA]
    by_cases hji : j = i
    · rw [if_pos hji, if_pos ⟨hta, rfl, hji⟩]
    · rw [if_neg hji, if_neg (fun q => hji q.2.2)]
      have h9 := hr.2 j hj
      unfold evl at h9
      rw [if_pos (show gT h a < 200 by omega)] at h9
      exact h9
theorem Rep.stB {H H' : Heap} {t a q i : Nat} {v : Nat} {cell : Cell} (hR : Rep w h H) (hta : gT h a = t) (ht : 200 ≤ t ∧ t < 300) (haN : NC ≤ a) (hq : rvo w a = some q) (hvm : cell.vm = .none) (ro : Ro w h a cell) (hi : i < gL h a)
    (e1 : H'[q]? = some (cell.setSlot i (rv w v))) (e2 : H'.size = H.size) (e3 : ∀ x, x ≠ q → H'[x]? = H[x]?) : Rep w (wB t a i v h) H' := by
  have hr := ro.2.2 (by omega) (by omega)
  have hslot := hr.2 i hi
  refine hR.upd rfl rfl rfl haN hq e1 e2 e3 hvm ⟨ro.1, fun k ty hk => ?_, fun h1 h2 => ⟨?_, fun j hj => ?_⟩⟩ (fun b c hb => Ro_wB hb)
  · rw [gT_wB, hta, fTy_none (by omega) (by omega)] at hk
    cases hk
  · show (cell.slots.setIfInBounds i (rv w v)).size = gL h a
    rw [Array.size_setIfInBounds]
    exact hr.1
  · rw [slots_set hslot]
    show _ = some (evl w (wB t a i v h) (gT h a) a j)
    unfold evl
    rw [if_neg (show ¬ gT h a < 200 by omega), gB_wB]
    by_cases hji : j = i
    · rw [if_pos hji, if_pos ⟨hta, rfl, hji⟩]
    · rw [if_neg hji, if_neg (fun q => hji q.2.2)]
      have h9 := hr.2 j hj
      unfold evl at h9
      rw [if_neg (show ¬ gT h a < 200 by omega)] at h9
      exact h9
theorem locs_snoc {w : Wd} {a q i : Nat} {locs : List Loc} (haN : NC ≤ a) (hq : rvo w a = some q) (hl : ∀ z ∈ locs, wdN w ≤ z.base) : ∀ z ∈ locs ++ [(⟨q, i⟩ : Loc)], wdN w ≤ z.base := by
  intro z hz
  rcases List.mem_append.mp hz with h1 | h1
  · exact hl z h1
  · rw [List.mem_singleton.mp h1]
    rw [rvo_new haN] at hq
    have := Option.some.inj hq
    show wdN w ≤ q
    omega
theorem r_iast {a : Nat} {i v : Int32} {K : PH → Option (α × PH)} (d : decode cc pc = .ok (.iastore, 1))
    (r9 : ∀ h1, Pf w (own, cc, nL, nm, ret, fr, lw) en (pc + 1) L G rest (K h1) h1) : Pf w (own, cc, nL, nm, ret, fr, lw) en pc L G (.int v :: .int i :: rv w a :: rest) (o_si 100 a i v h K) h := by
  unfold o_si
  by_cases hta : gT h a = 100 ∧ NC ≤ a ∧ inB i (gL h a) = true
  · rw [if_pos hta]
    obtain ⟨hta, haN, hi⟩ := hta
    refine fun rE hE q => ⟨(r9 _ rE hE q).1, fun p e s m args below meth c h0 X y1 y2 y3 ls hL H locs x y u => ?_⟩
    obtain ⟨b, cell, h1, -, h3, h4, -, h6, h7, h8, h9, -, ro⟩ := x.arr (ty := .int) X.2.2.2.2.2.1.2.1 hta rfl
    rw [rv_some.mpr h1]
    exact W.iast X.1 X.2.1 h3 h7 h4 (by rw [h8]; exact (inB_ok hi).1) rfl rfl d (fun H' e1 e2 e3 => (r9 _ rE hE q).2 p e s m args below meth c h0 X y1 y2 y3 ls hL H' _
      (x.stA hta ⟨by decide, by decide⟩ haN h1 (h6 haN) ro (inB_ok hi).2 e1 e2 e3) (y.upd rfl rfl haN h1 (by rw [hta]; decide) e3 y1) (locs_snoc haN h1 u))
  · rw [if_neg hta]; exact Pf.none
theorem r_bast {a : Nat} {i v : Int32} {K : PH → Option (α × PH)} (d : decode cc pc = .ok (.bastore, 1))
    (r9 : ∀ h1, Pf w (own, cc, nL, nm, ret, fr, lw) en (pc + 1) L G rest (K h1) h1) : Pf w (own, cc, nL, nm, ret, fr, lw) en pc L G (.int v :: .int i :: rv w a :: rest) (o_si 101 a i v.toInt8.toInt32 h K) h := by
  unfold o_si
  by_cases hta : gT h a = 101 ∧ NC ≤ a ∧ inB i (gL h a) = true
  · rw [if_pos hta]
    obtain ⟨hta, haN, hi⟩ := hta
    refine fun rE hE q => ⟨(r9 _ rE hE q).1, fun p e s m args below meth c h0 X y1 y2 y3 ls hL H locs x y u => ?_⟩
    obtain ⟨b, cell, h1, -, h3, h4, -, h6, h7, h8, h9, -, ro⟩ := x.arr (ty := .byte) X.2.2.2.2.2.1.2.1 hta rfl
    rw [rv_some.mpr h1]
    exact W.bast X.1 X.2.1 h3 h7 h4 (by rw [h8]; exact (inB_ok hi).1) rfl rfl d (fun H' e1 e2 e3 => (r9 _ rE hE q).2 p e s m args below meth c h0 X y1 y2 y3 ls hL H' _
      (x.stA hta ⟨by decide, by decide⟩ haN h1 (h6 haN) ro (inB_ok hi).2 e1 e2 e3) (y.upd rfl rfl haN h1 (by rw [hta]; decide) e3 y1) (locs_snoc haN h1 u))
  · rw [if_neg hta]; exact Pf.none
/-! a reference stored -/
theorem asg_ok {s : State} {t te : Nat} {C : String} {r2 : vz_C} (hK : KW w s) (hg : gaT t = some (.object C)) (ht5 : t < 205) (ht2 : 1 ≤ te ∧ te < 100) (hr2 : gcl[te - 1]? = some r2) (hc : C = r2.1 ∨ Cond.castable r2.1 C ∈ lw_tbl) :
    ∃ (kA kv kcomp : Class) (comp : ClassId), s.vm.classes[wdA w t]? = some kA ∧ kA.kind = .array comp (.object C) ∧ s.vm.classes[comp]? = some kcomp ∧ s.vm.classes[wdA w te]? = some kv ∧ s.vm.assignable (wdA w te) comp = true := by
  obtain ⟨kA, comp, k1, k2, k4⟩ := hK.2.1 t _ hg
  have k5 := (k4 ht5).2 C rfl
  obtain ⟨-, hfc, kC, hkC, hkind⟩ := hK.1 te r2 ht2.1 ht2.2 hr2
  obtain ⟨kcomp, hkcomp, -⟩ := Vm.findClass_spec k5
  refine ⟨kA, kC, kcomp, comp, k1, k2, hkcomp, hkC, ?_⟩
  rcases hc with hc | hc
  · rw [hc] at k5
    cases k5.symm.trans hfc
    exact va_assign ⟨hfc, kC, hkC, hkind⟩
  · obtain ⟨c1, c2, d1, d2, d3⟩ := Cond.castable_spec (args := #[]) (s := s) (va_Nw.use rfl (hK.2.2.1 _ hc rfl))
    cases d1.symm.trans hfc
    cases d2.symm.trans k5
    exact d3
theorem r_aast {t a v : Nat} {C : String} {i : Int32} {K : PH → Option (α × PH)} (hg : gaT t = some (.object C)) (ht : 200 ≤ t ∧ t < 205) (hv : ∀ te, asg t te = true → (1 ≤ te ∧ te < 100) ∧ ∃ r2, gcl[te - 1]? = some r2 ∧ (C = r2.1 ∨ Cond.castable r2.1 C ∈ lw_tbl)) (d : decode cc pc = .ok (.aastore, 1))
    (r9 : ∀ h1, Pf w (own, cc, nL, nm, ret, fr, lw) en (pc + 1) L G rest (K h1) h1) : Pf w (own, cc, nL, nm, ret, fr, lw) en pc L G (rv w v :: .int i :: rv w a :: rest) (o_sb t a i v h K) h := by
  unfold o_sb
  by_cases hta : gT h a = t ∧ NC ≤ a ∧ inB i (gL h a) = true ∧ (v = 0 ∨ asg t (gT h v) = true)
  · rw [if_pos hta]
    obtain ⟨hta, haN, hi, hz⟩ := hta
    refine fun rE hE q => ⟨(r9 _ rE hE q).1, fun p e s m args below meth c h0 X y1 y2 y3 ls hL H locs x y u => ?_⟩
    obtain ⟨b, cell, h1, -, h3, h4, h5, h6, h7, h8, h9, h10, ro⟩ := x.arr X.2.2.2.2.2.1.2.1 hta hg
    rw [rv_some.mpr h1]
    have hin : ¬ (i < 0 ∨ cell.slots.size ≤ i.toNatClampNeg) := by rw [h8]; exact (inB_ok hi).1
    by_cases hv0 : v = 0
    · rw [hv0]
      rw [rv_0]
      exact va_WaastN (C := C) X.1 X.2.1 h3 h7 h4 hin rfl rfl d (fun H' e1 e2 e3 => (r9 (wB t a i.toNatClampNeg 0 h) rE hE (by rw [hv0] at q; exact q)).2 p e s m args below meth c h0 X y1 y2 y3 ls hL H' _
        (x.stB (v := 0) hta ⟨ht.1, by omega⟩ haN h1 (h6 haN) ro (inB_ok hi).2 e1 e2 e3) (y.upd rfl rfl haN h1 (by omega) e3 y1) (locs_snoc haN h1 u))
    · rcases hz with hz | hz
      · exact absurd hz hv0
      obtain ⟨ht2, r2, hr2, hc⟩ := hv _ hz
      obtain ⟨kA, kv, kcomp, comp, j1, j2, j3, j4, j5⟩ := asg_ok X.2.2.2.2.2.1 hg ht.2 ht2 hr2 hc
      obtain ⟨b2, cv, g1, -, g3, g4, g5, -, g7⟩ := x.2.2.2.2.2 v (by omega)
      have hvr := rv_some.mpr g1
      rw [hvr]
      refine W.aast X.1 X.2.1 h3 (fun k z => by rw [z] at h5; cases h5) h4 (by rw [h10]; exact j1) j2 rfl j3 ⟨fun z => hin (Or.inl z), Nat.not_le.mp fun z => hin (Or.inr z)⟩ g3 (fun k z => by rw [z] at g5; cases g5) (by rw [g7.1]; exact j4) (by rw [g7.1]; exact j5) rfl rfl d (fun H' e1 e2 e3 => ?_)
      exact (r9 _ rE hE q).2 p e s m args below meth c h0 X y1 y2 y3 ls hL H' _
        (x.stB (v := v) hta ⟨ht.1, by omega⟩ haN h1 (h6 haN) ro (inB_ok hi).2 (by rw [hvr]; exact e1) e2 e3) (y.upd rfl rfl haN h1 (by omega) e3 y1) (locs_snoc haN h1 u)
  · rw [if_neg hta]; exact Pf.none
/-! new -/
theorem gcl_ty : ∀ (t : Nat) (r : vz_C), gcl[t]? = some r → ∀ k, k < r.2.2.1 → (r.2.2.2 k).isReference = true ∨ defaultValue (r.2.2.2 k) = .int 0 ∧ (r.2.2.2 k).isReference = false := by
  intro t r hr
  have hd : ∀ r ∈ gcl, (List.range r.2.2.1).all (fun k => (r.2.2.2 k).isReference || (decide (defaultValue (r.2.2.2 k) = .int 0) && !(r.2.2.2 k).isReference)) = true := by decide +kernel
  intro k hk
  have h1 := hd r (List.mem_of_getElem? hr)
  have h2 := List.all_eq_true.mp h1 k (List.mem_range.mpr hk)
  simp only [Bool.or_eq_true, Bool.and_eq_true, decide_eq_true_eq, Bool.not_eq_true'] at h2
  exact h2
theorem defaultValue_ref {ty : FieldType} (hty : ty.isReference = true) : defaultValue ty = .null := by
  cases ty <;> first | rfl | (simp [FieldType.isReference] at hty)
theorem Ro_nO {t n b : Nat} {cell : Cell} (hb : b ≠ gN h) (ro : Ro w h b cell) : Ro w (nO t n h) b cell := by
  obtain ⟨r1, r2, r3⟩ := ro
  have hT : gT (nO t n h) b = gT h b := by rw [gT_nO, if_neg hb]
  refine ⟨by rw [hT]; exact r1, fun k ty hk => ?_, fun q1 q2 => ?_⟩
  · rw [hT] at hk ⊢
    rw [r2 k ty hk]
    unfold fvl
    rw [gR_nO, gI_nO, if_neg hb, if_neg hb]
  · rw [hT] at q1 q2 ⊢
    rw [gL_nO, if_neg hb]
    exact r3 q1 q2
theorem Ro_nY {t n b : Nat} {cell : Cell} (hb : b ≠ gN h) (ro : Ro w h b cell) : Ro w (nY t n h) b cell := by
  obtain ⟨r1, r2, r3⟩ := ro
  have hT : gT (nY t n h) b = gT h b := by rw [gT_nY, if_neg hb]
  refine ⟨by rw [hT]; exact r1, fun k ty hk => ?_, fun q1 q2 => ?_⟩
  · rw [hT] at hk ⊢
    rw [r2 k ty hk]
    unfold fvl
    rw [gR_nY, gI_nY]
  · rw [hT] at q1 q2 ⊢
    rw [gL_nY, if_neg hb]
    refine ⟨(r3 q1 q2).1, fun j hj => ?_⟩
    rw [(r3 q1 q2).2 j hj]
    unfold evl
    rw [gA_nY, gB_nY, if_neg hb, if_neg hb]
/-- a new cell behind the heap -/
theorem Rep.new {H : Heap} {h' : PH} {cell : Cell} (hR : Rep w h H) (hN : gN h' = gN h + 1) (hT : ∀ b, b ≠ gN h → gT h' b = gT h b) (hvm : cell.vm = .none) (ro : gT h' (gN h) ≠ 0 → Ro w h' (gN h) cell) (ho : ∀ b c, b ≠ gN h → Ro w h b c → Ro w h' b c) : Rep w h' (H.push cell) ∧ rvo w (gN h) = some H.size := by
  obtain ⟨r1, r2, r3, r4, r5, r6⟩ := hR
  have hq : rvo w (gN h) = some H.size := by rw [rvo_new r2, r1]
  refine ⟨⟨by rw [Array.size_push, hN, r1]; omega, by omega, ?_, fun b hb => ?_, fun x hx => ?_, fun b hb => ?_⟩, hq⟩
  · rw [hT 0 (by unfold NC at r2; omega)]; exact r3
  · rw [hT b (by omega)]; exact r4 b (by omega)
  · rw [Array.getElem?_push, if_neg (by omega)]; exact r5 x hx
  · by_cases hbn : b = gN h
    · subst hbn
      exact ⟨H.size, cell, hq, fun z => absurd z (by omega), Array.getElem?_push_size, by rw [hvm]; exact (fun z => nomatch z), by rw [hvm]; rfl, fun _ => hvm, ro hb⟩
    · rw [hT b hbn] at hb
      obtain ⟨q2, c2, s1, s2, s3, s4, s5, s6, s7⟩ := r6 b hb
      have hlt : q2 < H.size := (Array.getElem?_eq_some_iff.mp s3).1
      exact ⟨q2, c2, s1, s2, by rw [Array.getElem?_push, if_neg (Nat.ne_of_lt hlt)]; exact s3, s4, s5, s6, ho b c2 hbn s7⟩
theorem Fr.new {h0 : PH} {H0 H : Heap} {h' : PH} {cell : Cell} (hF : Fr w h0 H0 h H) (hN : gN h' = gN h + 1) (hT : ∀ b, b ≠ gN h → gT h' b = gT h b) (hs : H.size = wdN w + (gN h - NC)) (hn : NC ≤ gN h) (hn0 : NC ≤ gN h0) : Fr w h0 H0 h' (H.push cell) := by
  obtain ⟨f1, f2, f3, f4⟩ := hF
  refine ⟨f1, by omega, fun x hx => by rw [hT x (by omega)]; exact f3 x hx, fun x hx hz => ?_⟩
  rw [Array.getElem?_push, if_neg (by omega)]
  exact f4 x hx hz
theorem r_new {t n index : Nat} {C : String} {r : vz_C} {K : Nat → PH → Option (α × PH)} (hr : gcl[t - 1]? = some r) (ht : 1 ≤ t ∧ t < 100) (hC : r.1 = C) (hcl : Cond.classLink own index C ∈ lw_all) (hin : Cond.instantiable C n ∈ lw_all) (hini : Cond.initialized C ∈ lw_all) (d : decode cc pc = .ok (.new index, 3))
    (r9 : ∀ q9 h1, Pf w (own, cc, nL, nm, ret, fr, lw) en (pc + 3) L G (rv w q9 :: rest) (K q9 h1) h1) : Pf w (own, cc, nL, nm, ret, fr, lw) en pc L G rest (o_no t n h K) h := by
  unfold o_no
  refine fun rE hE q => ?_
  have hm := (r9 _ _ rE hE q).1
  rw [gN_nO, gS_nO] at hm
  refine ⟨⟨by omega, by omega⟩, fun p e s m args below meth c h0 X y1 y2 y3 ls hL H locs x y u => ?_⟩
  refine W.newc (n := n) X.1 X.2.1 X.2.2.2.1 (X.2.2.2.2.1 _ hcl) (X.2.2.2.2.1 _ hin) (X.2.2.2.2.1 _ hini) rfl d (by show gN h - gN h0 + 1 ≤ gN hE - gN h0; omega) (by show gS h - gS h0 + n ≤ gS hE - gS h0; omega) (fun cC kC f1 f2 f3 f4 => ?_)
  have hKn := X.2.2.2.2.2.1.1 t r ht.1 ht.2 hr
  have hcC : cC = wdA w t := Option.some.inj (f1.symm.trans (by rw [← hC]; exact hKn.2.1))
  subst hcC
  have hB := u_born (o := H.size) (H := H.push (blank (wdA w t) kC)) r.2.2.2 X.2.2.2.2.1 (gcl_ok _ _ hr).1 hKn f2 (by rw [Array.getElem?_push_size]) (gcl_ok _ _ hr).2.1
  obtain ⟨c9, b1, b2, b3, b4⟩ := hB
  rw [Array.getElem?_push_size] at b1
  cases b1
  have hT : ∀ b, b ≠ gN h → gT (nO t n h) b = gT h b := fun b hb => by rw [gT_nO, if_neg hb]
  have hTn : gT (nO t n h) (gN h) = t := by rw [gT_nO, if_pos rfl]
  obtain ⟨R1, R2⟩ := x.new (h' := nO t n h) (cell := blank (wdA w t) kC) rfl hT rfl (fun _ => by
      refine ⟨by rw [hTn]; rfl, fun k ty hk => ?_, fun z1 z2 => (by rw [hTn] at z1; omega)⟩
      rw [hTn] at hk ⊢
      obtain ⟨k1, k2⟩ := fTy_lt ht hr hk
      rw [b4 k k1]
      unfold fvl
      rw [gR_nO, gI_nO, if_pos rfl, if_pos rfl, k2]
      show some (defaultValue (r.2.2.2 k)) = _
      rcases gcl_ty _ _ hr k k1 with z | ⟨z1, z2⟩
      · rw [if_pos z, defaultValue_ref z]; rfl
      · rw [if_neg (by rw [z2]; decide), z1]) (fun b c hb => Ro_nO hb)
  have key := (r9 _ _ rE hE q).2 p e s m args below meth c h0 X y1 (by rw [gN_nO]; omega) (by rw [gS_nO]; omega) ls hL _ locs R1 (y.new rfl hT x.1 x.2.1 y1) u
  rw [rv_some.mpr R2, gN_nO, gS_nO] at key
  exact W.cs (by omega) (by omega) key
theorem Rep.newY {H : Heap} {t n : Nat} {z : Value} (hR : Rep w h H) (ht : 100 ≤ t ∧ t < 300) (hz : z = if t < 200 then .int 0 else .null) : Rep w (nY t n h) (H.push { cls := wdA w t, slots := Array.replicate n z, vm := .none }) ∧ rvo w (gN h) = some H.size := by
  have hT : ∀ b, b ≠ gN h → gT (nY t n h) b = gT h b := fun b hb => by rw [gT_nY, if_neg hb]
  have hTn : gT (nY t n h) (gN h) = t := by rw [gT_nY, if_pos rfl]
  refine hR.new (h' := nY t n h) rfl hT rfl (fun _ => ?_) (fun b c hb => Ro_nY hb)
  refine ⟨by rw [hTn], fun k ty hk => ?_, fun _ _ => ⟨?_, fun j hj => ?_⟩⟩
  · rw [hTn, fTy_none ht.1 (by omega)] at hk
    cases hk
  · rw [gL_nY, if_pos rfl]; simp
  · rw [gL_nY, if_pos rfl] at hj
    rw [hTn]
    unfold evl
    rw [gA_nY, gB_nY, if_pos rfl, if_pos rfl, rv_0]
    simp [Array.getElem?_replicate, hj]
    rw [hz]
theorem r_newa {i : Int32} {K : Nat → PH → Option (α × PH)} (hac : Cond.arrayClass .int ∈ lw_all) (d : decode cc pc = .ok (.newarray .int, 2))
    (r9 : ∀ q9 h1, Pf w (own, cc, nL, nm, ret, fr, lw) en (pc + 2) L G (rv w q9 :: rest) (K q9 h1) h1) : Pf w (own, cc, nL, nm, ret, fr, lw) en pc L G (.int i :: rest) (o_ny 100 i h K) h := by
  unfold o_ny
  by_cases hi : 0 ≤ i.toInt ∧ i.toInt < 1000000
  · rw [if_pos hi]
    have hn : i.toNatClampNeg < 1000000 := by have : i.toNatClampNeg = i.toInt.toNat := rfl; omega
    have hi0 : ¬ i < 0 := by rw [Int32.lt_iff_toInt_lt]; show ¬ i.toInt < 0; omega
    refine fun rE hE q => ?_
    have hm := (r9 _ _ rE hE q).1
    rw [gN_nY, gS_nY] at hm
    refine ⟨⟨by omega, by omega⟩, fun p e s m args below meth c h0 X y1 y2 y3 ls hL H locs x y u => ?_⟩
    refine W.newa (atype := .int) X.1 X.2.1 (X.2.2.2.2.1 _ hac) rfl d rfl hi0 (by show i.toNatClampNeg * 4 ≤ _; omega) (by show gN h - gN h0 + 1 ≤ gN hE - gN h0; omega) (by show gS h - gS h0 + _ ≤ gS hE - gS h0; omega) (fun cA kA comp f1 f2 f3 => ?_)
    obtain ⟨kA2, comp2, k1, k2, k9⟩ := X.2.2.2.2.2.1.2.1 100 .int rfl
    have k3 := (k9 (by decide)).1
    have hcA : cA = wdA w 100 := Option.some.inj (f1.symm.trans k3)
    subst hcA
    have hT : ∀ b, b ≠ gN h → gT (nY 100 i.toNatClampNeg h) b = gT h b := fun b hb => by rw [gT_nY, if_neg hb]
    obtain ⟨R1, R2⟩ := x.newY (t := 100) (n := i.toNatClampNeg) (z := defaultValue (newarray.typeOf .int)) ⟨by decide, by decide⟩ rfl
    have key := (r9 _ _ rE hE q).2 p e s m args below meth c h0 X y1 (by rw [gN_nY]; omega) (by rw [gS_nY]; omega) ls hL _ locs R1 (y.new rfl hT x.1 x.2.1 y1) u
    rw [rv_some.mpr R2, gN_nY, gS_nY] at key
    exact W.cs (by omega) (by omega) key
  · rw [if_neg hi]; exact Pf.none
theorem r_newb {i : Int32} {K : Nat → PH → Option (α × PH)} (hac : Cond.arrayClass .byte ∈ lw_all) (d : decode cc pc = .ok (.newarray .byte, 2))
    (r9 : ∀ q9 h1, Pf w (own, cc, nL, nm, ret, fr, lw) en (pc + 2) L G (rv w q9 :: rest) (K q9 h1) h1) : Pf w (own, cc, nL, nm, ret, fr, lw) en pc L G (.int i :: rest) (o_ny 101 i h K) h := by
  unfold o_ny
  by_cases hi : 0 ≤ i.toInt ∧ i.toInt < 1000000
  · rw [if_pos hi]
    have hn : i.toNatClampNeg < 1000000 := by have : i.toNatClampNeg = i.toInt.toNat := rfl; omega
    have hi0 : ¬ i < 0 := by rw [Int32.lt_iff_toInt_lt]; show ¬ i.toInt < 0; omega
    refine fun rE hE q => ?_
    have hm := (r9 _ _ rE hE q).1
    rw [gN_nY, gS_nY] at hm
    refine ⟨⟨by omega, by omega⟩, fun p e s m args below meth c h0 X y1 y2 y3 ls hL H locs x y u => ?_⟩
    refine W.newa (atype := .byte) X.1 X.2.1 (X.2.2.2.2.1 _ hac) rfl d rfl hi0 (by show i.toNatClampNeg * 1 ≤ _; omega) (by show gN h - gN h0 + 1 ≤ gN hE - gN h0; omega) (by show gS h - gS h0 + _ ≤ gS hE - gS h0; omega) (fun cA kA comp f1 f2 f3 => ?_)
    obtain ⟨kA2, comp2, k1, k2, k9⟩ := X.2.2.2.2.2.1.2.1 101 .byte rfl
    have k3 := (k9 (by decide)).1
    have hcA : cA = wdA w 101 := Option.some.inj (f1.symm.trans k3)
    subst hcA
    have hT : ∀ b, b ≠ gN h → gT (nY 101 i.toNatClampNeg h) b = gT h b := fun b hb => by rw [gT_nY, if_neg hb]
    obtain ⟨R1, R2⟩ := x.newY (t := 101) (n := i.toNatClampNeg) (z := defaultValue (newarray.typeOf .byte)) ⟨by decide, by decide⟩ rfl
    have key := (r9 _ _ rE hE q).2 p e s m args below meth c h0 X y1 (by rw [gN_nY]; omega) (by rw [gS_nY]; omega) ls hL _ locs R1 (y.new rfl hT x.1 x.2.1 y1) u
    rw [rv_some.mpr R2, gN_nY, gS_nY] at key
    exact W.cs (by omega) (by omega) key
  · rw [if_neg hi]; exact Pf.none
theorem r_anew {t index : Nat} {C : String} {i : Int32} {K : Nat → PH → Option (α × PH)} (hg : gaT t = some (.object C)) (ht : 200 ≤ t ∧ t < 205) (hC : C ∈ (["java/lang/Object", "HedgeMessages$Twig", "HedgeMessages$Message", "HedgeMessages$Counters", "HedgeMessages$Operation"] : List String)) (hcl : Cond.classLink own index C ∈ lw_all) (d : decode cc pc = .ok (.anewarray index, 3))
    (r9 : ∀ q9 h1, Pf w (own, cc, nL, nm, ret, fr, lw) en (pc + 3) L G (rv w q9 :: rest) (K q9 h1) h1) : Pf w (own, cc, nL, nm, ret, fr, lw) en pc L G (.int i :: rest) (o_ny t i h K) h := by
  unfold o_ny
  by_cases hi : 0 ≤ i.toInt ∧ i.toInt < 1000000
  · rw [if_pos hi]
    have hn : i.toNatClampNeg < 1000000 := by have : i.toNatClampNeg = i.toInt.toNat := rfl; omega
    have hi0 : ¬ i < 0 := by rw [Int32.lt_iff_toInt_lt]; show ¬ i.toInt < 0; omega
    refine fun rE hE q => ?_
    have hm := (r9 _ _ rE hE q).1
    rw [gN_nY, gS_nY] at hm
    refine ⟨⟨by omega, by omega⟩, fun p e s m args below meth c h0 X y1 y2 y3 ls hL H locs x y u => ?_⟩
    refine W.anew X.1 X.2.1 X.2.2.2.1 (X.2.2.2.2.1 _ hcl) (va_AO.use (X.2.2.2.2.2.1.2.2.2.1 C hC)) rfl d rfl hi0 (by omega) (by show gN h - gN h0 + 1 ≤ gN hE - gN h0; omega) (by show gS h - gS h0 + _ ≤ gS hE - gS h0; omega) (fun cA kA comp f1 f2 f3 f4 => ?_)
    obtain ⟨kA2, comp2, k1, k2, k9⟩ := X.2.2.2.2.2.1.2.1 t _ hg
    have k3 := (k9 ht.2).1
    have hcA : cA = wdA w t := Option.some.inj (f1.symm.trans k3)
    subst hcA
    have hT : ∀ b, b ≠ gN h → gT (nY t i.toNatClampNeg h) b = gT h b := fun b hb => by rw [gT_nY, if_neg hb]
    obtain ⟨R1, R2⟩ := x.newY (t := t) (n := i.toNatClampNeg) (z := .null) ⟨by omega, by omega⟩ (by rw [if_neg (by omega)])
    have key := (r9 _ _ rE hE q).2 p e s m args below meth c h0 X y1 (by rw [gN_nY]; omega) (by rw [gS_nY]; omega) ls hL _ locs R1 (y.new rfl hT x.1 x.2.1 y1) u
    rw [rv_some.mpr R2, gN_nY, gS_nY] at key
    exact W.cs (by omega) (by omega) key
  · rw [if_neg hi]; exact Pf.none
end PF2
