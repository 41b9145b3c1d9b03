/-! ===== natives: System.arraycopy, clone of arrays, getClass of an Object[]; fdiv, ddiv; ends with a float, a double ===== -/
def o_cpA {α : Type} (a : Nat) (i : Int32) (b : Nat) (j n : Int32) (h : PH) (k : PH → Option α) : Option α :=
  if gT h a = 101 ∧ gT h b = 101 ∧ NC ≤ b ∧ (0 ≤ i.toInt ∧ 0 ≤ j.toInt ∧ 0 ≤ n.toInt) ∧ i.toNatClampNeg + n.toNatClampNeg ≤ gL h a ∧ j.toNatClampNeg + n.toNatClampNeg ≤ gL h b ∧ ((List.range n.toNatClampNeg).all fun z => fitK 2 (gA h 101 a (i.toNatClampNeg + z))) = true then k (cA 101 a i.toNatClampNeg b j.toNatClampNeg n.toNatClampNeg h) else none
def o_cpB {α : Type} (a : Nat) (i : Int32) (b : Nat) (j n : Int32) (h : PH) (k : PH → Option α) : Option α :=
  if gT h a = 200 ∧ gT h b = 200 ∧ NC ≤ b ∧ (0 ≤ i.toInt ∧ 0 ≤ j.toInt ∧ 0 ≤ n.toInt) ∧ i.toNatClampNeg + n.toNatClampNeg ≤ gL h a ∧ j.toNatClampNeg + n.toNatClampNeg ≤ gL h b ∧ ((List.range n.toNatClampNeg).all fun z => (gB h 200 a (i.toNatClampNeg + z) == 0) || asg 200 (gT h (gB h 200 a (i.toNatClampNeg + z)))) = true then k (cB 200 a i.toNatClampNeg b j.toNatClampNeg n.toNatClampNeg h) else none
/-- a copy of an array of numbers -/
def nC (t a : Nat) (h : PH) : PH := cA t a 0 (gN h) 0 (gL h a) (nY t (gL h a) h)
def o_cln {α : Type} (t a : Nat) (h : PH) (k : Nat → PH → Option α) : Option α := if gT h a = t ∧ a < gN h ∧ ((List.range (gL h a)).all fun z => fitK (if t = 101 then 2 else 0) (gA h t a z)) = true then k (gN h) (nC t a h) else none
section PFN
variable {w : Wd} {own nm : String} {cc : ByteArray} {nL fr lw : Nat} {ret : Option FieldType} {α β : Type} {en : α → Option Value ⊕ Nat} {o : Option (α × PH)} {h : PH} {pc : Nat} {rest : List Value} {L L' : List (Nat × Value)} {G G' : List (Nat × Nat)}
theorem Ro_cA {t a i b2 j n b : Nat} {cell : Cell} (hba : b ≠ b2) (ro : Ro w h b cell) : Ro w (cA t a i b2 j n h) b cell := by
  obtain ⟨r1, r2, r3⟩ := ro
  refine ⟨r1, r2, fun q1 q2 => ⟨(r3 q1 q2).1, fun x hx => ?_⟩⟩
  have h9 := (r3 q1 q2).2 x hx
  show cell.slots[x]? = some (evl w (cA t a i b2 j n h) (gT h b) b x)
  rw [h9]
  unfold evl
  rw [gA_cA, if_neg (show ¬ (gT h b = t ∧ b = b2 ∧ j ≤ x ∧ x < j + n) from fun q => hba q.2.1)]
  rfl
theorem Ro_cB {t a i b2 j n b : Nat} {cell : Cell} (hba : b ≠ b2) (ro : Ro w h b cell) : Ro w (cB t a i b2 j n h) b cell := by
  obtain ⟨r1, r2, r3⟩ := ro
  refine ⟨r1, r2, fun q1 q2 => ⟨(r3 q1 q2).1, fun x hx => ?_⟩⟩
  have h9 := (r3 q1 q2).2 x hx
  show cell.slots[x]? = some (evl w (cB t a i b2 j n h) (gT h b) b x)
  rw [h9]
  unfold evl
  rw [gB_cB, if_neg (show ¬ (gT h b = t ∧ b = b2 ∧ j ≤ x ∧ x < j + n) from fun q => hba q.2.1)]
  rfl
theorem nat_of {z : Int32} (hz : 0 ≤ z.toInt) : ¬ z < 0 ∧ z.toInt = (z.toNatClampNeg : Int) := by
  refine ⟨by rw [Int32.lt_iff_toInt_lt]; show ¬ z.toInt < 0; omega, ?_⟩
  show z.toInt = ((z.toInt.toNat : Nat) : Int)
  omega
theorem locs_app {w : Wd} {a q : Nat} {locs L2 : List Loc} (haN : NC ≤ a) (hq : rvo w a = some q) (hL : ∀ z ∈ L2, z.base = q) (hl : ∀ z ∈ locs, wdN w ≤ z.base) : ∀ z ∈ locs ++ L2, wdN w ≤ z.base := by
  intro z hz
  rcases List.mem_append.mp hz with h1 | h1
  · exact hl z h1
  · rw [hL z h1]
    rw [rvo_new haN] at hq
    have := Option.some.inj hq
    omega
theorem stretch_get {cs : Cell} {sp n k : Nat} (hk : k < n) : (cs.stretch sp n)[k]? = some (cs.slots.getD (sp + k) .null) := by
  unfold Cell.stretch
  rw [List.getElem?_map, List.getElem?_range hk]
  rfl
theorem r_cpA {index a b : Nat} {i j n : Int32} {K : PH → Option (α × PH)} (q1 : Cond.methodLink own index arraycopyName ∈ lw_all) (q2 : Cond.native arraycopyName ∈ lw_all) (q3 : Cond.static arraycopyName ∈ lw_all) (q4 : Cond.initialized "java/lang/System" ∈ lw_all) (hR : 1 ≤ fr ∧ 8 + (nativeFrameWords "java/lang/System" "arraycopy" 5 + 11) ≤ lw) (hl4 : rest.length ≤ 4) (d : decode cc pc = .ok (.invokestatic index, 3))
    (r9 : ∀ h1, Pf w (own, cc, nL, nm, ret, fr, lw) en (pc + 3) L G rest (K h1) h1) : Pf w (own, cc, nL, nm, ret, fr, lw) en pc L G (.int n :: .int j :: rv w b :: .int i :: rv w a :: rest) (o_cpA a i b j n h K) h := by
  unfold o_cpA
  split
  next hc =>
    obtain ⟨ha, hb, hbN, ⟨hi, hj, hn⟩, hs1, hs2, hfit⟩ := hc
    refine fun rE hE q => ⟨(r9 _ rE hE q).1, fun p e s m args below meth c h0 X y1 y2 y3 ls hL H locs x y u => ?_⟩
    obtain ⟨qa, ca, a1, -, a3, a4, a5, -, a7, a8, a9, -⟩ := x.arr (ty := .byte) X.2.2.2.2.2.1.2.1 ha rfl
    obtain ⟨qb, cb, b1, -, b3, b4, b5, b6, b7, b8, b9, -, ro⟩ := x.arr (ty := .byte) X.2.2.2.2.2.1.2.1 hb rfl
    rw [rv_some.mpr a1, rv_some.mpr b1]
    have hs := sum_cat rest hl4
    intro T hT Z
    obtain ⟨-, ka, ka1, compa, ka2⟩ := a7
    obtain ⟨-, kb, kb1, compb, kb2⟩ := b7
    obtain ⟨vm', Z', step⟩ := Z.arraycopy X.1 X.2.2.2.1 (X.2.2.2.2.1 _ q1) (X.2.2.2.2.1 _ q2) (X.2.2.2.2.1 _ q3) (X.2.2.2.2.1 _ q4) (src := qa) (dst := qb) (cs := ca) (cd := cb) (srcPos := i) (destPos := j) (n := n) (by rw [hT]; exact a3) (by rw [hT]; exact b3)
      (fun z hz => by rw [hz] at a5; cases a5) (fun z hz => by rw [hz] at b5; cases b5) a4 b4 ka1 kb1 ka2 kb2 (by simp [refKind]) (nat_of hi).1 (nat_of hj).1 (nat_of hn).1
      (by rw [(nat_of hi).2, (nat_of hn).2, a8]; omega) (by rw [(nat_of hj).2, (nat_of hn).2, b8]; omega)
      (fun vm₁ _ z hz => by
        have e : ca.slots.getD (i.toNatClampNeg + z) .null = .int (gA h 101 a (i.toNatClampNeg + z)) := by
          rw [Array.getD_eq_getD_getElem?, a9 _ (by omega)]
          rfl
        rw [e]
        exact ⟨(fitK_ok (ty := .byte) rfl (Or.inr (Or.inr (Or.inl rfl))) (List.all_eq_true.mp hfit z (List.mem_range.mpr hz))).2, trivial⟩)
      (g := F0 m pc ls (.int n :: .int j :: .ref qb :: .int i :: .ref qa :: rest)) rfl (by rw [X.2.2.1]; exact hL.size) (rest := rest) rfl (by rw [X.2.1]; exact d) hR.1 (by show 2 * 0 + _ + _ ≤ lw; omega)
    have hfacts := Cell.storeRun_facts cb j.toNatClampNeg (ca.stretch i.toNatClampNeg n.toNatClampNeg)
    have hl : qb < H.size := (Array.getElem?_eq_some_iff.mp b3).1
    have hheap : ((T.setVm vm').setCell qb (copied ca cb i j n)).heap = H.setIfInBounds qb (copied ca cb i j n) := by rw [← hT]; rfl
    have e1 : (H.setIfInBounds qb (copied ca cb i j n))[qb]? = some (copied ca cb i j n) := by simp [Array.getElem?_setIfInBounds, hl]
    have e3 : ∀ z, z ≠ qb → (H.setIfInBounds qb (copied ca cb i j n))[z]? = H[z]? := fun z hz => by simp [Array.getElem?_setIfInBounds, Ne.symm hz]
    have ro' : Ro w (cA 101 a i.toNatClampNeg b j.toNatClampNeg n.toNatClampNeg h) b (copied ca cb i j n) := by
      have hr := ro.2.2 (by omega) (by omega)
      refine ⟨hfacts.1.trans ro.1, fun k ty hk => ?_, fun z1 z2 => ⟨hfacts.2.2.1.trans hr.1, fun k hk => ?_⟩⟩
      · rw [show gT (cA 101 a i.toNatClampNeg b j.toNatClampNeg n.toNatClampNeg h) b = 101 from hb, fTy_none (by decide) (by decide)] at hk
        cases hk
      · show (cb.storeRun _ _).slots[k]? = _
        rw [Cell.storeRun_get _ _ _ _ (by rw [Cell.stretch_length, hr.1]; exact hs2), Cell.stretch_length]
        show _ = some (evl w _ (gT h b) b k)
        rw [hb]
        unfold evl
        rw [if_pos (show 101 < 200 by decide), gA_cA]
        by_cases hk2 : j.toNatClampNeg ≤ k ∧ k < j.toNatClampNeg + n.toNatClampNeg
        · rw [if_pos hk2, if_pos ⟨rfl, rfl, hk2⟩, stretch_get (by omega), Array.getD_eq_getD_getElem?, a9 _ (by omega)]
          rfl
        · rw [if_neg hk2, if_neg (fun z => hk2 z.2.2)]
          exact b9 k hk
    obtain ⟨t, z1, z2⟩ := (r9 _ rE hE q).2 p e s m args below meth c h0 X y1 y2 y3 ls hL _ (locs ++ (ca.stretch i.toNatClampNeg n.toNatClampNeg).zipIdx.map fun q => (⟨qb, j.toNatClampNeg + q.2⟩ : Loc))
      (x.upd (h' := cA 101 a i.toNatClampNeg b j.toNatClampNeg n.toNatClampNeg h) rfl rfl rfl hbN b1 e1 (by simp) e3 (hfacts.2.1.trans (b6 hbN)) ro' (fun z c9 hz => Ro_cA hz)) (y.upd rfl rfl hbN b1 (by omega) e3 y1)
      (locs_app hbN b1 (fun z hz => by obtain ⟨z9, -, h9⟩ := List.mem_map.mp hz; rw [← h9]) u) _ hheap Z'
    exact ⟨t, step t z1, z2⟩
  next => exact Pf.none
theorem asg200 (te : Nat) (h : asg 200 te = true) : (1 ≤ te ∧ te < 100) ∧ ∃ r2, gcl[te - 1]? = some r2 ∧ ("java/lang/Object" = r2.1 ∨ Cond.castable r2.1 "java/lang/Object" ∈ lw_tbl) := by
  unfold asg at h
  simp only [if_pos, Bool.or_eq_true, beq_iff_eq] at h
  rcases h with (z | z) | z
  · rw [z]; exact ⟨tg_2, _, gcl_2, Or.inr q3133⟩
  · rw [z]; exact ⟨tg_5, _, gcl_5, Or.inr q3130⟩
  · rw [z]; exact ⟨tg_6, _, gcl_6, Or.inr q3134⟩
theorem r_cpB {index a b : Nat} {i j n : Int32} {K : PH → Option (α × PH)} (q1 : Cond.methodLink own index arraycopyName ∈ lw_all) (q2 : Cond.native arraycopyName ∈ lw_all) (q3 : Cond.static arraycopyName ∈ lw_all) (q4 : Cond.initialized "java/lang/System" ∈ lw_all) (hR : 1 ≤ fr ∧ 8 + (nativeFrameWords "java/lang/System" "arraycopy" 5 + 11) ≤ lw) (hl4 : rest.length ≤ 4) (d : decode cc pc = .ok (.invokestatic index, 3))
    (r9 : ∀ h1, Pf w (own, cc, nL, nm, ret, fr, lw) en (pc + 3) L G rest (K h1) h1) : Pf w (own, cc, nL, nm, ret, fr, lw) en pc L G (.int n :: .int j :: rv w b :: .int i :: rv w a :: rest) (o_cpB a i b j n h K) h := by
  unfold o_cpB
  split
  next hc =>
    obtain ⟨ha, hb, hbN, ⟨hi, hj, hn⟩, hs1, hs2, hfit⟩ := hc
    refine fun rE hE q => ⟨(r9 _ rE hE q).1, fun p e s m args below meth c h0 X y1 y2 y3 ls hL H locs x y u => ?_⟩
    obtain ⟨qa, ca, a1, -, a3, a4, a5, -, a7, a8, a9, -⟩ := x.arr (ty := .object "java/lang/Object") X.2.2.2.2.2.1.2.1 ha rfl
    obtain ⟨qb, cb, b1, -, b3, b4, b5, b6, b7, b8, b9, -, ro⟩ := x.arr (ty := .object "java/lang/Object") X.2.2.2.2.2.1.2.1 hb rfl
    rw [rv_some.mpr a1, rv_some.mpr b1]
    have hs := sum_cat rest hl4
    intro T hT Z
    obtain ⟨-, ka, ka1, compa, ka2⟩ := a7
    obtain ⟨-, kb, kb1, compb, kb2⟩ := b7
    obtain ⟨vm', Z', step⟩ := Z.arraycopy X.1 X.2.2.2.1 (X.2.2.2.2.1 _ q1) (X.2.2.2.2.1 _ q2) (X.2.2.2.2.1 _ q3) (X.2.2.2.2.1 _ q4) (src := qa) (dst := qb) (cs := ca) (cd := cb) (srcPos := i) (destPos := j) (n := n) (by rw [hT]; exact a3) (by rw [hT]; exact b3)
      (fun z hz => by rw [hz] at a5; cases a5) (fun z hz => by rw [hz] at b5; cases b5) a4 b4 ka1 kb1 ka2 kb2 rfl (nat_of hi).1 (nat_of hj).1 (nat_of hn).1
      (by rw [(nat_of hi).2, (nat_of hn).2, a8]; omega) (by rw [(nat_of hj).2, (nat_of hn).2, b8]; omega)
      (fun vm₁ hal z hz => by
        have e : ca.slots.getD (i.toNatClampNeg + z) .null = rv w (gB h 200 a (i.toNatClampNeg + z)) := by
          rw [Array.getD_eq_getD_getElem?, a9 _ (by omega)]
          rfl
        rw [e]
        refine ⟨(narrow_ref (w := w) (ty := .object "java/lang/Object") rfl _).2, ?_⟩
        have hz9 := List.all_eq_true.mp hfit z (List.mem_range.mpr hz)
        simp only [Bool.or_eq_true, beq_iff_eq] at hz9
        rcases hz9 with hz9 | hz9
        · rw [hz9, rv_0]; exact trivial
        · obtain ⟨ht2, r2, hr2, hc2⟩ := asg200 _ hz9
          obtain ⟨kA, kv, kcomp, comp, j1, j2, j3, j4, j5⟩ := asg_ok (t := 200) X.2.2.2.2.2.1 rfl (by decide) ht2 hr2 hc2
          obtain ⟨b2, cv, g1, -, g3, g4, g5, -, g7⟩ := x.2.2.2.2.2 (gB h 200 a (i.toNatClampNeg + z)) (by omega)
          rw [rv_some.mpr g1]
          have hcb : cb.cls = wdA w 200 := by rw [ro.1, hb]
          rw [hcb] at kb1
          cases kb1.symm.trans j1
          cases kb2.symm.trans j2
          obtain ⟨kC', hkC', -⟩ := hal.2.2 _ _ j4
          obtain ⟨kE', hkE', -⟩ := hal.2.2 _ _ j3
          refine ⟨cv, (show T.heap[b2]? = some cv by rw [hT]; exact g3), (fun q h => by rw [h] at g5; cases g5), ⟨kC', by rw [g7.1]; exact hkC'⟩, ⟨kE', hkE'⟩, ?_⟩
          show vm₁.assignable _ _ = true
          rw [hal.assignable, g7.1]
          exact j5)
      (g := F0 m pc ls (.int n :: .int j :: .ref qb :: .int i :: .ref qa :: rest)) rfl (by rw [X.2.2.1]; exact hL.size) (rest := rest) rfl (by rw [X.2.1]; exact d) hR.1 (by show 2 * 0 + _ + _ ≤ lw; omega)
    have hfacts := Cell.storeRun_facts cb j.toNatClampNeg (ca.stretch i.toNatClampNeg n.toNatClampNeg)
    have hl : qb < H.size := (Array.getElem?_eq_some_iff.mp b3).1
    have hheap : ((T.setVm vm').setCell qb (copied ca cb i j n)).heap = H.setIfInBounds qb (copied ca cb i j n) := by rw [← hT]; rfl
    have e1 : (H.setIfInBounds qb (copied ca cb i j n))[qb]? = some (copied ca cb i j n) := by simp [Array.getElem?_setIfInBounds, hl]
    have e3 : ∀ z, z ≠ qb → (H.setIfInBounds qb (copied ca cb i j n))[z]? = H[z]? := fun z hz => by simp [Array.getElem?_setIfInBounds, Ne.symm hz]
    have ro' : Ro w (cB 200 a i.toNatClampNeg b j.toNatClampNeg n.toNatClampNeg h) b (copied ca cb i j n) := by
      have hr := ro.2.2 (by omega) (by omega)
      refine ⟨hfacts.1.trans ro.1, fun k ty hk => ?_, fun z1 z2 => ⟨hfacts.2.2.1.trans hr.1, fun k hk => ?_⟩⟩
      · rw [show gT (cB 200 a i.toNatClampNeg b j.toNatClampNeg n.toNatClampNeg h) b = 200 from hb, fTy_none (by decide) (by decide)] at hk
        cases hk
      · show (cb.storeRun _ _).slots[k]? = _
        rw [Cell.storeRun_get _ _ _ _ (by rw [Cell.stretch_length, hr.1]; exact hs2), Cell.stretch_length]
        show _ = some (evl w _ (gT h b) b k)
        rw [hb]
        unfold evl
        rw [if_neg (show ¬ 200 < 200 by decide), gB_cB]
        by_cases hk2 : j.toNatClampNeg ≤ k ∧ k < j.toNatClampNeg + n.toNatClampNeg
        · rw [if_pos hk2, if_pos ⟨rfl, rfl, hk2⟩, stretch_get (by omega), Array.getD_eq_getD_getElem?, a9 _ (by omega)]
          rfl
        · rw [if_neg hk2, if_neg (fun z => hk2 z.2.2)]
          exact b9 k hk
    obtain ⟨t, z1, z2⟩ := (r9 _ rE hE q).2 p e s m args below meth c h0 X y1 y2 y3 ls hL _ (locs ++ (ca.stretch i.toNatClampNeg n.toNatClampNeg).zipIdx.map fun q => (⟨qb, j.toNatClampNeg + q.2⟩ : Loc))
      (x.upd (h' := cB 200 a i.toNatClampNeg b j.toNatClampNeg n.toNatClampNeg h) rfl rfl rfl hbN b1 e1 (by simp) e3 (hfacts.2.1.trans (b6 hbN)) ro' (fun z c9 hz => Ro_cB hz)) (y.upd rfl rfl hbN b1 (by omega) e3 y1)
      (locs_app hbN b1 (fun z hz => by obtain ⟨z9, -, h9⟩ := List.mem_map.mp hz; rw [← h9]) u) _ hheap Z'
    exact ⟨t, step t z1, z2⟩
  next => exact Pf.none
/-- clone of an array of numbers -/
theorem r_cln {t index a : Nat} {ty : FieldType} {ad : String} {K : Nat → PH → Option (α × PH)} (hg : gaT t = some ty) (ht1 : 100 ≤ t) (ht : t < 200) (hty : ty = .int ∧ t ≠ 101 ∨ ty = .byte ∧ t = 101) (hn : "[" ++ ty.toString = ad) (q1 : Cond.methodLink own index ⟨ad, "clone", "()Ljava/lang/Object;"⟩ ∈ lw_all) (q2 : Cond.sameMethod ad "java/lang/Object" "clone" "()Ljava/lang/Object;" ∈ lw_all) (q3 : Cond.native ⟨"java/lang/Object", "clone", "()Ljava/lang/Object;"⟩ ∈ lw_all) (q4 : Cond.instanceMethod ⟨"java/lang/Object", "clone", "()Ljava/lang/Object;"⟩ ∈ lw_all)
    (q5 : Cond.selects ad ⟨ad, "clone", "()Ljava/lang/Object;"⟩ ⟨"java/lang/Object", "clone", "()Ljava/lang/Object;"⟩ ∈ lw_all) (q6 : Cond.castable ad "java/lang/Cloneable" ∈ lw_tbl) (hR : 1 ≤ fr ∧ 22 ≤ lw) (hs : (rest.map fun v => v.category).sum ≤ 8) (d : decode cc pc = .ok (.invokevirtual index, 3))
    (r9 : ∀ q9 h1, Pf w (own, cc, nL, nm, ret, fr, lw) en (pc + 3) L G (rv w q9 :: rest) (K q9 h1) h1) : Pf w (own, cc, nL, nm, ret, fr, lw) en pc L G (rv w a :: rest) (o_cln t a h K) h := by
  unfold o_cln
  by_cases hc : gT h a = t ∧ a < gN h ∧ ((List.range (gL h a)).all fun z => fitK (if t = 101 then 2 else 0) (gA h t a z)) = true
  · rw [if_pos hc]
    obtain ⟨ha, haN, hfit⟩ := hc
    refine fun rE hE q => ?_
    have hm := (r9 _ _ rE hE q).1
    have eN : gN (nC t a h) = gN h + 1 := rfl
    have eS : gS (nC t a h) = gS h + gL h a := rfl
    refine ⟨⟨by omega, by omega⟩, fun p e s m args below meth c h0 X y1 y2 y3 ls hL H locs x y u => ?_⟩
    obtain ⟨qa, ca, a1, -, a3, a4, a5, -, a7, a8, a9, a10, -⟩ := x.arr X.2.2.2.2.2.1.2.1 ha hg
    rw [rv_some.mpr a1]
    obtain ⟨kA, comp, k1, k2, k9⟩ := X.2.2.2.2.2.1.2.1 t _ hg
    have k3 := (k9 (by omega)).1
    obtain ⟨c0, t0', f1, f2, f3⟩ := Cond.castable_spec (args := #[]) (s := s) (va_Nw.use rfl (X.2.2.2.2.2.1.2.2.1 _ q6 rfl))
    rw [hn] at k3
    cases k3.symm.trans f1
    intro T hT Z
    have hT' : s.vm.Alike T.vm := Z.warmed.alike
    obtain ⟨kA', hkA', heA⟩ := hT'.2.2 _ _ k1
    obtain ⟨vm', Z', step⟩ := Z.cloneArray X.1 X.2.2.2.1 (X.2.2.2.2.1 _ q1) (X.2.2.2.2.1 _ q2) (X.2.2.2.2.1 _ q3) (X.2.2.2.2.1 _ q4) (X.2.2.2.2.1 _ q5) (a := qa) (cell := ca) (by rw [hT]; exact a3) (fun z hz => by rw [hz] at a5; cases a5) a4 (by rw [a10]; exact k3) f2 (by rw [a10]; exact f3)
      (fun z v hv => by
        have hz : z < gL h a := by rw [← a8]; exact (Array.getElem?_eq_some_iff.mp hv).1
        rw [a9 z hz] at hv
        have hv2 := Option.some.inj hv
        unfold evl at hv2
        rw [if_pos ht] at hv2
        have hf := List.all_eq_true.mp hfit z (List.mem_range.mpr hz)
        have hfv : fits ty v = true := by
          rw [← hv2]
          rcases hty with ⟨e1, e2⟩ | ⟨e1, e2⟩
          · rw [e1]; rfl
          · rw [e1]
            rw [if_pos e2] at hf
            exact (fitK_ok (ty := .byte) rfl (Or.inr (Or.inr (Or.inl rfl))) hf).2
        rw [a10]
        have hkind : kA'.kind = .array comp ty := by rw [heA]; exact k2
        have hk2 : T.vm.classes[wdA w t]? = some kA' := hkA'
        simpa [State.fitsSlot, State.slotType?, hk2, hkind] using hfv)
      (g := F0 m pc ls (.ref qa :: rest)) rfl (by rw [X.2.2.1]; exact hL.size) rfl (by rw [X.2.1]; exact d) hR.1 (by show 2 * 0 + _ + 14 ≤ lw; omega) (by show gN h - gN h0 + 1 ≤ gN hE - gN h0; omega) (by show gS h - gS h0 + _ ≤ gS hE - gS h0; rw [a8]; omega) (hloader := by rw [a10]; exact Vm.clonesLoader_of_array k1 k2)
    have hTb : ∀ b, b ≠ gN h → gT (nC t a h) b = gT h b := fun b hb => (congrFun (gT_cA t a 0 (gN h) 0 (gL h a) (nY t (gL h a) h)) b).trans ((gT_nY t (gL h a) h b).trans (if_neg hb))
    have hTn : gT (nC t a h) (gN h) = t := (congrFun (gT_cA t a 0 (gN h) 0 (gL h a) (nY t (gL h a) h)) _).trans ((gT_nY t (gL h a) h _).trans (if_pos rfl))
    obtain ⟨R1, R2⟩ := x.new (h' := nC t a h) (cell := { cls := ca.cls, slots := ca.slots }) rfl hTb rfl (fun _ => by
      refine ⟨by rw [hTn]; exact a10, fun k ty2 hk => ?_, fun _ _ => ⟨?_, fun j hj => ?_⟩⟩
      · rw [hTn, fTy_none ht1 (by omega)] at hk
        cases hk
      · show ca.slots.size = gL (nY t (gL h a) h) (gN h)
        rw [gL_nY, if_pos rfl]; exact a8
      · have hj2 : j < gL h a := by
          have : gL (nC t a h) (gN h) = gL h a := by show gL (nY t (gL h a) h) (gN h) = _; rw [gL_nY, if_pos rfl]
          omega
        show ca.slots[j]? = _
        rw [hTn, a9 j hj2]
        unfold evl nC
        rw [if_pos ht, if_pos ht, gA_cA, if_pos ⟨rfl, rfl, by omega, by omega⟩, gA_nY, if_neg (by omega)]
        simp) (fun b c9 hb ro => Ro_cA hb (Ro_nY hb ro))
    have key := (r9 _ _ rE hE q).2 p e s m args below meth c h0 X y1 (by omega) (by omega) ls hL _ locs R1 (y.new rfl hTb x.1 x.2.1 y1) u
    rw [rv_some.mpr R2] at key
    have key := W.cs (cells := gN h - gN h0 + 1) (slots := gS h - gS h0 + ca.slots.size) (by omega) (by omega) key
    obtain ⟨t9, z1, z2⟩ := key _ (by rw [← hT]; rfl) Z'
    refine ⟨t9, step t9 ?_, z2⟩
    rw [hT]
    exact z1
  · rw [if_neg hc]; exact Pf.none
theorem r_getC {index a : Nat} (q1 : Cond.methodLink own index ⟨"java/lang/Object", "getClass", "()Ljava/lang/Class;"⟩ ∈ lw_all) (q3 : Cond.selects "[Ljava/lang/Object;" ⟨"java/lang/Object", "getClass", "()Ljava/lang/Class;"⟩ ⟨"java/lang/Object", "getClass", "()Ljava/lang/Class;"⟩ ∈ lw_all) (q2 : Cond.instanceMethod ⟨"java/lang/Object", "getClass", "()Ljava/lang/Class;"⟩ ∈ lw_all) (q4 : Cond.native ⟨"java/lang/Object", "getClass", "()Ljava/lang/Class;"⟩ ∈ lw_all) (hR : 1 ≤ fr ∧ 22 ≤ lw) (hl4 : rest.length ≤ 4) (d : decode cc pc = .ok (.invokevirtual index, 3))
    (r9 : Pf w (own, cc, nL, nm, ret, fr, lw) en (pc + 3) L G (rv w 9 :: rest) o h) : Pf w (own, cc, nL, nm, ret, fr, lw) en pc L G (rv w a :: rest) (o_ck 200 a h o) h := by
  unfold o_ck
  by_cases hta : gT h a = 200
  · rw [if_pos hta]
    refine fun rE hE q => ⟨(r9 rE hE q).1, fun p e s m args below meth c h0 X y1 y2 y3 ls hL H locs x y u => ?_⟩
    obtain ⟨qa, ca, a1, -, a3, a4, a5, -, a7, a8, a9, a10, -⟩ := x.arr (ty := .object "java/lang/Object") X.2.2.2.2.2.1.2.1 hta rfl
    obtain ⟨⟨mi, w9, hM⟩, hD⟩ := X.2.2.2.2.2.1.2.2.2.2.2.2.2.1
    obtain ⟨kA, comp, k1, k2, k9⟩ := X.2.2.2.2.2.1.2.1 200 _ rfl
    have hs := sum_cat rest hl4
    have k := (r9 rE hE q).2 p e s m args below meth c h0 X y1 y2 y3 ls hL H locs x y u
    rw [rv_con w9 (by decide) (by decide)] at k
    rw [rv_some.mpr a1]
    exact va_getC X.1 X.2.1 (by rw [X.2.2.1]; exact hL.size.symm) X.2.2.2.1 (X.2.2.2.2.1 _ q1) hD.1.use (X.2.2.2.2.1 _ q3) (X.2.2.2.2.1 _ q2) (X.2.2.2.2.1 _ q4) hM ⟨ca, a3, a5, by rw [a10]; exact (k9 (by decide)).1⟩ hR.1 (by show _ + 14 ≤ lw; omega) d k
  · rw [if_neg hta]; exact Pf.none
theorem r_instA {t a index : Nat} {nm2 : String} {ty : FieldType} (hg : gaT t = some ty) (ht : t < 205) (hn : "[" ++ ty.toString = nm2) (hl : Cond.classLink own index nm2 ∈ lw_all) (d : decode cc pc = .ok (.instanceof index, 3))
    (r9 : Pf w (own, cc, nL, nm, ret, fr, lw) en (pc + 3) L G (.int 1 :: rest) o h) : Pf w (own, cc, nL, nm, ret, fr, lw) en pc L G (rv w a :: rest) (o_ck t a h o) h := by
  unfold o_ck
  by_cases hta : gT h a = t
  · rw [if_pos hta]
    refine fun rE hE q => ⟨(r9 rE hE q).1, fun p e s m args below meth c h0 X y1 y2 y3 ls hL H locs x y u => ?_⟩
    obtain ⟨b, cell, h1, -, h3, -, h5, -, -, -, -, h10, -⟩ := x.arr X.2.2.2.2.2.1.2.1 hta hg
    obtain ⟨kA, comp, -, -, k3⟩ := X.2.2.2.2.2.1.2.1 t _ hg
    have k := (r9 rE hE q).2 p e s m args below meth c h0 X y1 y2 y3 ls hL H locs x y u
    rw [rv_some.mpr h1]
    exact va_instE X.1 X.2.1 X.2.2.2.1 (X.2.2.2.2.1 _ hl) ⟨cell, h3, h5, by rw [← hn, h10]; exact (k3 ht).1⟩ d k
  · rw [if_neg hta]; exact Pf.none
def o_fdiv {α : Type} (x y : UInt32) (k : Option α) : Option α := if FP.fdiv x y &&& 0x7fffffff ≤ 0x7f800000 then k else none
def o_ddiv {α : Type} (x y : UInt64) (k : Option α) : Option α := if FP.ddiv x y &&& 0x7fffffffffffffff ≤ 0x7ff0000000000000 then k else none
theorem r_fdiv {x y : UInt32} (d : decode cc pc = .ok (.fdiv, 1)) (r : Pf w (own, cc, nL, nm, ret, fr, lw) en (pc + 1) L G (.float (FP.fdiv x y) :: rest) o h) : Pf w (own, cc, nL, nm, ret, fr, lw) en pc L G (.float y :: .float x :: rest) (o_fdiv x y o) h := by
  unfold o_fdiv
  split
  next hv => exact Pf.lift (fun p e R s m args below meth c Q H locs cells slots ls X hl k => lv_fdiv X.1 X.2.1 d hv k) r
  next => exact Pf.none
theorem r_ddiv {x y : UInt64} (d : decode cc pc = .ok (.ddiv, 1)) (r : Pf w (own, cc, nL, nm, ret, fr, lw) en (pc + 1) L G (.double (FP.ddiv x y) :: rest) o h) : Pf w (own, cc, nL, nm, ret, fr, lw) en pc L G (.double y :: .double x :: rest) (o_ddiv x y o) h := by
  unfold o_ddiv
  split
  next hv => exact Pf.lift (fun p e R s m args below meth c Q H locs cells slots ls X hl k => lv_ddiv X.1 X.2.1 d hv k) r
  next => exact Pf.none
theorem r_fret {v : UInt32} (hr : ret = some .float) (d : decode cc pc = .ok (.freturn, 1)) : Pf w (own, cc, nL, nm, ret, fr, lw) eF pc L G [.float v] (some (v, h)) h := by
  intro rE hE q
  cases q
  exact ⟨⟨Nat.le_refl _, Nat.le_refl _⟩, fun p e s m args below meth c h0 X y1 y2 y3 ls hL H locs x y u => W.fret X.1 X.2.1 (X.2.2.2.2.2.2.2.2.1.trans hr) (fun t ht _ => ⟨rfl, by rw [ht]; exact x, by rw [ht]; exact y⟩) u d X.2.2.2.2.2.2.1⟩
theorem r_dret {v : UInt64} (hr : ret = some .double) (d : decode cc pc = .ok (.dreturn, 1)) : Pf w (own, cc, nL, nm, ret, fr, lw) eD pc L G [.double v] (some (v, h)) h := by
  intro rE hE q
  cases q
  exact ⟨⟨Nat.le_refl _, Nat.le_refl _⟩, fun p e s m args below meth c h0 X y1 y2 y3 ls hL H locs x y u => W.dret X.1 X.2.1 (X.2.2.2.2.2.2.2.2.1.trans hr) (fun t ht _ => ⟨rfl, by rw [ht]; exact x, by rw [ht]; exact y⟩) u d X.2.2.2.2.2.2.1⟩
end PFN
