set_option maxRecDepth 100000
/-! ===== small rows ahead of the generated walks ===== -/
def FU : Nat := 1000000
theorem ct_i (v : Int32) : (Value.int v).category = 1 := rfl
theorem gcl_1 : gcl[1 - 1]? = some (RX1, TX1, 8, tyX1) := rfl
theorem tg_1 : 1 ≤ 1 ∧ 1 < 100 := ⟨by decide, by decide⟩
theorem gcl_2 : gcl[2 - 1]? = some (RX2, TX2, 16, tyX2) := rfl
theorem tg_2 : 1 ≤ 2 ∧ 2 < 100 := ⟨by decide, by decide⟩
theorem gcl_3 : gcl[3 - 1]? = some (RX3, TX3, 4, tyX3) := rfl
theorem tg_3 : 1 ≤ 3 ∧ 3 < 100 := ⟨by decide, by decide⟩
theorem gcl_4 : gcl[4 - 1]? = some (RX4, TX4, 4, tyX4) := rfl
theorem tg_4 : 1 ≤ 4 ∧ 4 < 100 := ⟨by decide, by decide⟩
theorem gcl_5 : gcl[5 - 1]? = some (RX5, TX5, 4, tyX5) := rfl
theorem tg_5 : 1 ≤ 5 ∧ 5 < 100 := ⟨by decide, by decide⟩
theorem gcl_6 : gcl[6 - 1]? = some (RJ3, TJ3, 3, tyJ3) := rfl
theorem tg_6 : 1 ≤ 6 ∧ 6 < 100 := ⟨by decide, by decide⟩
theorem gcl_7 : gcl[7 - 1]? = some (RJ20, TJ20, 3, tyJ20) := rfl
theorem tg_7 : 1 ≤ 7 ∧ 7 < 100 := ⟨by decide, by decide⟩
theorem gcl_8 : gcl[8 - 1]? = some (RJ24, TJ24, 4, tyJ24) := rfl
theorem tg_8 : 1 ≤ 8 ∧ 8 < 100 := ⟨by decide, by decide⟩
theorem gcl_9 : gcl[9 - 1]? = some (RX9, TX9, 1, tyX9) := rfl
theorem tg_9 : 1 ≤ 9 ∧ 9 < 100 := ⟨by decide, by decide⟩
theorem gcl_10 : gcl[10 - 1]? = some (RX10, TX10, 2, tyX10) := rfl
theorem tg_10 : 1 ≤ 10 ∧ 10 < 100 := ⟨by decide, by decide⟩
theorem gcl_11 : gcl[11 - 1]? = some (RX11, TX11, 2, tyX11) := rfl
theorem tg_11 : 1 ≤ 11 ∧ 11 < 100 := ⟨by decide, by decide⟩
theorem gcl_12 : gcl[12 - 1]? = some (RX7, TX7, 7, tyX7) := rfl
theorem tg_12 : 1 ≤ 12 ∧ 12 < 100 := ⟨by decide, by decide⟩
theorem gcl_13 : gcl[13 - 1]? = some (RX8, TX8, 8, tyX8) := rfl
theorem tg_13 : 1 ≤ 13 ∧ 13 < 100 := ⟨by decide, by decide⟩
theorem gcl_14 : gcl[14 - 1]? = some (RJ10, TJ10, 4, tyJ10) := rfl
theorem tg_14 : 1 ≤ 14 ∧ 14 < 100 := ⟨by decide, by decide⟩
theorem gcl_15 : gcl[15 - 1]? = some (RJ9, TJ9, 4, tyJ9) := rfl
theorem tg_15 : 1 ≤ 15 ∧ 15 < 100 := ⟨by decide, by decide⟩
theorem gcl_16 : gcl[16 - 1]? = some (RJ18, TJ18, 1, tyJ18) := rfl
theorem tg_16 : 1 ≤ 16 ∧ 16 < 100 := ⟨by decide, by decide⟩
theorem gcl_17 : gcl[17 - 1]? = some (RX6, TX6, 23, tyX6) := rfl
theorem tg_17 : 1 ≤ 17 ∧ 17 < 100 := ⟨by decide, by decide⟩
section PFS
variable {w : Wd} {own nm : String} {cc : ByteArray} {nL fr lw : Nat} {ret : Option FieldType} {α β : Type} {en : α → Option Value ⊕ Nat} {o : Option (α × PH)} {h : PH} {pc : Nat} {rest : List Value} {L L' : List (Nat × Value)} {G G' : List (Nat × Nat)}
theorem Pf.cases {M : Mc} {st : List Value} {C : Prop} [Decidable C] {o1 o2 : Option (α × PH)} (r1 : C → Pf w M en pc L G st o1 h) (r2 : ¬ C → Pf w M en pc L G st o2 h) : Pf w M en pc L G st (if C then o1 else o2) h := by
  by_cases hc : C
  · rw [if_pos hc]; exact r1 hc
  · rw [if_neg hc]; exact r2 hc
theorem r_lk {dflt : Int} {ps : Array (Int × Int)} {len : Nat} {x : Int32} {off : Int} {tgt : Nat} (d : decode cc pc = .ok (.lookupswitch dflt ps, len)) (hp : (ps.toList.zip (ps.toList.drop 1)).all (fun (a, next) => a.1 < next.1) = true) (ho : Op.lookupswitch.offset ps.toList dflt x.toInt = off) (ht : (pc : Int) + off = (tgt : Int)) (r : Pf w (own, cc, nL, nm, ret, fr, lw) en tgt L G rest o h) : Pf w (own, cc, nL, nm, ret, fr, lw) en pc L G (.int x :: rest) o h :=
  Pf.lift (fun p e R s m args below meth c Q H locs cells slots ls X hl k => lv_lookup X.1 X.2.1 d hp ho ht k) r
theorem r_tsO {dflt lo hi : Int} {offs : Array Int} {len : Nat} {x : Int32} {tgt : Nat} (d : decode cc pc = .ok (.tableswitch dflt lo hi offs, len)) (h9 : x.toInt < lo ∨ hi < x.toInt) (ht : (pc : Int) + dflt = (tgt : Int)) (r : Pf w (own, cc, nL, nm, ret, fr, lw) en tgt L G rest o h) : Pf w (own, cc, nL, nm, ret, fr, lw) en pc L G (.int x :: rest) o h :=
  Pf.lift (fun p e R s m args below meth c Q H locs cells slots ls X hl k => lv_tableOut X.1 X.2.1 d h9 ht k) r
theorem r_tsI {dflt lo hi : Int} {offs : Array Int} {len : Nat} {x : Int32} {off : Int} {tgt : Nat} (d : decode cc pc = .ok (.tableswitch dflt lo hi offs, len)) (h1 : ¬ x.toInt < lo) (h2 : ¬ hi < x.toInt) (ho : offs[(x.toInt - lo).toNat]? = some off) (ht : (pc : Int) + off = (tgt : Int)) (r : Pf w (own, cc, nL, nm, ret, fr, lw) en tgt L G rest o h) : Pf w (own, cc, nL, nm, ret, fr, lw) en pc L G (.int x :: rest) o h :=
  Pf.lift (fun p e R s m args below meth c Q H locs cells slots ls X hl k => lv_tableIn X.1 X.2.1 d h1 h2 ho ht k) r
theorem asg_any {t te : Nat} (h9 : asg t te = true) : (t = 200 ∧ (te = 2 ∨ te = 5 ∨ te = 6)) ∨ (t = 201 ∧ te = 4) ∨ (t = 202 ∧ te = 5) ∨ (t = 203 ∧ te = 3) ∨ t = 204 := by
  unfold asg at h9
  repeat' split at h9
  all_goals first | (simp only [Bool.or_eq_true, beq_iff_eq] at h9; omega) | omega | cases h9
theorem r_aast_200 {a v : Nat} {i : Int32} {K : PH → Option (α × PH)} (d : decode cc pc = .ok (.aastore, 1)) (r9 : ∀ h1, Pf w (own, cc, nL, nm, ret, fr, lw) en (pc + 1) L G rest (K h1) h1) : Pf w (own, cc, nL, nm, ret, fr, lw) en pc L G (rv w v :: .int i :: rv w a :: rest) (o_sb 200 a i v h K) h := by
  refine r_aast (C := "java/lang/Object") rfl ⟨by decide, by decide⟩ (fun te h9 => ?_) d r9
  rcases asg_any h9 with ⟨-, z | z | z⟩ | ⟨z, -⟩ | ⟨z, -⟩ | ⟨z, -⟩ | z
  · rw [z]; exact ⟨tg_2, _, gcl_2, Or.inr q3133⟩
  · rw [z]; exact ⟨tg_5, _, gcl_5, Or.inr q3130⟩
  · rw [z]; exact ⟨tg_6, _, gcl_6, Or.inr q3134⟩
  all_goals omega
theorem r_aast_201 {a v : Nat} {i : Int32} {K : PH → Option (α × PH)} (d : decode cc pc = .ok (.aastore, 1)) (r9 : ∀ h1, Pf w (own, cc, nL, nm, ret, fr, lw) en (pc + 1) L G rest (K h1) h1) : Pf w (own, cc, nL, nm, ret, fr, lw) en pc L G (rv w v :: .int i :: rv w a :: rest) (o_sb 201 a i v h K) h := by
  refine r_aast (C := "HedgeMessages$Twig") rfl ⟨by decide, by decide⟩ (fun te h9 => ?_) d r9
  rcases asg_any h9 with ⟨z, -⟩ | ⟨-, z⟩ | ⟨z, -⟩ | ⟨z, -⟩ | z
  · omega
  · rw [z]; exact ⟨tg_4, _, gcl_4, Or.inl rfl⟩
  all_goals omega
theorem r_aast_202 {a v : Nat} {i : Int32} {K : PH → Option (α × PH)} (d : decode cc pc = .ok (.aastore, 1)) (r9 : ∀ h1, Pf w (own, cc, nL, nm, ret, fr, lw) en (pc + 1) L G rest (K h1) h1) : Pf w (own, cc, nL, nm, ret, fr, lw) en pc L G (rv w v :: .int i :: rv w a :: rest) (o_sb 202 a i v h K) h := by
  refine r_aast (C := "HedgeMessages$Message") rfl ⟨by decide, by decide⟩ (fun te h9 => ?_) d r9
  rcases asg_any h9 with ⟨z, -⟩ | ⟨z, -⟩ | ⟨-, z⟩ | ⟨z, -⟩ | z
  · omega
  · omega
  · rw [z]; exact ⟨tg_5, _, gcl_5, Or.inl rfl⟩
  all_goals omega
theorem r_aast_203 {a v : Nat} {i : Int32} {K : PH → Option (α × PH)} (d : decode cc pc = .ok (.aastore, 1)) (r9 : ∀ h1, Pf w (own, cc, nL, nm, ret, fr, lw) en (pc + 1) L G rest (K h1) h1) : Pf w (own, cc, nL, nm, ret, fr, lw) en pc L G (rv w v :: .int i :: rv w a :: rest) (o_sb 203 a i v h K) h := by
  refine r_aast (C := "HedgeMessages$Counters") rfl ⟨by decide, by decide⟩ (fun te h9 => ?_) d r9
  rcases asg_any h9 with ⟨z, -⟩ | ⟨z, -⟩ | ⟨z, -⟩ | ⟨-, z⟩ | z
  · omega
  · omega
  · omega
  · rw [z]; exact ⟨tg_3, _, gcl_3, Or.inl rfl⟩
  · omega
theorem r_mmax {x y : Int32} {index : Nat} (q1 : Cond.methodLink own index Lib.Math.max.name ∈ lw_all) (q2 : Cond.static Lib.Math.max.name ∈ lw_all) (q3 : Cond.initialized "java/lang/Math" ∈ lw_all) (q5 : Cond.code Lib.Math.max.name Lib.Math.max.code 2 (some .int) ∈ lw_all) (hR : 1 ≤ fr ∧ 21 ≤ lw) (hl4 : rest.length ≤ 4) (d : decode cc pc = .ok (.invokestatic index, 3)) (r9 : Pf w (own, cc, nL, nm, ret, fr, lw) en (pc + 3) L G (.int (if x < y then y else x) :: rest) o h) : Pf w (own, cc, nL, nm, ret, fr, lw) en pc L G (.int y :: .int x :: rest) o h := by
  refine fun rE hE q => ⟨(r9 rE hE q).1, fun p e s m args below meth c h0 X y1 y2 y3 ls hL H locs x9 y9 u => ?_⟩
  have m1 := (r9 rE hE q).1
  have hs := sum_cat rest hl4
  exact va_mmax X.1 X.2.1 (by rw [X.2.2.1]; exact hL.size.symm) X.2.2.2.1 (X.2.2.2.2.1 _ q1) (X.2.2.2.2.1 _ q2) (X.2.2.2.2.1 _ q3) (X.2.2.2.2.1 _ q5) hR.1 (by show _ + 13 ≤ lw; omega) (by show gN h - gN h0 ≤ gN hE - gN h0; omega) (by show gS h - gS h0 ≤ gS hE - gS h0; omega) d ((r9 rE hE q).2 p e s m args below meth c h0 X y1 y2 y3 ls hL H locs x9 y9 u)
theorem r_mmin {x y : Int32} {index : Nat} (q1 : Cond.methodLink own index Lib.Math.min.name ∈ lw_all) (q2 : Cond.static Lib.Math.min.name ∈ lw_all) (q3 : Cond.initialized "java/lang/Math" ∈ lw_all) (q5 : Cond.code Lib.Math.min.name Lib.Math.min.code 2 (some .int) ∈ lw_all) (hR : 1 ≤ fr ∧ 21 ≤ lw) (hl4 : rest.length ≤ 4) (d : decode cc pc = .ok (.invokestatic index, 3)) (r9 : Pf w (own, cc, nL, nm, ret, fr, lw) en (pc + 3) L G (.int (if y < x then y else x) :: rest) o h) : Pf w (own, cc, nL, nm, ret, fr, lw) en pc L G (.int y :: .int x :: rest) o h := by
  refine fun rE hE q => ⟨(r9 rE hE q).1, fun p e s m args below meth c h0 X y1 y2 y3 ls hL H locs x9 y9 u => ?_⟩
  have m1 := (r9 rE hE q).1
  have hs := sum_cat rest hl4
  exact va_mmin X.1 X.2.1 (by rw [X.2.2.1]; exact hL.size.symm) X.2.2.2.1 (X.2.2.2.2.1 _ q1) (X.2.2.2.2.1 _ q2) (X.2.2.2.2.1 _ q3) (X.2.2.2.2.1 _ q5) hR.1 (by show _ + 13 ≤ lw; omega) (by show gN h - gN h0 ≤ gN hE - gN h0; omega) (by show gS h - gS h0 ≤ gS hE - gS h0; omega) d ((r9 rE hE q).2 p e s m args below meth c h0 X y1 y2 y3 ls hL H locs x9 y9 u)
end PFS
