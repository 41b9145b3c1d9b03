set_option maxRecDepth 100000
/-! ===== the lambdas: the made classes' facts, in one form ===== -/
/-- what is decided about a shape once for all: its class's file, the method that forwards, the fields -/
def LamD (σ : Lambda.Shape) (own : String) (D : ClassFile) (fwd : Method) (laid : Array Field × Array FieldType × Array FieldType) (code : ByteArray) (mi ci nt : Nat) (fs : List (Nat × Nat × FieldType)) : Prop :=
  σ.file own = some D ∧ (∀ ms, layoutMethods D = some ms → ms[1]? = some fwd) ∧ layoutFields D 0 = some laid ∧ (fwd.code.map fun c => (c.code.data, c.maxLocals)) = some (code.data, 2) ∧ (fwd.accessFlags, fwd.sig.returnType) = (0x0001, some FieldType.int) ∧
  (D.constantPool[mi]? = some (.methodref ci nt) ∧ D.constantPool.className? ci = some σ.implClass ∧ D.constantPool.nameAndType? nt = some (σ.implName, σ.implDesc.toString)) ∧
  (∃ j, D.constantPool[ci]? = some (.class_ j) ∧ D.constantPool.string? j = some σ.implClass ∧ ci ≠ D.thisClass) ∧
  (∀ (i : Nat) (z : Nat × Nat × FieldType), fs[i]? = some z → ∃ (fnt fn : Nat) (nm ds : String), D.constantPool[z.1]? = some (.fieldref fn fnt) ∧ D.constantPool.nameAndType? fnt = some (nm, ds) ∧ laid.1.findIdx? (·.name == nm) = some i ∧ (laid.1[i]?).map (fun f => (f.isStatic, f.slot)) = some (false, i) ∧ fn = 2) ∧
  laid.2.1.toList = fs.map (·.2.2) ∧ σ.implItf = false
theorem lam_made {σ : Lambda.Shape} {own : String} {D : ClassFile} {fwd : Method} {laid : Array Field × Array FieldType × Array FieldType} {code : ByteArray} {mi ci nt : Nat} {fs : List (Nat × Nat × FieldType)} (hL : LamD σ own D fwd laid code mi ci nt fs)
    {e : Setting} {vm : Vm} {d c : ClassId} {dk : Class} (hd : vm.classes[d]? = some dk) (hname : dk.name = own) (h : Lambda.isMade e vm d σ c = true) (hO : ∀ o ok, vm.findClass "java/lang/Object" = some o → vm.classes[o]? = some ok → ok.instanceTypes.size = 0) :
    ∃ (k tk : Class) (file : ClassFile) (methk : Method) (ck : Code) (toy : ClassId) (t : MethodId), vm.classes[c]? = some k ∧ k.name = own ++ "$$Lambda" ∧ k.cf = some file ∧ file.constantPool = D.constantPool ∧
      vm.method? ⟨c, 1⟩ = some methk ∧ methk.code = some ck ∧ ck.code = code ∧ ck.maxLocals = 2 ∧ ck.exceptionTable.isEmpty = true ∧ methk.locks = false ∧ methk.accessFlags = 0x0001 ∧ methk.sig.returnType = some .int ∧
      vm.findClass σ.implClass = some toy ∧ vm.classes[toy]? = some tk ∧ tk.isInterface = false ∧ ((methodIn toy σ.implName σ.implDesc.toString tk.isInterface none).ask e vm).1 = .ok t ∧
      vm.methodReady c mi t ∧ vm.classReady c ci toy ∧ (∀ (i : Nat) (z : Nat × Nat × FieldType), fs[i]? = some z → ∃ f : Field, vm.fieldReady c z.1 c f ∧ f.isStatic = false ∧ f.slot = i) ∧ k.instanceTypes.toList = fs.map (·.2.2) ∧ k.kind = .ordinary := by
  obtain ⟨g1, g2, g3, g4, g5, g6, ⟨j7, g7⟩, g8, g9, g10⟩ := hL
  obtain ⟨dk', k, ok, tk, file, cf, object, iface, toy, lay, methods, target, found, hd', hk, hfile, hcf, hobj, -, hok, hlay, hms, ht, htk, hg, -, hrec, -, -, -, hitf, hpool, hmeth, hfields, hty, hres, -⟩ := Lambda.isMade_spec h
  cases hd.symm.trans hd'
  rw [hname, g1] at hcf
  cases hcf
  have hok0 : ok.instanceTypes = #[] := Array.eq_empty_of_size_eq_zero (hO object ok hobj hok)
  rw [hO object ok hobj hok, g3] at hlay
  cases hlay
  obtain ⟨b, hb, hsame⟩ := hmeth 1 fwd (g2 methods hms)
  simp only [Lambda.sameMethod, Bool.and_eq_true, decide_eq_true_eq] at hsame
  obtain ⟨⟨hn, -, hsig, hfl⟩, hcode⟩ := hsame
  simp only [Prod.mk.injEq] at g5
  rw [g10] at hitf
  cases hfc : fwd.code with
  | none => rw [hfc] at g4; cases g4
  | some x =>
    cases hbc : b.code with
    | none => simp [hfc, hbc] at hcode
    | some y =>
      simp only [hfc, hbc, Bool.and_eq_true, decide_eq_true_eq] at hcode
      simp only [hfc, Option.map_some, Option.some.injEq, Prod.mk.injEq] at g4
      refine ⟨k, tk, file, b, y, toy, target, hk, by rw [hrec.1, hname], hfile, hpool.2.1, by simp [Vm.method?, hk, hb], hbc, ?_, by rw [← hcode.1.1.1.1.2.1]; exact g4.2, hcode.1.1.2, ?_, by rw [← hfl]; exact g5.1, by rw [← hsig]; exact g5.2, ht, htk, hitf, hg,
        ⟨k, hk, hres mi _ (Lambda.resolvedOf_method g6.1 g6.2.1 ht htk g6.2.2 hg)⟩, ⟨k, hk, hres ci _ (Lambda.resolvedOf_class g7.1 g7.2.2 g7.2.1 ht)⟩, fun i z hz => ?_, by rw [hty.1, hok0, ← g9]; simp, hrec.2.1⟩
      · rw [← hcode.1.1.1.1.2.2]
        exact ByteArray.ext g4.1
      · simp [Method.locks, Method.isSynchronized, ← hfl, g5.1, hasFlag, Acc.synchronized]
      · obtain ⟨fnt, fn, nm, ds, e1, e2, e3, e4, -⟩ := g8 i z hz
        obtain ⟨f, hf, hp⟩ := Option.map_eq_some_iff.mp e4
        simp only [Prod.mk.injEq] at hp
        exact ⟨f, ⟨k, i, k, hk, hres z.1 _ (Lambda.resolvedOf_field e1 e2 e3), hk, hfields i _ hf⟩, hp.1, hp.2⟩
abbrev sig310 : Lambda.Shape := ({ iface := "HedgeMessages$Operation", name := "apply", sam := ({ parameters := [(Jvm.ClassFile.FieldType.object "HedgeMessages$State")], returnType := (Option.some Jvm.ClassFile.FieldType.int) } : Jvm.ClassFile.MethodDescriptor), captured := [Jvm.ClassFile.FieldType.int, Jvm.ClassFile.FieldType.char], kind := 6, implClass := "HedgeMessages$Parser", implName := "lambda$plantCommand$0", implDesc := ({ parameters := [Jvm.ClassFile.FieldType.int, Jvm.ClassFile.FieldType.char, (Jvm.ClassFile.FieldType.object "HedgeMessages$State")], returnType := (Option.some Jvm.ClassFile.FieldType.int) } : Jvm.ClassFile.MethodDescriptor), implItf := false, inst := ({ parameters := [(Jvm.ClassFile.FieldType.object "HedgeMessages$State")], returnType := (Option.some Jvm.ClassFile.FieldType.int) } : Jvm.ClassFile.MethodDescriptor) } : Jvm.Lambda.Shape)
def lD310 : ClassFile := (sig310.file "HedgeMessages$Parser").getD { minorVersion := 0, majorVersion := 0, constantPool := #[], accessFlags := 0, thisClass := 0, superClass := 0, interfaces := #[], fields := #[], methods := #[], attributes := #[] }
def lF310 : Method := ((layoutMethods lD310).bind (·[1]?)).getD default
def lA310 : Array Field × Array FieldType × Array FieldType := (layoutFields lD310 0).getD (#[], #[], #[])
def lB310 : ByteArray := ⟨#[42, 180, 0, 17, 42, 180, 0, 19, 43, 184, 0, 27, 172]⟩
theorem lam310 : LamD sig310 "HedgeMessages$Parser" lD310 lF310 lA310 lB310 27 23 26 [(17, 0, .int), (19, 1, .char)] := by
  refine ⟨?_, ?_, ?_, by decide +kernel, by decide +kernel, ⟨by decide +kernel, by decide +kernel, by decide +kernel⟩, ⟨22, by decide +kernel, by decide +kernel, by decide +kernel⟩, ?_, by decide +kernel, rfl⟩
  · have h : (sig310.file "HedgeMessages$Parser").isSome = true := by decide +kernel
    obtain ⟨x, hx⟩ := Option.isSome_iff_exists.mp h
    simp only [lD310, hx, Option.getD_some]
  · intro ms hms
    have h : ((layoutMethods lD310).bind (·[1]?)).isSome = true := by decide +kernel
    obtain ⟨x, hx⟩ := Option.isSome_iff_exists.mp h
    have hf : lF310 = x := by simp only [lF310, hx, Option.getD_some]
    rw [hms] at hx
    rw [hf]
    exact hx
  · have h : (layoutFields lD310 0).isSome = true := by decide +kernel
    obtain ⟨x, hx⟩ := Option.isSome_iff_exists.mp h
    simp only [lA310, hx, Option.getD_some]
  · intro i z hz
    match i, hz with
    | 0, hz => cases hz; exact ⟨16, 2, "arg$1", "I", by decide +kernel, by decide +kernel, by decide +kernel, by decide +kernel, rfl⟩
    | 1, hz => cases hz; exact ⟨18, 2, "arg$2", "C", by decide +kernel, by decide +kernel, by decide +kernel, by decide +kernel, rfl⟩
    | i + 2, hz => simp at hz
theorem lB310_0 : decode lB310 0 = .ok (.aload_n 0, 1) := by decide +kernel
theorem lB310_1 : decode lB310 1 = .ok (.getfield 17, 3) := by decide +kernel
theorem lB310_4 : decode lB310 4 = .ok (.aload_n 0, 1) := by decide +kernel
theorem lB310_5 : decode lB310 5 = .ok (.getfield 19, 3) := by decide +kernel
theorem lB310_8 : decode lB310 8 = .ok (.aload_n 1, 1) := by decide +kernel
theorem lB310_9 : decode lB310 9 = .ok (.invokestatic 27, 3) := by decide +kernel
theorem lB310_12 : decode lB310 12 = .ok (.ireturn, 1) := by decide +kernel
abbrev sig311 : Lambda.Shape := ({ iface := "HedgeMessages$Operation", name := "apply", sam := ({ parameters := [(Jvm.ClassFile.FieldType.object "HedgeMessages$State")], returnType := (Option.some Jvm.ClassFile.FieldType.int) } : Jvm.ClassFile.MethodDescriptor), captured := [Jvm.ClassFile.FieldType.int], kind := 6, implClass := "HedgeMessages$Parser", implName := "lambda$removeCommand$1", implDesc := ({ parameters := [Jvm.ClassFile.FieldType.int, (Jvm.ClassFile.FieldType.object "HedgeMessages$State")], returnType := (Option.some Jvm.ClassFile.FieldType.int) } : Jvm.ClassFile.MethodDescriptor), implItf := false, inst := ({ parameters := [(Jvm.ClassFile.FieldType.object "HedgeMessages$State")], returnType := (Option.some Jvm.ClassFile.FieldType.int) } : Jvm.ClassFile.MethodDescriptor) } : Jvm.Lambda.Shape)
def lD311 : ClassFile := (sig311.file "HedgeMessages$Parser").getD { minorVersion := 0, majorVersion := 0, constantPool := #[], accessFlags := 0, thisClass := 0, superClass := 0, interfaces := #[], fields := #[], methods := #[], attributes := #[] }
def lF311 : Method := ((layoutMethods lD311).bind (·[1]?)).getD default
def lA311 : Array Field × Array FieldType × Array FieldType := (layoutFields lD311 0).getD (#[], #[], #[])
def lB311 : ByteArray := ⟨#[42, 180, 0, 15, 43, 184, 0, 23, 172]⟩
theorem lam311 : LamD sig311 "HedgeMessages$Parser" lD311 lF311 lA311 lB311 23 19 22 [(15, 0, .int)] := by
  refine ⟨?_, ?_, ?_, by decide +kernel, by decide +kernel, ⟨by decide +kernel, by decide +kernel, by decide +kernel⟩, ⟨18, by decide +kernel, by decide +kernel, by decide +kernel⟩, ?_, by decide +kernel, rfl⟩
  · have h : (sig311.file "HedgeMessages$Parser").isSome = true := by decide +kernel
    obtain ⟨x, hx⟩ := Option.isSome_iff_exists.mp h
    simp only [lD311, hx, Option.getD_some]
  · intro ms hms
    have h : ((layoutMethods lD311).bind (·[1]?)).isSome = true := by decide +kernel
    obtain ⟨x, hx⟩ := Option.isSome_iff_exists.mp h
    have hf : lF311 = x := by simp only [lF311, hx, Option.getD_some]
    rw [hms] at hx
    rw [hf]
    exact hx
  · have h : (layoutFields lD311 0).isSome = true := by decide +kernel
    obtain ⟨x, hx⟩ := Option.isSome_iff_exists.mp h
    simp only [lA311, hx, Option.getD_some]
  · intro i z hz
    match i, hz with
    | 0, hz => cases hz; exact ⟨14, 2, "arg$1", "I", by decide +kernel, by decide +kernel, by decide +kernel, by decide +kernel, rfl⟩
    | i + 1, hz => simp at hz
theorem lB311_0 : decode lB311 0 = .ok (.aload_n 0, 1) := by decide +kernel
theorem lB311_1 : decode lB311 1 = .ok (.getfield 15, 3) := by decide +kernel
theorem lB311_4 : decode lB311 4 = .ok (.aload_n 1, 1) := by decide +kernel
theorem lB311_5 : decode lB311 5 = .ok (.invokestatic 23, 3) := by decide +kernel
theorem lB311_8 : decode lB311 8 = .ok (.ireturn, 1) := by decide +kernel
abbrev sig312 : Lambda.Shape := ({ iface := "HedgeMessages$Operation", name := "apply", sam := ({ parameters := [(Jvm.ClassFile.FieldType.object "HedgeMessages$State")], returnType := (Option.some Jvm.ClassFile.FieldType.int) } : Jvm.ClassFile.MethodDescriptor), captured := [Jvm.ClassFile.FieldType.int, Jvm.ClassFile.FieldType.int], kind := 6, implClass := "HedgeMessages$Parser", implName := "lambda$trimCommand$2", implDesc := ({ parameters := [Jvm.ClassFile.FieldType.int, Jvm.ClassFile.FieldType.int, (Jvm.ClassFile.FieldType.object "HedgeMessages$State")], returnType := (Option.some Jvm.ClassFile.FieldType.int) } : Jvm.ClassFile.MethodDescriptor), implItf := false, inst := ({ parameters := [(Jvm.ClassFile.FieldType.object "HedgeMessages$State")], returnType := (Option.some Jvm.ClassFile.FieldType.int) } : Jvm.ClassFile.MethodDescriptor) } : Jvm.Lambda.Shape)
def lD312 : ClassFile := (sig312.file "HedgeMessages$Parser").getD { minorVersion := 0, majorVersion := 0, constantPool := #[], accessFlags := 0, thisClass := 0, superClass := 0, interfaces := #[], fields := #[], methods := #[], attributes := #[] }
def lF312 : Method := ((layoutMethods lD312).bind (·[1]?)).getD default
def lA312 : Array Field × Array FieldType × Array FieldType := (layoutFields lD312 0).getD (#[], #[], #[])
def lB312 : ByteArray := ⟨#[42, 180, 0, 16, 42, 180, 0, 18, 43, 184, 0, 26, 172]⟩
theorem lam312 : LamD sig312 "HedgeMessages$Parser" lD312 lF312 lA312 lB312 26 22 25 [(16, 0, .int), (18, 1, .int)] := by
  refine ⟨?_, ?_, ?_, by decide +kernel, by decide +kernel, ⟨by decide +kernel, by decide +kernel, by decide +kernel⟩, ⟨21, by decide +kernel, by decide +kernel, by decide +kernel⟩, ?_, by decide +kernel, rfl⟩
  · have h : (sig312.file "HedgeMessages$Parser").isSome = true := by decide +kernel
    obtain ⟨x, hx⟩ := Option.isSome_iff_exists.mp h
    simp only [lD312, hx, Option.getD_some]
  · intro ms hms
    have h : ((layoutMethods lD312).bind (·[1]?)).isSome = true := by decide +kernel
    obtain ⟨x, hx⟩ := Option.isSome_iff_exists.mp h
    have hf : lF312 = x := by simp only [lF312, hx, Option.getD_some]
    rw [hms] at hx
    rw [hf]
    exact hx
  · have h : (layoutFields lD312 0).isSome = true := by decide +kernel
    obtain ⟨x, hx⟩ := Option.isSome_iff_exists.mp h
    simp only [lA312, hx, Option.getD_some]
  · intro i z hz
    match i, hz with
    | 0, hz => cases hz; exact ⟨15, 2, "arg$1", "I", by decide +kernel, by decide +kernel, by decide +kernel, by decide +kernel, rfl⟩
    | 1, hz => cases hz; exact ⟨17, 2, "arg$2", "I", by decide +kernel, by decide +kernel, by decide +kernel, by decide +kernel, rfl⟩
    | i + 2, hz => simp at hz
theorem lB312_0 : decode lB312 0 = .ok (.aload_n 0, 1) := by decide +kernel
theorem lB312_1 : decode lB312 1 = .ok (.getfield 16, 3) := by decide +kernel
theorem lB312_4 : decode lB312 4 = .ok (.aload_n 0, 1) := by decide +kernel
theorem lB312_5 : decode lB312 5 = .ok (.getfield 18, 3) := by decide +kernel
theorem lB312_8 : decode lB312 8 = .ok (.aload_n 1, 1) := by decide +kernel
theorem lB312_9 : decode lB312 9 = .ok (.invokestatic 26, 3) := by decide +kernel
theorem lB312_12 : decode lB312 12 = .ok (.ireturn, 1) := by decide +kernel
abbrev sig313 : Lambda.Shape := ({ iface := "HedgeMessages$Operation", name := "apply", sam := ({ parameters := [(Jvm.ClassFile.FieldType.object "HedgeMessages$State")], returnType := (Option.some Jvm.ClassFile.FieldType.int) } : Jvm.ClassFile.MethodDescriptor), captured := [Jvm.ClassFile.FieldType.int, Jvm.ClassFile.FieldType.int], kind := 6, implClass := "HedgeMessages$Parser", implName := "lambda$nestCommand$3", implDesc := ({ parameters := [Jvm.ClassFile.FieldType.int, Jvm.ClassFile.FieldType.int, (Jvm.ClassFile.FieldType.object "HedgeMessages$State")], returnType := (Option.some Jvm.ClassFile.FieldType.int) } : Jvm.ClassFile.MethodDescriptor), implItf := false, inst := ({ parameters := [(Jvm.ClassFile.FieldType.object "HedgeMessages$State")], returnType := (Option.some Jvm.ClassFile.FieldType.int) } : Jvm.ClassFile.MethodDescriptor) } : Jvm.Lambda.Shape)
def lD313 : ClassFile := (sig313.file "HedgeMessages$Parser").getD { minorVersion := 0, majorVersion := 0, constantPool := #[], accessFlags := 0, thisClass := 0, superClass := 0, interfaces := #[], fields := #[], methods := #[], attributes := #[] }
def lF313 : Method := ((layoutMethods lD313).bind (·[1]?)).getD default
def lA313 : Array Field × Array FieldType × Array FieldType := (layoutFields lD313 0).getD (#[], #[], #[])
def lB313 : ByteArray := ⟨#[42, 180, 0, 16, 42, 180, 0, 18, 43, 184, 0, 26, 172]⟩
theorem lam313 : LamD sig313 "HedgeMessages$Parser" lD313 lF313 lA313 lB313 26 22 25 [(16, 0, .int), (18, 1, .int)] := by
  refine ⟨?_, ?_, ?_, by decide +kernel, by decide +kernel, ⟨by decide +kernel, by decide +kernel, by decide +kernel⟩, ⟨21, by decide +kernel, by decide +kernel, by decide +kernel⟩, ?_, by decide +kernel, rfl⟩
  · have h : (sig313.file "HedgeMessages$Parser").isSome = true := by decide +kernel
    obtain ⟨x, hx⟩ := Option.isSome_iff_exists.mp h
    simp only [lD313, hx, Option.getD_some]
  · intro ms hms
    have h : ((layoutMethods lD313).bind (·[1]?)).isSome = true := by decide +kernel
    obtain ⟨x, hx⟩ := Option.isSome_iff_exists.mp h
    have hf : lF313 = x := by simp only [lF313, hx, Option.getD_some]
    rw [hms] at hx
    rw [hf]
    exact hx
  · have h : (layoutFields lD313 0).isSome = true := by decide +kernel
    obtain ⟨x, hx⟩ := Option.isSome_iff_exists.mp h
    simp only [lA313, hx, Option.getD_some]
  · intro i z hz
    match i, hz with
    | 0, hz => cases hz; exact ⟨15, 2, "arg$1", "I", by decide +kernel, by decide +kernel, by decide +kernel, by decide +kernel, rfl⟩
    | 1, hz => cases hz; exact ⟨17, 2, "arg$2", "I", by decide +kernel, by decide +kernel, by decide +kernel, by decide +kernel, rfl⟩
    | i + 2, hz => simp at hz
theorem lB313_0 : decode lB313 0 = .ok (.aload_n 0, 1) := by decide +kernel
theorem lB313_1 : decode lB313 1 = .ok (.getfield 16, 3) := by decide +kernel
theorem lB313_4 : decode lB313 4 = .ok (.aload_n 0, 1) := by decide +kernel
theorem lB313_5 : decode lB313 5 = .ok (.getfield 18, 3) := by decide +kernel
theorem lB313_8 : decode lB313 8 = .ok (.aload_n 1, 1) := by decide +kernel
theorem lB313_9 : decode lB313 9 = .ok (.invokestatic 26, 3) := by decide +kernel
theorem lB313_12 : decode lB313 12 = .ok (.ireturn, 1) := by decide +kernel
abbrev sig314 : Lambda.Shape := ({ iface := "HedgeMessages$Operation", name := "apply", sam := ({ parameters := [(Jvm.ClassFile.FieldType.object "HedgeMessages$State")], returnType := (Option.some Jvm.ClassFile.FieldType.int) } : Jvm.ClassFile.MethodDescriptor), captured := [Jvm.ClassFile.FieldType.int, (Jvm.ClassFile.FieldType.object "java/lang/String")], kind := 6, implClass := "HedgeMessages$Parser", implName := "lambda$messageCommand$4", implDesc := ({ parameters := [Jvm.ClassFile.FieldType.int, (Jvm.ClassFile.FieldType.object "java/lang/String"), (Jvm.ClassFile.FieldType.object "HedgeMessages$State")], returnType := (Option.some Jvm.ClassFile.FieldType.int) } : Jvm.ClassFile.MethodDescriptor), implItf := false, inst := ({ parameters := [(Jvm.ClassFile.FieldType.object "HedgeMessages$State")], returnType := (Option.some Jvm.ClassFile.FieldType.int) } : Jvm.ClassFile.MethodDescriptor) } : Jvm.Lambda.Shape)
def lD314 : ClassFile := (sig314.file "HedgeMessages$Parser").getD { minorVersion := 0, majorVersion := 0, constantPool := #[], accessFlags := 0, thisClass := 0, superClass := 0, interfaces := #[], fields := #[], methods := #[], attributes := #[] }
def lF314 : Method := ((layoutMethods lD314).bind (·[1]?)).getD default
def lA314 : Array Field × Array FieldType × Array FieldType := (layoutFields lD314 0).getD (#[], #[], #[])
def lB314 : ByteArray := ⟨#[42, 180, 0, 17, 42, 180, 0, 19, 43, 184, 0, 27, 172]⟩
theorem lam314 : LamD sig314 "HedgeMessages$Parser" lD314 lF314 lA314 lB314 27 23 26 [(17, 0, .int), (19, 1, .object "java/lang/String")] := by
  refine ⟨?_, ?_, ?_, by decide +kernel, by decide +kernel, ⟨by decide +kernel, by decide +kernel, by decide +kernel⟩, ⟨22, by decide +kernel, by decide +kernel, by decide +kernel⟩, ?_, by decide +kernel, rfl⟩
  · have h : (sig314.file "HedgeMessages$Parser").isSome = true := by decide +kernel
    obtain ⟨x, hx⟩ := Option.isSome_iff_exists.mp h
    simp only [lD314, hx, Option.getD_some]
  · intro ms hms
    have h : ((layoutMethods lD314).bind (·[1]?)).isSome = true := by decide +kernel
    obtain ⟨x, hx⟩ := Option.isSome_iff_exists.mp h
    have hf : lF314 = x := by simp only [lF314, hx, Option.getD_some]
    rw [hms] at hx
    rw [hf]
    exact hx
  · have h : (layoutFields lD314 0).isSome = true := by decide +kernel
    obtain ⟨x, hx⟩ := Option.isSome_iff_exists.mp h
    simp only [lA314, hx, Option.getD_some]
  · intro i z hz
    match i, hz with
    | 0, hz => cases hz; exact ⟨16, 2, "arg$1", "I", by decide +kernel, by decide +kernel, by decide +kernel, by decide +kernel, rfl⟩
    | 1, hz => cases hz; exact ⟨18, 2, "arg$2", "Ljava/lang/String;", by decide +kernel, by decide +kernel, by decide +kernel, by decide +kernel, rfl⟩
    | i + 2, hz => simp at hz
theorem lB314_0 : decode lB314 0 = .ok (.aload_n 0, 1) := by decide +kernel
theorem lB314_1 : decode lB314 1 = .ok (.getfield 17, 3) := by decide +kernel
theorem lB314_4 : decode lB314 4 = .ok (.aload_n 0, 1) := by decide +kernel
theorem lB314_5 : decode lB314 5 = .ok (.getfield 19, 3) := by decide +kernel
theorem lB314_8 : decode lB314 8 = .ok (.aload_n 1, 1) := by decide +kernel
theorem lB314_9 : decode lB314 9 = .ok (.invokestatic 27, 3) := by decide +kernel
theorem lB314_12 : decode lB314 12 = .ok (.ireturn, 1) := by decide +kernel
abbrev sig315 : Lambda.Shape := ({ iface := "HedgeMessages$Operation", name := "apply", sam := ({ parameters := [(Jvm.ClassFile.FieldType.object "HedgeMessages$State")], returnType := (Option.some Jvm.ClassFile.FieldType.int) } : Jvm.ClassFile.MethodDescriptor), captured := [Jvm.ClassFile.FieldType.int, Jvm.ClassFile.FieldType.int], kind := 6, implClass := "HedgeMessages$Parser", implName := "lambda$cancelCommand$5", implDesc := ({ parameters := [Jvm.ClassFile.FieldType.int, Jvm.ClassFile.FieldType.int, (Jvm.ClassFile.FieldType.object "HedgeMessages$State")], returnType := (Option.some Jvm.ClassFile.FieldType.int) } : Jvm.ClassFile.MethodDescriptor), implItf := false, inst := ({ parameters := [(Jvm.ClassFile.FieldType.object "HedgeMessages$State")], returnType := (Option.some Jvm.ClassFile.FieldType.int) } : Jvm.ClassFile.MethodDescriptor) } : Jvm.Lambda.Shape)
def lD315 : ClassFile := (sig315.file "HedgeMessages$Parser").getD { minorVersion := 0, majorVersion := 0, constantPool := #[], accessFlags := 0, thisClass := 0, superClass := 0, interfaces := #[], fields := #[], methods := #[], attributes := #[] }
def lF315 : Method := ((layoutMethods lD315).bind (·[1]?)).getD default
def lA315 : Array Field × Array FieldType × Array FieldType := (layoutFields lD315 0).getD (#[], #[], #[])
def lB315 : ByteArray := ⟨#[42, 180, 0, 16, 42, 180, 0, 18, 43, 184, 0, 26, 172]⟩
theorem lam315 : LamD sig315 "HedgeMessages$Parser" lD315 lF315 lA315 lB315 26 22 25 [(16, 0, .int), (18, 1, .int)] := by
  refine ⟨?_, ?_, ?_, by decide +kernel, by decide +kernel, ⟨by decide +kernel, by decide +kernel, by decide +kernel⟩, ⟨21, by decide +kernel, by decide +kernel, by decide +kernel⟩, ?_, by decide +kernel, rfl⟩
  · have h : (sig315.file "HedgeMessages$Parser").isSome = true := by decide +kernel
    obtain ⟨x, hx⟩ := Option.isSome_iff_exists.mp h
    simp only [lD315, hx, Option.getD_some]
  · intro ms hms
    have h : ((layoutMethods lD315).bind (·[1]?)).isSome = true := by decide +kernel
    obtain ⟨x, hx⟩ := Option.isSome_iff_exists.mp h
    have hf : lF315 = x := by simp only [lF315, hx, Option.getD_some]
    rw [hms] at hx
    rw [hf]
    exact hx
  · have h : (layoutFields lD315 0).isSome = true := by decide +kernel
    obtain ⟨x, hx⟩ := Option.isSome_iff_exists.mp h
    simp only [lA315, hx, Option.getD_some]
  · intro i z hz
    match i, hz with
    | 0, hz => cases hz; exact ⟨15, 2, "arg$1", "I", by decide +kernel, by decide +kernel, by decide +kernel, by decide +kernel, rfl⟩
    | 1, hz => cases hz; exact ⟨17, 2, "arg$2", "I", by decide +kernel, by decide +kernel, by decide +kernel, by decide +kernel, rfl⟩
    | i + 2, hz => simp at hz
theorem lB315_0 : decode lB315 0 = .ok (.aload_n 0, 1) := by decide +kernel
theorem lB315_1 : decode lB315 1 = .ok (.getfield 16, 3) := by decide +kernel
theorem lB315_4 : decode lB315 4 = .ok (.aload_n 0, 1) := by decide +kernel
theorem lB315_5 : decode lB315 5 = .ok (.getfield 18, 3) := by decide +kernel
theorem lB315_8 : decode lB315 8 = .ok (.aload_n 1, 1) := by decide +kernel
theorem lB315_9 : decode lB315 9 = .ok (.invokestatic 26, 3) := by decide +kernel
theorem lB315_12 : decode lB315 12 = .ok (.ireturn, 1) := by decide +kernel
abbrev sig316 : Lambda.Shape := ({ iface := "HedgeMessages$Operation", name := "apply", sam := ({ parameters := [(Jvm.ClassFile.FieldType.object "HedgeMessages$State")], returnType := (Option.some Jvm.ClassFile.FieldType.int) } : Jvm.ClassFile.MethodDescriptor), captured := [Jvm.ClassFile.FieldType.int], kind := 6, implClass := "HedgeMessages$Parser", implName := "lambda$workCommand$6", implDesc := ({ parameters := [Jvm.ClassFile.FieldType.int, (Jvm.ClassFile.FieldType.object "HedgeMessages$State")], returnType := (Option.some Jvm.ClassFile.FieldType.int) } : Jvm.ClassFile.MethodDescriptor), implItf := false, inst := ({ parameters := [(Jvm.ClassFile.FieldType.object "HedgeMessages$State")], returnType := (Option.some Jvm.ClassFile.FieldType.int) } : Jvm.ClassFile.MethodDescriptor) } : Jvm.Lambda.Shape)
def lD316 : ClassFile := (sig316.file "HedgeMessages$Parser").getD { minorVersion := 0, majorVersion := 0, constantPool := #[], accessFlags := 0, thisClass := 0, superClass := 0, interfaces := #[], fields := #[], methods := #[], attributes := #[] }
def lF316 : Method := ((layoutMethods lD316).bind (·[1]?)).getD default
def lA316 : Array Field × Array FieldType × Array FieldType := (layoutFields lD316 0).getD (#[], #[], #[])
def lB316 : ByteArray := ⟨#[42, 180, 0, 15, 43, 184, 0, 23, 172]⟩
theorem lam316 : LamD sig316 "HedgeMessages$Parser" lD316 lF316 lA316 lB316 23 19 22 [(15, 0, .int)] := by
  refine ⟨?_, ?_, ?_, by decide +kernel, by decide +kernel, ⟨by decide +kernel, by decide +kernel, by decide +kernel⟩, ⟨18, by decide +kernel, by decide +kernel, by decide +kernel⟩, ?_, by decide +kernel, rfl⟩
  · have h : (sig316.file "HedgeMessages$Parser").isSome = true := by decide +kernel
    obtain ⟨x, hx⟩ := Option.isSome_iff_exists.mp h
    simp only [lD316, hx, Option.getD_some]
  · intro ms hms
    have h : ((layoutMethods lD316).bind (·[1]?)).isSome = true := by decide +kernel
    obtain ⟨x, hx⟩ := Option.isSome_iff_exists.mp h
    have hf : lF316 = x := by simp only [lF316, hx, Option.getD_some]
    rw [hms] at hx
    rw [hf]
    exact hx
  · have h : (layoutFields lD316 0).isSome = true := by decide +kernel
    obtain ⟨x, hx⟩ := Option.isSome_iff_exists.mp h
    simp only [lA316, hx, Option.getD_some]
  · intro i z hz
    match i, hz with
    | 0, hz => cases hz; exact ⟨14, 2, "arg$1", "I", by decide +kernel, by decide +kernel, by decide +kernel, by decide +kernel, rfl⟩
    | i + 1, hz => simp at hz
theorem lB316_0 : decode lB316 0 = .ok (.aload_n 0, 1) := by decide +kernel
theorem lB316_1 : decode lB316 1 = .ok (.getfield 15, 3) := by decide +kernel
theorem lB316_4 : decode lB316 4 = .ok (.aload_n 1, 1) := by decide +kernel
theorem lB316_5 : decode lB316 5 = .ok (.invokestatic 23, 3) := by decide +kernel
theorem lB316_8 : decode lB316 8 = .ok (.ireturn, 1) := by decide +kernel
abbrev sig317 : Lambda.Shape := ({ iface := "HedgeMessages$Operation", name := "apply", sam := ({ parameters := [(Jvm.ClassFile.FieldType.object "HedgeMessages$State")], returnType := (Option.some Jvm.ClassFile.FieldType.int) } : Jvm.ClassFile.MethodDescriptor), captured := [Jvm.ClassFile.FieldType.int], kind := 6, implClass := "HedgeMessages$Parser", implName := "lambda$endCommand$7", implDesc := ({ parameters := [Jvm.ClassFile.FieldType.int, (Jvm.ClassFile.FieldType.object "HedgeMessages$State")], returnType := (Option.some Jvm.ClassFile.FieldType.int) } : Jvm.ClassFile.MethodDescriptor), implItf := false, inst := ({ parameters := [(Jvm.ClassFile.FieldType.object "HedgeMessages$State")], returnType := (Option.some Jvm.ClassFile.FieldType.int) } : Jvm.ClassFile.MethodDescriptor) } : Jvm.Lambda.Shape)
def lD317 : ClassFile := (sig317.file "HedgeMessages$Parser").getD { minorVersion := 0, majorVersion := 0, constantPool := #[], accessFlags := 0, thisClass := 0, superClass := 0, interfaces := #[], fields := #[], methods := #[], attributes := #[] }
def lF317 : Method := ((layoutMethods lD317).bind (·[1]?)).getD default
def lA317 : Array Field × Array FieldType × Array FieldType := (layoutFields lD317 0).getD (#[], #[], #[])
def lB317 : ByteArray := ⟨#[42, 180, 0, 15, 43, 184, 0, 23, 172]⟩
theorem lam317 : LamD sig317 "HedgeMessages$Parser" lD317 lF317 lA317 lB317 23 19 22 [(15, 0, .int)] := by
  refine ⟨?_, ?_, ?_, by decide +kernel, by decide +kernel, ⟨by decide +kernel, by decide +kernel, by decide +kernel⟩, ⟨18, by decide +kernel, by decide +kernel, by decide +kernel⟩, ?_, by decide +kernel, rfl⟩
  · have h : (sig317.file "HedgeMessages$Parser").isSome = true := by decide +kernel
    obtain ⟨x, hx⟩ := Option.isSome_iff_exists.mp h
    simp only [lD317, hx, Option.getD_some]
  · intro ms hms
    have h : ((layoutMethods lD317).bind (·[1]?)).isSome = true := by decide +kernel
    obtain ⟨x, hx⟩ := Option.isSome_iff_exists.mp h
    have hf : lF317 = x := by simp only [lF317, hx, Option.getD_some]
    rw [hms] at hx
    rw [hf]
    exact hx
  · have h : (layoutFields lD317 0).isSome = true := by decide +kernel
    obtain ⟨x, hx⟩ := Option.isSome_iff_exists.mp h
    simp only [lA317, hx, Option.getD_some]
  · intro i z hz
    match i, hz with
    | 0, hz => cases hz; exact ⟨14, 2, "arg$1", "I", by decide +kernel, by decide +kernel, by decide +kernel, by decide +kernel, rfl⟩
    | i + 1, hz => simp at hz
theorem lB317_0 : decode lB317 0 = .ok (.aload_n 0, 1) := by decide +kernel
theorem lB317_1 : decode lB317 1 = .ok (.getfield 15, 3) := by decide +kernel
theorem lB317_4 : decode lB317 4 = .ok (.aload_n 1, 1) := by decide +kernel
theorem lB317_5 : decode lB317 5 = .ok (.invokestatic 23, 3) := by decide +kernel
theorem lB317_8 : decode lB317 8 = .ok (.ireturn, 1) := by decide +kernel
abbrev sig320 : Lambda.Shape := ({ iface := "HedgeMessages$Operation", name := "apply", sam := ({ parameters := [(Jvm.ClassFile.FieldType.object "HedgeMessages$State")], returnType := (Option.some Jvm.ClassFile.FieldType.int) } : Jvm.ClassFile.MethodDescriptor), captured := [Jvm.ClassFile.FieldType.int, Jvm.ClassFile.FieldType.int], kind := 6, implClass := "HedgeMessages", implName := "lambda$plant$0", implDesc := ({ parameters := [Jvm.ClassFile.FieldType.int, Jvm.ClassFile.FieldType.int, (Jvm.ClassFile.FieldType.object "HedgeMessages$State")], returnType := (Option.some Jvm.ClassFile.FieldType.int) } : Jvm.ClassFile.MethodDescriptor), implItf := false, inst := ({ parameters := [(Jvm.ClassFile.FieldType.object "HedgeMessages$State")], returnType := (Option.some Jvm.ClassFile.FieldType.int) } : Jvm.ClassFile.MethodDescriptor) } : Jvm.Lambda.Shape)
def lD320 : ClassFile := (sig320.file "HedgeMessages").getD { minorVersion := 0, majorVersion := 0, constantPool := #[], accessFlags := 0, thisClass := 0, superClass := 0, interfaces := #[], fields := #[], methods := #[], attributes := #[] }
def lF320 : Method := ((layoutMethods lD320).bind (·[1]?)).getD default
def lA320 : Array Field × Array FieldType × Array FieldType := (layoutFields lD320 0).getD (#[], #[], #[])
def lB320 : ByteArray := ⟨#[42, 180, 0, 16, 42, 180, 0, 18, 43, 184, 0, 26, 172]⟩
theorem lam320 : LamD sig320 "HedgeMessages" lD320 lF320 lA320 lB320 26 22 25 [(16, 0, .int), (18, 1, .int)] := by
  refine ⟨?_, ?_, ?_, by decide +kernel, by decide +kernel, ⟨by decide +kernel, by decide +kernel, by decide +kernel⟩, ⟨21, by decide +kernel, by decide +kernel, by decide +kernel⟩, ?_, by decide +kernel, rfl⟩
  · have h : (sig320.file "HedgeMessages").isSome = true := by decide +kernel
    obtain ⟨x, hx⟩ := Option.isSome_iff_exists.mp h
    simp only [lD320, hx, Option.getD_some]
  · intro ms hms
    have h : ((layoutMethods lD320).bind (·[1]?)).isSome = true := by decide +kernel
    obtain ⟨x, hx⟩ := Option.isSome_iff_exists.mp h
    have hf : lF320 = x := by simp only [lF320, hx, Option.getD_some]
    rw [hms] at hx
    rw [hf]
    exact hx
  · have h : (layoutFields lD320 0).isSome = true := by decide +kernel
    obtain ⟨x, hx⟩ := Option.isSome_iff_exists.mp h
    simp only [lA320, hx, Option.getD_some]
  · intro i z hz
    match i, hz with
    | 0, hz => cases hz; exact ⟨15, 2, "arg$1", "I", by decide +kernel, by decide +kernel, by decide +kernel, by decide +kernel, rfl⟩
    | 1, hz => cases hz; exact ⟨17, 2, "arg$2", "I", by decide +kernel, by decide +kernel, by decide +kernel, by decide +kernel, rfl⟩
    | i + 2, hz => simp at hz
theorem lB320_0 : decode lB320 0 = .ok (.aload_n 0, 1) := by decide +kernel
theorem lB320_1 : decode lB320 1 = .ok (.getfield 16, 3) := by decide +kernel
theorem lB320_4 : decode lB320 4 = .ok (.aload_n 0, 1) := by decide +kernel
theorem lB320_5 : decode lB320 5 = .ok (.getfield 18, 3) := by decide +kernel
theorem lB320_8 : decode lB320 8 = .ok (.aload_n 1, 1) := by decide +kernel
theorem lB320_9 : decode lB320 9 = .ok (.invokestatic 26, 3) := by decide +kernel
theorem lB320_12 : decode lB320 12 = .ok (.ireturn, 1) := by decide +kernel
abbrev sig321 : Lambda.Shape := ({ iface := "HedgeMessages$Operation", name := "apply", sam := ({ parameters := [(Jvm.ClassFile.FieldType.object "HedgeMessages$State")], returnType := (Option.some Jvm.ClassFile.FieldType.int) } : Jvm.ClassFile.MethodDescriptor), captured := [Jvm.ClassFile.FieldType.int], kind := 6, implClass := "HedgeMessages", implName := "lambda$remove$1", implDesc := ({ parameters := [Jvm.ClassFile.FieldType.int, (Jvm.ClassFile.FieldType.object "HedgeMessages$State")], returnType := (Option.some Jvm.ClassFile.FieldType.int) } : Jvm.ClassFile.MethodDescriptor), implItf := false, inst := ({ parameters := [(Jvm.ClassFile.FieldType.object "HedgeMessages$State")], returnType := (Option.some Jvm.ClassFile.FieldType.int) } : Jvm.ClassFile.MethodDescriptor) } : Jvm.Lambda.Shape)
def lD321 : ClassFile := (sig321.file "HedgeMessages").getD { minorVersion := 0, majorVersion := 0, constantPool := #[], accessFlags := 0, thisClass := 0, superClass := 0, interfaces := #[], fields := #[], methods := #[], attributes := #[] }
def lF321 : Method := ((layoutMethods lD321).bind (·[1]?)).getD default
def lA321 : Array Field × Array FieldType × Array FieldType := (layoutFields lD321 0).getD (#[], #[], #[])
def lB321 : ByteArray := ⟨#[42, 180, 0, 15, 43, 184, 0, 23, 172]⟩
theorem lam321 : LamD sig321 "HedgeMessages" lD321 lF321 lA321 lB321 23 19 22 [(15, 0, .int)] := by
  refine ⟨?_, ?_, ?_, by decide +kernel, by decide +kernel, ⟨by decide +kernel, by decide +kernel, by decide +kernel⟩, ⟨18, by decide +kernel, by decide +kernel, by decide +kernel⟩, ?_, by decide +kernel, rfl⟩
  · have h : (sig321.file "HedgeMessages").isSome = true := by decide +kernel
    obtain ⟨x, hx⟩ := Option.isSome_iff_exists.mp h
    simp only [lD321, hx, Option.getD_some]
  · intro ms hms
    have h : ((layoutMethods lD321).bind (·[1]?)).isSome = true := by decide +kernel
    obtain ⟨x, hx⟩ := Option.isSome_iff_exists.mp h
    have hf : lF321 = x := by simp only [lF321, hx, Option.getD_some]
    rw [hms] at hx
    rw [hf]
    exact hx
  · have h : (layoutFields lD321 0).isSome = true := by decide +kernel
    obtain ⟨x, hx⟩ := Option.isSome_iff_exists.mp h
    simp only [lA321, hx, Option.getD_some]
  · intro i z hz
    match i, hz with
    | 0, hz => cases hz; exact ⟨14, 2, "arg$1", "I", by decide +kernel, by decide +kernel, by decide +kernel, by decide +kernel, rfl⟩
    | i + 1, hz => simp at hz
theorem lB321_0 : decode lB321 0 = .ok (.aload_n 0, 1) := by decide +kernel
theorem lB321_1 : decode lB321 1 = .ok (.getfield 15, 3) := by decide +kernel
theorem lB321_4 : decode lB321 4 = .ok (.aload_n 1, 1) := by decide +kernel
theorem lB321_5 : decode lB321 5 = .ok (.invokestatic 23, 3) := by decide +kernel
theorem lB321_8 : decode lB321 8 = .ok (.ireturn, 1) := by decide +kernel
abbrev sig322 : Lambda.Shape := ({ iface := "HedgeMessages$Operation", name := "apply", sam := ({ parameters := [(Jvm.ClassFile.FieldType.object "HedgeMessages$State")], returnType := (Option.some Jvm.ClassFile.FieldType.int) } : Jvm.ClassFile.MethodDescriptor), captured := [Jvm.ClassFile.FieldType.int, Jvm.ClassFile.FieldType.int], kind := 6, implClass := "HedgeMessages", implName := "lambda$trim$2", implDesc := ({ parameters := [Jvm.ClassFile.FieldType.int, Jvm.ClassFile.FieldType.int, (Jvm.ClassFile.FieldType.object "HedgeMessages$State")], returnType := (Option.some Jvm.ClassFile.FieldType.int) } : Jvm.ClassFile.MethodDescriptor), implItf := false, inst := ({ parameters := [(Jvm.ClassFile.FieldType.object "HedgeMessages$State")], returnType := (Option.some Jvm.ClassFile.FieldType.int) } : Jvm.ClassFile.MethodDescriptor) } : Jvm.Lambda.Shape)
def lD322 : ClassFile := (sig322.file "HedgeMessages").getD { minorVersion := 0, majorVersion := 0, constantPool := #[], accessFlags := 0, thisClass := 0, superClass := 0, interfaces := #[], fields := #[], methods := #[], attributes := #[] }
def lF322 : Method := ((layoutMethods lD322).bind (·[1]?)).getD default
def lA322 : Array Field × Array FieldType × Array FieldType := (layoutFields lD322 0).getD (#[], #[], #[])
def lB322 : ByteArray := ⟨#[42, 180, 0, 16, 42, 180, 0, 18, 43, 184, 0, 26, 172]⟩
theorem lam322 : LamD sig322 "HedgeMessages" lD322 lF322 lA322 lB322 26 22 25 [(16, 0, .int), (18, 1, .int)] := by
  refine ⟨?_, ?_, ?_, by decide +kernel, by decide +kernel, ⟨by decide +kernel, by decide +kernel, by decide +kernel⟩, ⟨21, by decide +kernel, by decide +kernel, by decide +kernel⟩, ?_, by decide +kernel, rfl⟩
  · have h : (sig322.file "HedgeMessages").isSome = true := by decide +kernel
    obtain ⟨x, hx⟩ := Option.isSome_iff_exists.mp h
    simp only [lD322, hx, Option.getD_some]
  · intro ms hms
    have h : ((layoutMethods lD322).bind (·[1]?)).isSome = true := by decide +kernel
    obtain ⟨x, hx⟩ := Option.isSome_iff_exists.mp h
    have hf : lF322 = x := by simp only [lF322, hx, Option.getD_some]
    rw [hms] at hx
    rw [hf]
    exact hx
  · have h : (layoutFields lD322 0).isSome = true := by decide +kernel
    obtain ⟨x, hx⟩ := Option.isSome_iff_exists.mp h
    simp only [lA322, hx, Option.getD_some]
  · intro i z hz
    match i, hz with
    | 0, hz => cases hz; exact ⟨15, 2, "arg$1", "I", by decide +kernel, by decide +kernel, by decide +kernel, by decide +kernel, rfl⟩
    | 1, hz => cases hz; exact ⟨17, 2, "arg$2", "I", by decide +kernel, by decide +kernel, by decide +kernel, by decide +kernel, rfl⟩
    | i + 2, hz => simp at hz
theorem lB322_0 : decode lB322 0 = .ok (.aload_n 0, 1) := by decide +kernel
theorem lB322_1 : decode lB322 1 = .ok (.getfield 16, 3) := by decide +kernel
theorem lB322_4 : decode lB322 4 = .ok (.aload_n 0, 1) := by decide +kernel
theorem lB322_5 : decode lB322 5 = .ok (.getfield 18, 3) := by decide +kernel
theorem lB322_8 : decode lB322 8 = .ok (.aload_n 1, 1) := by decide +kernel
theorem lB322_9 : decode lB322 9 = .ok (.invokestatic 26, 3) := by decide +kernel
theorem lB322_12 : decode lB322 12 = .ok (.ireturn, 1) := by decide +kernel
abbrev sig323 : Lambda.Shape := ({ iface := "HedgeMessages$Operation", name := "apply", sam := ({ parameters := [(Jvm.ClassFile.FieldType.object "HedgeMessages$State")], returnType := (Option.some Jvm.ClassFile.FieldType.int) } : Jvm.ClassFile.MethodDescriptor), captured := [Jvm.ClassFile.FieldType.int, Jvm.ClassFile.FieldType.int], kind := 6, implClass := "HedgeMessages", implName := "lambda$addNest$3", implDesc := ({ parameters := [Jvm.ClassFile.FieldType.int, Jvm.ClassFile.FieldType.int, (Jvm.ClassFile.FieldType.object "HedgeMessages$State")], returnType := (Option.some Jvm.ClassFile.FieldType.int) } : Jvm.ClassFile.MethodDescriptor), implItf := false, inst := ({ parameters := [(Jvm.ClassFile.FieldType.object "HedgeMessages$State")], returnType := (Option.some Jvm.ClassFile.FieldType.int) } : Jvm.ClassFile.MethodDescriptor) } : Jvm.Lambda.Shape)
def lD323 : ClassFile := (sig323.file "HedgeMessages").getD { minorVersion := 0, majorVersion := 0, constantPool := #[], accessFlags := 0, thisClass := 0, superClass := 0, interfaces := #[], fields := #[], methods := #[], attributes := #[] }
def lF323 : Method := ((layoutMethods lD323).bind (·[1]?)).getD default
def lA323 : Array Field × Array FieldType × Array FieldType := (layoutFields lD323 0).getD (#[], #[], #[])
def lB323 : ByteArray := ⟨#[42, 180, 0, 16, 42, 180, 0, 18, 43, 184, 0, 26, 172]⟩
theorem lam323 : LamD sig323 "HedgeMessages" lD323 lF323 lA323 lB323 26 22 25 [(16, 0, .int), (18, 1, .int)] := by
  refine ⟨?_, ?_, ?_, by decide +kernel, by decide +kernel, ⟨by decide +kernel, by decide +kernel, by decide +kernel⟩, ⟨21, by decide +kernel, by decide +kernel, by decide +kernel⟩, ?_, by decide +kernel, rfl⟩
  · have h : (sig323.file "HedgeMessages").isSome = true := by decide +kernel
    obtain ⟨x, hx⟩ := Option.isSome_iff_exists.mp h
    simp only [lD323, hx, Option.getD_some]
  · intro ms hms
    have h : ((layoutMethods lD323).bind (·[1]?)).isSome = true := by decide +kernel
    obtain ⟨x, hx⟩ := Option.isSome_iff_exists.mp h
    have hf : lF323 = x := by simp only [lF323, hx, Option.getD_some]
    rw [hms] at hx
    rw [hf]
    exact hx
  · have h : (layoutFields lD323 0).isSome = true := by decide +kernel
    obtain ⟨x, hx⟩ := Option.isSome_iff_exists.mp h
    simp only [lA323, hx, Option.getD_some]
  · intro i z hz
    match i, hz with
    | 0, hz => cases hz; exact ⟨15, 2, "arg$1", "I", by decide +kernel, by decide +kernel, by decide +kernel, by decide +kernel, rfl⟩
    | 1, hz => cases hz; exact ⟨17, 2, "arg$2", "I", by decide +kernel, by decide +kernel, by decide +kernel, by decide +kernel, rfl⟩
    | i + 2, hz => simp at hz
theorem lB323_0 : decode lB323 0 = .ok (.aload_n 0, 1) := by decide +kernel
theorem lB323_1 : decode lB323 1 = .ok (.getfield 16, 3) := by decide +kernel
theorem lB323_4 : decode lB323 4 = .ok (.aload_n 0, 1) := by decide +kernel
theorem lB323_5 : decode lB323 5 = .ok (.getfield 18, 3) := by decide +kernel
theorem lB323_8 : decode lB323 8 = .ok (.aload_n 1, 1) := by decide +kernel
theorem lB323_9 : decode lB323 9 = .ok (.invokestatic 26, 3) := by decide +kernel
theorem lB323_12 : decode lB323 12 = .ok (.ireturn, 1) := by decide +kernel
abbrev sig324 : Lambda.Shape := ({ iface := "HedgeMessages$Operation", name := "apply", sam := ({ parameters := [(Jvm.ClassFile.FieldType.object "HedgeMessages$State")], returnType := (Option.some Jvm.ClassFile.FieldType.int) } : Jvm.ClassFile.MethodDescriptor), captured := [Jvm.ClassFile.FieldType.int, (Jvm.ClassFile.FieldType.object "java/lang/String")], kind := 6, implClass := "HedgeMessages", implName := "lambda$queueMessage$4", implDesc := ({ parameters := [Jvm.ClassFile.FieldType.int, (Jvm.ClassFile.FieldType.object "java/lang/String"), (Jvm.ClassFile.FieldType.object "HedgeMessages$State")], returnType := (Option.some Jvm.ClassFile.FieldType.int) } : Jvm.ClassFile.MethodDescriptor), implItf := false, inst := ({ parameters := [(Jvm.ClassFile.FieldType.object "HedgeMessages$State")], returnType := (Option.some Jvm.ClassFile.FieldType.int) } : Jvm.ClassFile.MethodDescriptor) } : Jvm.Lambda.Shape)
def lD324 : ClassFile := (sig324.file "HedgeMessages").getD { minorVersion := 0, majorVersion := 0, constantPool := #[], accessFlags := 0, thisClass := 0, superClass := 0, interfaces := #[], fields := #[], methods := #[], attributes := #[] }
def lF324 : Method := ((layoutMethods lD324).bind (·[1]?)).getD default
def lA324 : Array Field × Array FieldType × Array FieldType := (layoutFields lD324 0).getD (#[], #[], #[])
def lB324 : ByteArray := ⟨#[42, 180, 0, 17, 42, 180, 0, 19, 43, 184, 0, 27, 172]⟩
theorem lam324 : LamD sig324 "HedgeMessages" lD324 lF324 lA324 lB324 27 23 26 [(17, 0, .int), (19, 1, .object "java/lang/String")] := by
  refine ⟨?_, ?_, ?_, by decide +kernel, by decide +kernel, ⟨by decide +kernel, by decide +kernel, by decide +kernel⟩, ⟨22, by decide +kernel, by decide +kernel, by decide +kernel⟩, ?_, by decide +kernel, rfl⟩
  · have h : (sig324.file "HedgeMessages").isSome = true := by decide +kernel
    obtain ⟨x, hx⟩ := Option.isSome_iff_exists.mp h
    simp only [lD324, hx, Option.getD_some]
  · intro ms hms
    have h : ((layoutMethods lD324).bind (·[1]?)).isSome = true := by decide +kernel
    obtain ⟨x, hx⟩ := Option.isSome_iff_exists.mp h
    have hf : lF324 = x := by simp only [lF324, hx, Option.getD_some]
    rw [hms] at hx
    rw [hf]
    exact hx
  · have h : (layoutFields lD324 0).isSome = true := by decide +kernel
    obtain ⟨x, hx⟩ := Option.isSome_iff_exists.mp h
    simp only [lA324, hx, Option.getD_some]
  · intro i z hz
    match i, hz with
    | 0, hz => cases hz; exact ⟨16, 2, "arg$1", "I", by decide +kernel, by decide +kernel, by decide +kernel, by decide +kernel, rfl⟩
    | 1, hz => cases hz; exact ⟨18, 2, "arg$2", "Ljava/lang/String;", by decide +kernel, by decide +kernel, by decide +kernel, by decide +kernel, rfl⟩
    | i + 2, hz => simp at hz
theorem lB324_0 : decode lB324 0 = .ok (.aload_n 0, 1) := by decide +kernel
theorem lB324_1 : decode lB324 1 = .ok (.getfield 17, 3) := by decide +kernel
theorem lB324_4 : decode lB324 4 = .ok (.aload_n 0, 1) := by decide +kernel
theorem lB324_5 : decode lB324 5 = .ok (.getfield 19, 3) := by decide +kernel
theorem lB324_8 : decode lB324 8 = .ok (.aload_n 1, 1) := by decide +kernel
theorem lB324_9 : decode lB324 9 = .ok (.invokestatic 27, 3) := by decide +kernel
theorem lB324_12 : decode lB324 12 = .ok (.ireturn, 1) := by decide +kernel
abbrev sig325 : Lambda.Shape := ({ iface := "HedgeMessages$Operation", name := "apply", sam := ({ parameters := [(Jvm.ClassFile.FieldType.object "HedgeMessages$State")], returnType := (Option.some Jvm.ClassFile.FieldType.int) } : Jvm.ClassFile.MethodDescriptor), captured := [Jvm.ClassFile.FieldType.int, Jvm.ClassFile.FieldType.int], kind := 6, implClass := "HedgeMessages", implName := "lambda$cancelMessage$5", implDesc := ({ parameters := [Jvm.ClassFile.FieldType.int, Jvm.ClassFile.FieldType.int, (Jvm.ClassFile.FieldType.object "HedgeMessages$State")], returnType := (Option.some Jvm.ClassFile.FieldType.int) } : Jvm.ClassFile.MethodDescriptor), implItf := false, inst := ({ parameters := [(Jvm.ClassFile.FieldType.object "HedgeMessages$State")], returnType := (Option.some Jvm.ClassFile.FieldType.int) } : Jvm.ClassFile.MethodDescriptor) } : Jvm.Lambda.Shape)
def lD325 : ClassFile := (sig325.file "HedgeMessages").getD { minorVersion := 0, majorVersion := 0, constantPool := #[], accessFlags := 0, thisClass := 0, superClass := 0, interfaces := #[], fields := #[], methods := #[], attributes := #[] }
def lF325 : Method := ((layoutMethods lD325).bind (·[1]?)).getD default
def lA325 : Array Field × Array FieldType × Array FieldType := (layoutFields lD325 0).getD (#[], #[], #[])
def lB325 : ByteArray := ⟨#[42, 180, 0, 16, 42, 180, 0, 18, 43, 184, 0, 26, 172]⟩
theorem lam325 : LamD sig325 "HedgeMessages" lD325 lF325 lA325 lB325 26 22 25 [(16, 0, .int), (18, 1, .int)] := by
  refine ⟨?_, ?_, ?_, by decide +kernel, by decide +kernel, ⟨by decide +kernel, by decide +kernel, by decide +kernel⟩, ⟨21, by decide +kernel, by decide +kernel, by decide +kernel⟩, ?_, by decide +kernel, rfl⟩
  · have h : (sig325.file "HedgeMessages").isSome = true := by decide +kernel
    obtain ⟨x, hx⟩ := Option.isSome_iff_exists.mp h
    simp only [lD325, hx, Option.getD_some]
  · intro ms hms
    have h : ((layoutMethods lD325).bind (·[1]?)).isSome = true := by decide +kernel
    obtain ⟨x, hx⟩ := Option.isSome_iff_exists.mp h
    have hf : lF325 = x := by simp only [lF325, hx, Option.getD_some]
    rw [hms] at hx
    rw [hf]
    exact hx
  · have h : (layoutFields lD325 0).isSome = true := by decide +kernel
    obtain ⟨x, hx⟩ := Option.isSome_iff_exists.mp h
    simp only [lA325, hx, Option.getD_some]
  · intro i z hz
    match i, hz with
    | 0, hz => cases hz; exact ⟨15, 2, "arg$1", "I", by decide +kernel, by decide +kernel, by decide +kernel, by decide +kernel, rfl⟩
    | 1, hz => cases hz; exact ⟨17, 2, "arg$2", "I", by decide +kernel, by decide +kernel, by decide +kernel, by decide +kernel, rfl⟩
    | i + 2, hz => simp at hz
theorem lB325_0 : decode lB325 0 = .ok (.aload_n 0, 1) := by decide +kernel
theorem lB325_1 : decode lB325 1 = .ok (.getfield 16, 3) := by decide +kernel
theorem lB325_4 : decode lB325 4 = .ok (.aload_n 0, 1) := by decide +kernel
theorem lB325_5 : decode lB325 5 = .ok (.getfield 18, 3) := by decide +kernel
theorem lB325_8 : decode lB325 8 = .ok (.aload_n 1, 1) := by decide +kernel
theorem lB325_9 : decode lB325 9 = .ok (.invokestatic 26, 3) := by decide +kernel
theorem lB325_12 : decode lB325 12 = .ok (.ireturn, 1) := by decide +kernel
abbrev sig326 : Lambda.Shape := ({ iface := "HedgeMessages$Operation", name := "apply", sam := ({ parameters := [(Jvm.ClassFile.FieldType.object "HedgeMessages$State")], returnType := (Option.some Jvm.ClassFile.FieldType.int) } : Jvm.ClassFile.MethodDescriptor), captured := [Jvm.ClassFile.FieldType.int], kind := 6, implClass := "HedgeMessages", implName := "lambda$setWorkLimit$6", implDesc := ({ parameters := [Jvm.ClassFile.FieldType.int, (Jvm.ClassFile.FieldType.object "HedgeMessages$State")], returnType := (Option.some Jvm.ClassFile.FieldType.int) } : Jvm.ClassFile.MethodDescriptor), implItf := false, inst := ({ parameters := [(Jvm.ClassFile.FieldType.object "HedgeMessages$State")], returnType := (Option.some Jvm.ClassFile.FieldType.int) } : Jvm.ClassFile.MethodDescriptor) } : Jvm.Lambda.Shape)
def lD326 : ClassFile := (sig326.file "HedgeMessages").getD { minorVersion := 0, majorVersion := 0, constantPool := #[], accessFlags := 0, thisClass := 0, superClass := 0, interfaces := #[], fields := #[], methods := #[], attributes := #[] }
def lF326 : Method := ((layoutMethods lD326).bind (·[1]?)).getD default
def lA326 : Array Field × Array FieldType × Array FieldType := (layoutFields lD326 0).getD (#[], #[], #[])
def lB326 : ByteArray := ⟨#[42, 180, 0, 15, 43, 184, 0, 23, 172]⟩
theorem lam326 : LamD sig326 "HedgeMessages" lD326 lF326 lA326 lB326 23 19 22 [(15, 0, .int)] := by
  refine ⟨?_, ?_, ?_, by decide +kernel, by decide +kernel, ⟨by decide +kernel, by decide +kernel, by decide +kernel⟩, ⟨18, by decide +kernel, by decide +kernel, by decide +kernel⟩, ?_, by decide +kernel, rfl⟩
  · have h : (sig326.file "HedgeMessages").isSome = true := by decide +kernel
    obtain ⟨x, hx⟩ := Option.isSome_iff_exists.mp h
    simp only [lD326, hx, Option.getD_some]
  · intro ms hms
    have h : ((layoutMethods lD326).bind (·[1]?)).isSome = true := by decide +kernel
    obtain ⟨x, hx⟩ := Option.isSome_iff_exists.mp h
    have hf : lF326 = x := by simp only [lF326, hx, Option.getD_some]
    rw [hms] at hx
    rw [hf]
    exact hx
  · have h : (layoutFields lD326 0).isSome = true := by decide +kernel
    obtain ⟨x, hx⟩ := Option.isSome_iff_exists.mp h
    simp only [lA326, hx, Option.getD_some]
  · intro i z hz
    match i, hz with
    | 0, hz => cases hz; exact ⟨14, 2, "arg$1", "I", by decide +kernel, by decide +kernel, by decide +kernel, by decide +kernel, rfl⟩
    | i + 1, hz => simp at hz
theorem lB326_0 : decode lB326 0 = .ok (.aload_n 0, 1) := by decide +kernel
theorem lB326_1 : decode lB326 1 = .ok (.getfield 15, 3) := by decide +kernel
theorem lB326_4 : decode lB326 4 = .ok (.aload_n 1, 1) := by decide +kernel
theorem lB326_5 : decode lB326 5 = .ok (.invokestatic 23, 3) := by decide +kernel
theorem lB326_8 : decode lB326 8 = .ok (.ireturn, 1) := by decide +kernel
abbrev sig327 : Lambda.Shape := ({ iface := "HedgeMessages$Operation", name := "apply", sam := ({ parameters := [(Jvm.ClassFile.FieldType.object "HedgeMessages$State")], returnType := (Option.some Jvm.ClassFile.FieldType.int) } : Jvm.ClassFile.MethodDescriptor), captured := [Jvm.ClassFile.FieldType.int], kind := 6, implClass := "HedgeMessages", implName := "lambda$endDays$7", implDesc := ({ parameters := [Jvm.ClassFile.FieldType.int, (Jvm.ClassFile.FieldType.object "HedgeMessages$State")], returnType := (Option.some Jvm.ClassFile.FieldType.int) } : Jvm.ClassFile.MethodDescriptor), implItf := false, inst := ({ parameters := [(Jvm.ClassFile.FieldType.object "HedgeMessages$State")], returnType := (Option.some Jvm.ClassFile.FieldType.int) } : Jvm.ClassFile.MethodDescriptor) } : Jvm.Lambda.Shape)
def lD327 : ClassFile := (sig327.file "HedgeMessages").getD { minorVersion := 0, majorVersion := 0, constantPool := #[], accessFlags := 0, thisClass := 0, superClass := 0, interfaces := #[], fields := #[], methods := #[], attributes := #[] }
def lF327 : Method := ((layoutMethods lD327).bind (·[1]?)).getD default
def lA327 : Array Field × Array FieldType × Array FieldType := (layoutFields lD327 0).getD (#[], #[], #[])
def lB327 : ByteArray := ⟨#[42, 180, 0, 15, 43, 184, 0, 23, 172]⟩
theorem lam327 : LamD sig327 "HedgeMessages" lD327 lF327 lA327 lB327 23 19 22 [(15, 0, .int)] := by
  refine ⟨?_, ?_, ?_, by decide +kernel, by decide +kernel, ⟨by decide +kernel, by decide +kernel, by decide +kernel⟩, ⟨18, by decide +kernel, by decide +kernel, by decide +kernel⟩, ?_, by decide +kernel, rfl⟩
  · have h : (sig327.file "HedgeMessages").isSome = true := by decide +kernel
    obtain ⟨x, hx⟩ := Option.isSome_iff_exists.mp h
    simp only [lD327, hx, Option.getD_some]
  · intro ms hms
    have h : ((layoutMethods lD327).bind (·[1]?)).isSome = true := by decide +kernel
    obtain ⟨x, hx⟩ := Option.isSome_iff_exists.mp h
    have hf : lF327 = x := by simp only [lF327, hx, Option.getD_some]
    rw [hms] at hx
    rw [hf]
    exact hx
  · have h : (layoutFields lD327 0).isSome = true := by decide +kernel
    obtain ⟨x, hx⟩ := Option.isSome_iff_exists.mp h
    simp only [lA327, hx, Option.getD_some]
  · intro i z hz
    match i, hz with
    | 0, hz => cases hz; exact ⟨14, 2, "arg$1", "I", by decide +kernel, by decide +kernel, by decide +kernel, by decide +kernel, rfl⟩
    | i + 1, hz => simp at hz
theorem lB327_0 : decode lB327 0 = .ok (.aload_n 0, 1) := by decide +kernel
theorem lB327_1 : decode lB327 1 = .ok (.getfield 15, 3) := by decide +kernel
theorem lB327_4 : decode lB327 4 = .ok (.aload_n 1, 1) := by decide +kernel
theorem lB327_5 : decode lB327 5 = .ok (.invokestatic 23, 3) := by decide +kernel
theorem lB327_8 : decode lB327 8 = .ok (.ireturn, 1) := by decide +kernel
