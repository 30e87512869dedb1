/-! LAMBDAS: the sites, what the classes made for them are -/
set_option maxRecDepth 100000
def LamV (x : MethodName) (pc index : Nat) (sh : Lambda.Shape) (cK : ClassId) (U : State) : Prop :=
  ∃ (m : MethodId) (k : Class) (cf : ClassFile) (i0 p0 : Nat), U.methodNamed? x = some m ∧ U.vm.classes[m.cls]? = some k ∧ k.cf = some cf ∧ Lambda.shapeOf? cf index = some sh ∧ (k.callSites.find? fun y => y.1 == m.idx && y.2.1 == pc) = some (i0, p0, .makes cK) ∧ Lambda.isMade { classPath := fun _ => none } U.vm m.cls sh cK = true ∧ U.lambdaCallable sh cK = true
theorem LamV.of {x : MethodName} {pc index : Nat} {sh : Lambda.Shape} {args : Array Value} {s : State} (h : (Cond.lambdaSite x pc index sh).before args s = true) (hc : sh.captured ≠ []) : ∃ cK, LamV x pc index sh cK s := by
  obtain ⟨cK, one, hat⟩ := Cond.lambdaSite_spec h
  obtain ⟨m, k, cf, i0, p0, lk, a1, a2, a3, a4, -, a5, a6, a7, a8⟩ := State.lambdaAt?_spec hat
  rcases a8 with ⟨-, -, -, -, h9, -⟩ | ⟨rfl, -, -⟩
  · exact absurd h9 hc
  · exact ⟨cK, m, k, cf, i0, p0, a1, a2, a3, a4, a5, a6, a7⟩
theorem LamV.moved {x : MethodName} {pc index : Nat} {sh : Lambda.Shape} {cK : ClassId} {s U : State} (hW : s.WarmedH U.vm) (h : LamV x pc index sh cK s) : LamV x pc index sh cK U := by
  obtain ⟨m, k, cf, i0, p0, a1, a2, a3, a4, a5, a6, a7⟩ := h
  obtain ⟨k', hk', he⟩ := hW.alike.2.2 _ _ a2
  refine ⟨m, k', cf, i0, p0, ?_, hk', by rw [he]; exact a3, a4, by rw [he]; exact a5, Lambda.isMade_warmer hW a6, ?_⟩
  · have := State.methodNamed?_setVm (s := s) hW.alike x
    rw [a1] at this
    exact this
  · have hA := hW.alike
    simp only [State.lambdaCallable, hA.findClass, hA.assignable, hA.superclasses, hA.declaredIn] at a7 ⊢
    exact a7
def lamFile (sh : Lambda.Shape) (nm : String) : ClassFile := (sh.file nm).getD { minorVersion := 0, majorVersion := 0, constantPool := #[], accessFlags := 0, thisClass := 0, superClass := 0, interfaces := #[], fields := #[], methods := #[], attributes := #[] }
def lamFwd (D : ClassFile) : Method := ((layoutMethods D).bind (·[1]?)).getD default
def lamLaid (D : ClassFile) : Array Field × Array FieldType × Array FieldType := (layoutFields D 0).getD (#[], #[], #[])
theorem lamFile_is {sh : Lambda.Shape} {nm : String} (h : (sh.file nm).isSome = true) : sh.file nm = some (lamFile sh nm) := by
  obtain ⟨x, hx⟩ := Option.isSome_iff_exists.mp h
  simp [lamFile, hx]
theorem lamFwd_is {D : ClassFile} (h : ((layoutMethods D).bind (·[1]?)).isSome = true) : ∀ ms, layoutMethods D = some ms → ms[1]? = some (lamFwd D) := by
  intro ms hms
  obtain ⟨x, hx⟩ := Option.isSome_iff_exists.mp h
  have hf : lamFwd D = x := by simp [lamFwd, hx]
  rw [hms] at hx
  rw [hf]
  exact hx
theorem lamLaid_is {D : ClassFile} (h : (layoutFields D 0).isSome = true) : layoutFields D 0 = some (lamLaid D) := by
  obtain ⟨x, hx⟩ := Option.isSome_iff_exists.mp h
  simp [lamLaid, hx]
def lamS0 : Lambda.Shape := ({ iface := "MasterPrices$OfPair", name := "of", sam := ({ parameters := [Jvm.ClassFile.FieldType.int, Jvm.ClassFile.FieldType.int], returnType := (Option.some Jvm.ClassFile.FieldType.int) } : Jvm.ClassFile.MethodDescriptor), captured := [(Jvm.ClassFile.FieldType.object "MasterPrices$Town")], kind := 5, implClass := "MasterPrices$Town", implName := "lambda$costOfPairs$1", implDesc := ({ parameters := [Jvm.ClassFile.FieldType.int, Jvm.ClassFile.FieldType.int], returnType := (Option.some Jvm.ClassFile.FieldType.int) } : Jvm.ClassFile.MethodDescriptor), implItf := false, inst := ({ parameters := [Jvm.ClassFile.FieldType.int, Jvm.ClassFile.FieldType.int], returnType := (Option.some Jvm.ClassFile.FieldType.int) } : Jvm.ClassFile.MethodDescriptor) } : Jvm.Lambda.Shape)
def lamX0 : MethodName := ⟨"MasterPrices$Town", "costOfPairs", "()I"⟩
theorem lamD0_1 : (lamS0.file "MasterPrices$Town").isSome = true := by decide +kernel
theorem lamD0_2 : ((layoutMethods (lamFile lamS0 "MasterPrices$Town")).bind (·[1]?)).isSome = true := by decide +kernel
theorem lamD0_3 : (layoutFields (lamFile lamS0 "MasterPrices$Town") 0).isSome = true := by decide +kernel
theorem lamD0_4 : ((lamFwd (lamFile lamS0 "MasterPrices$Town")).code.map fun c => (c.code.data, c.maxLocals)) = some (#[42, 180, 0, 15, 27, 28, 182, 0, 22, 172], 3) := by decide +kernel
def lamS1 : Lambda.Shape := ({ iface := "MasterPrices$OfPair", name := "of", sam := ({ parameters := [Jvm.ClassFile.FieldType.int, Jvm.ClassFile.FieldType.int], returnType := (Option.some Jvm.ClassFile.FieldType.int) } : Jvm.ClassFile.MethodDescriptor), captured := [(Jvm.ClassFile.FieldType.object "MasterPrices$Town")], kind := 5, implClass := "MasterPrices$Town", implName := "lambda$countPairs$0", implDesc := ({ parameters := [Jvm.ClassFile.FieldType.int, Jvm.ClassFile.FieldType.int], returnType := (Option.some Jvm.ClassFile.FieldType.int) } : Jvm.ClassFile.MethodDescriptor), implItf := false, inst := ({ parameters := [Jvm.ClassFile.FieldType.int, Jvm.ClassFile.FieldType.int], returnType := (Option.some Jvm.ClassFile.FieldType.int) } : Jvm.ClassFile.MethodDescriptor) } : Jvm.Lambda.Shape)
def lamX1 : MethodName := ⟨"MasterPrices$Town", "countPairs", "()I"⟩
theorem lamD1_1 : (lamS1.file "MasterPrices$Town").isSome = true := by decide +kernel
theorem lamD1_2 : ((layoutMethods (lamFile lamS1 "MasterPrices$Town")).bind (·[1]?)).isSome = true := by decide +kernel
theorem lamD1_3 : (layoutFields (lamFile lamS1 "MasterPrices$Town") 0).isSome = true := by decide +kernel
theorem lamD1_4 : ((lamFwd (lamFile lamS1 "MasterPrices$Town")).code.map fun c => (c.code.data, c.maxLocals)) = some (#[42, 180, 0, 15, 27, 28, 182, 0, 22, 172], 3) := by decide +kernel
def lamS2 : Lambda.Shape := ({ iface := "MasterPrices$OfPair", name := "of", sam := ({ parameters := [Jvm.ClassFile.FieldType.int, Jvm.ClassFile.FieldType.int], returnType := (Option.some Jvm.ClassFile.FieldType.int) } : Jvm.ClassFile.MethodDescriptor), captured := [(Jvm.ClassFile.FieldType.object "MasterPrices$Town")], kind := 5, implClass := "MasterPrices$Town", implName := "lambda$countBarred$2", implDesc := ({ parameters := [Jvm.ClassFile.FieldType.int, Jvm.ClassFile.FieldType.int], returnType := (Option.some Jvm.ClassFile.FieldType.int) } : Jvm.ClassFile.MethodDescriptor), implItf := false, inst := ({ parameters := [Jvm.ClassFile.FieldType.int, Jvm.ClassFile.FieldType.int], returnType := (Option.some Jvm.ClassFile.FieldType.int) } : Jvm.ClassFile.MethodDescriptor) } : Jvm.Lambda.Shape)
def lamX2 : MethodName := ⟨"MasterPrices$Town", "countBarred", "()I"⟩
theorem lamD2_1 : (lamS2.file "MasterPrices$Town").isSome = true := by decide +kernel
theorem lamD2_2 : ((layoutMethods (lamFile lamS2 "MasterPrices$Town")).bind (·[1]?)).isSome = true := by decide +kernel
theorem lamD2_3 : (layoutFields (lamFile lamS2 "MasterPrices$Town") 0).isSome = true := by decide +kernel
theorem lamD2_4 : ((lamFwd (lamFile lamS2 "MasterPrices$Town")).code.map fun c => (c.code.data, c.maxLocals)) = some (#[42, 180, 0, 15, 27, 28, 182, 0, 22, 172], 3) := by decide +kernel
def lamS3 : Lambda.Shape := ({ iface := "MasterPrices$OfPair", name := "of", sam := ({ parameters := [Jvm.ClassFile.FieldType.int, Jvm.ClassFile.FieldType.int], returnType := (Option.some Jvm.ClassFile.FieldType.int) } : Jvm.ClassFile.MethodDescriptor), captured := [(Jvm.ClassFile.FieldType.object "MasterPrices$Town"), Jvm.ClassFile.FieldType.int], kind := 5, implClass := "MasterPrices$Town", implName := "lambda$yearsAt$3", implDesc := ({ parameters := [Jvm.ClassFile.FieldType.int, Jvm.ClassFile.FieldType.int, Jvm.ClassFile.FieldType.int], returnType := (Option.some Jvm.ClassFile.FieldType.int) } : Jvm.ClassFile.MethodDescriptor), implItf := false, inst := ({ parameters := [Jvm.ClassFile.FieldType.int, Jvm.ClassFile.FieldType.int], returnType := (Option.some Jvm.ClassFile.FieldType.int) } : Jvm.ClassFile.MethodDescriptor) } : Jvm.Lambda.Shape)
def lamX3 : MethodName := ⟨"MasterPrices$Town", "yearsAt", "(I)I"⟩
theorem lamD3_1 : (lamS3.file "MasterPrices$Town").isSome = true := by decide +kernel
theorem lamD3_2 : ((layoutMethods (lamFile lamS3 "MasterPrices$Town")).bind (·[1]?)).isSome = true := by decide +kernel
theorem lamD3_3 : (layoutFields (lamFile lamS3 "MasterPrices$Town") 0).isSome = true := by decide +kernel
theorem lamD3_4 : ((lamFwd (lamFile lamS3 "MasterPrices$Town")).code.map fun c => (c.code.data, c.maxLocals)) = some (#[42, 180, 0, 17, 42, 180, 0, 19, 27, 28, 182, 0, 27, 172], 3) := by decide +kernel
def lamS4 : Lambda.Shape := ({ iface := "MasterPrices$OfPair", name := "of", sam := ({ parameters := [Jvm.ClassFile.FieldType.int, Jvm.ClassFile.FieldType.int], returnType := (Option.some Jvm.ClassFile.FieldType.int) } : Jvm.ClassFile.MethodDescriptor), captured := [(Jvm.ClassFile.FieldType.object "MasterPrices$Town"), Jvm.ClassFile.FieldType.int], kind := 5, implClass := "MasterPrices$Town", implName := "lambda$yearsOf$4", implDesc := ({ parameters := [Jvm.ClassFile.FieldType.int, Jvm.ClassFile.FieldType.int, Jvm.ClassFile.FieldType.int], returnType := (Option.some Jvm.ClassFile.FieldType.int) } : Jvm.ClassFile.MethodDescriptor), implItf := false, inst := ({ parameters := [Jvm.ClassFile.FieldType.int, Jvm.ClassFile.FieldType.int], returnType := (Option.some Jvm.ClassFile.FieldType.int) } : Jvm.ClassFile.MethodDescriptor) } : Jvm.Lambda.Shape)
def lamX4 : MethodName := ⟨"MasterPrices$Town", "yearsOf", "(I)I"⟩
theorem lamD4_1 : (lamS4.file "MasterPrices$Town").isSome = true := by decide +kernel
theorem lamD4_2 : ((layoutMethods (lamFile lamS4 "MasterPrices$Town")).bind (·[1]?)).isSome = true := by decide +kernel
theorem lamD4_3 : (layoutFields (lamFile lamS4 "MasterPrices$Town") 0).isSome = true := by decide +kernel
theorem lamD4_4 : ((lamFwd (lamFile lamS4 "MasterPrices$Town")).code.map fun c => (c.code.data, c.maxLocals)) = some (#[42, 180, 0, 17, 42, 180, 0, 19, 27, 28, 182, 0, 27, 172], 3) := by decide +kernel
def lamS5 : Lambda.Shape := ({ iface := "MasterPrices$OfPair", name := "of", sam := ({ parameters := [Jvm.ClassFile.FieldType.int, Jvm.ClassFile.FieldType.int], returnType := (Option.some Jvm.ClassFile.FieldType.int) } : Jvm.ClassFile.MethodDescriptor), captured := [(Jvm.ClassFile.FieldType.object "MasterPrices$Town"), Jvm.ClassFile.FieldType.int], kind := 5, implClass := "MasterPrices$Town", implName := "lambda$countMastersOf$5", implDesc := ({ parameters := [Jvm.ClassFile.FieldType.int, Jvm.ClassFile.FieldType.int, Jvm.ClassFile.FieldType.int], returnType := (Option.some Jvm.ClassFile.FieldType.int) } : Jvm.ClassFile.MethodDescriptor), implItf := false, inst := ({ parameters := [Jvm.ClassFile.FieldType.int, Jvm.ClassFile.FieldType.int], returnType := (Option.some Jvm.ClassFile.FieldType.int) } : Jvm.ClassFile.MethodDescriptor) } : Jvm.Lambda.Shape)
def lamX5 : MethodName := ⟨"MasterPrices$Town", "countMastersOf", "(I)I"⟩
theorem lamD5_1 : (lamS5.file "MasterPrices$Town").isSome = true := by decide +kernel
theorem lamD5_2 : ((layoutMethods (lamFile lamS5 "MasterPrices$Town")).bind (·[1]?)).isSome = true := by decide +kernel
theorem lamD5_3 : (layoutFields (lamFile lamS5 "MasterPrices$Town") 0).isSome = true := by decide +kernel
theorem lamD5_4 : ((lamFwd (lamFile lamS5 "MasterPrices$Town")).code.map fun c => (c.code.data, c.maxLocals)) = some (#[42, 180, 0, 17, 42, 180, 0, 19, 27, 28, 182, 0, 27, 172], 3) := by decide +kernel
def lamS6 : Lambda.Shape := ({ iface := "MasterPrices$WithPairing", name := "with", sam := ({ parameters := [(Jvm.ClassFile.FieldType.array Jvm.ClassFile.FieldType.int), Jvm.ClassFile.FieldType.int], returnType := (Option.none : Option Jvm.ClassFile.FieldType) } : Jvm.ClassFile.MethodDescriptor), captured := [(Jvm.ClassFile.FieldType.object "MasterPrices$Known")], kind := 5, implClass := "MasterPrices$Known", implName := "lambda$new$0", implDesc := ({ parameters := [(Jvm.ClassFile.FieldType.array Jvm.ClassFile.FieldType.int), Jvm.ClassFile.FieldType.int], returnType := (Option.none : Option Jvm.ClassFile.FieldType) } : Jvm.ClassFile.MethodDescriptor), implItf := false, inst := ({ parameters := [(Jvm.ClassFile.FieldType.array Jvm.ClassFile.FieldType.int), Jvm.ClassFile.FieldType.int], returnType := (Option.none : Option Jvm.ClassFile.FieldType) } : Jvm.ClassFile.MethodDescriptor) } : Jvm.Lambda.Shape)
def lamX6 : MethodName := ⟨"MasterPrices$Known", "<init>", "(LMasterPrices$Town;)V"⟩
theorem lamD6_1 : (lamS6.file "MasterPrices$Known").isSome = true := by decide +kernel
theorem lamD6_2 : ((layoutMethods (lamFile lamS6 "MasterPrices$Known")).bind (·[1]?)).isSome = true := by decide +kernel
theorem lamD6_3 : (layoutFields (lamFile lamS6 "MasterPrices$Known") 0).isSome = true := by decide +kernel
theorem lamD6_4 : ((lamFwd (lamFile lamS6 "MasterPrices$Known")).code.map fun c => (c.code.data, c.maxLocals)) = some (#[42, 180, 0, 15, 43, 28, 182, 0, 22, 177], 3) := by decide +kernel
