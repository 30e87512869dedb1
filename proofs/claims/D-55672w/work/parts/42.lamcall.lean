/-! A CALL OF AN INTERFACE's METHOD ON A LAMBDA's OBJECT: the row -/
set_option maxRecDepth 100000
def LamFit (sh : Lambda.Shape) (nm : String) (cd : ByteArray) (iM iC a1 b1 : Nat) (rt : Option FieldType) : Prop :=
  (sh.file nm).isSome = true ∧ ((layoutMethods (lamFile sh nm)).bind (·[1]?)).isSome = true ∧ (layoutFields (lamFile sh nm) 0).isSome = true ∧ ((lamFwd (lamFile sh nm)).code.map fun c => (c.code.data, c.maxLocals)) = some (cd.data, 3) ∧ ((lamFwd (lamFile sh nm)).accessFlags, (lamFwd (lamFile sh nm)).sig.returnType) = (0x0001, rt) ∧
  (lamFile sh nm).constantPool[iM]? = some (.methodref iC a1) ∧ (lamFile sh nm).constantPool.className? iC = some sh.implClass ∧ (lamFile sh nm).constantPool.nameAndType? a1 = some (sh.implName, sh.implDesc.toString) ∧ (lamFile sh nm).constantPool[iC]? = some (.class_ b1) ∧ (lamFile sh nm).constantPool.string? b1 = some sh.implClass ∧ iC ≠ (lamFile sh nm).thisClass ∧ sh.implItf = false
def LamFld (sh : Lambda.Shape) (nm : String) (i a j : Nat) (n d : String) : Prop :=
  (lamFile sh nm).constantPool[i]? = some (.fieldref 2 a) ∧ (lamFile sh nm).constantPool.nameAndType? a = some (n, d) ∧ (lamLaid (lamFile sh nm)).1.findIdx? (·.name == n) = some j ∧ ((lamLaid (lamFile sh nm)).1[j]?).map (fun f => (f.isStatic, f.slot)) = some (false, j)
theorem lam_obj {s U : State} {args : Array Value} (hts : ∀ w ∈ lw_all, w.before args s = true) (hW : s.WarmedH U.vm) : ∀ o ok, U.vm.findClass "java/lang/Object" = some o → U.vm.classes[o]? = some ok → ok.instanceTypes.size = 0 := by
  intro o ok h1 h2
  obtain ⟨c, k, g1, g2, -, -, -, g3⟩ := Cond.instantiable_spec (hts _ q2374)
  have hA := hW.alike
  rw [hA.findClass, g1] at h1
  cases h1
  obtain ⟨k', hk', he⟩ := hA.2.2 _ _ g2
  cases h2.symm.trans hk'
  rw [he]; exact g3
theorem lam_use {x : MethodName} {pc index : Nat} {sh : Lambda.Shape} {cK : ClassId} {U : State} (h : LamV x pc index sh cK U) {nm : String} (hx : x.cls = nm) {cd : ByteArray} {iM iC a1 b1 : Nat} {rt : Option FieldType} (f : LamFit sh nm cd iM iC a1 b1 rt) (hO : ∀ o ok, U.vm.findClass "java/lang/Object" = some o → U.vm.classes[o]? = some ok → ok.instanceTypes.size = 0) :
    ∃ (k : Class) (methk : Method) (ck : Code) (ti : ClassId) (tk : Class) (t : MethodId) (file : ClassFile), U.vm.classes[cK]? = some k ∧ k.kind = .ordinary ∧ k.instanceTypes = (lamLaid (lamFile sh nm)).2.1 ∧ k.cf = some file ∧ file.constantPool = (lamFile sh nm).constantPool ∧ U.vm.method? ⟨cK, 1⟩ = some methk ∧ methk.code = some ck ∧ ck.code = cd ∧ ck.maxLocals = 3 ∧ methk.locks = false ∧ methk.accessFlags = 0x0001 ∧ methk.sig.returnType = rt ∧ U.vm.findClass sh.implClass = some ti ∧ U.vm.classes[ti]? = some tk ∧ tk.isInterface = false ∧ ((methodIn ti sh.implName sh.implDesc.toString tk.isInterface none).ask { classPath := fun _ => none } U.vm).1 = .ok t ∧ U.vm.methodReady cK iM t ∧ U.vm.classReady cK iC ti ∧ k.name = nm ++ "$$Lambda" ∧
      (∀ (i a j : Nat) (n d : String), LamFld sh nm i a j n d → ∃ f : Field, U.vm.fieldReady cK i cK f ∧ f.isStatic = false ∧ f.slot = j) := by
  obtain ⟨f1, f2, f3, f4, f5, f6, f7, f8, f9, f10, f11, f12⟩ := f
  obtain ⟨k, methk, ck, ti, tk, t, file, g1, g2, g3, g4, g5, g6, g7, g8, g9, g10, g11, g12, g13, g14, g15, g16, g17, g18, g19, g20⟩ := lam_facts h hx (lamFile_is f1) (lamFwd_is f2) (lamLaid_is f3) f4 f5 hO f6 f7 f8 f9 f10 f11 f12
  refine ⟨k, methk, ck, ti, tk, t, file, g1, g2, g3, g4, g5, g6, g7, ByteArray.ext g8, g9, g10, g11, g12, g13, g14, g15, g16, g17, g18, g19, fun i a j n d hf => ?_⟩
  obtain ⟨e1, e2, e3, e4⟩ := hf
  obtain ⟨f0, hf0, hp0⟩ := Option.map_eq_some_iff.mp e4
  simp only [Prod.mk.injEq] at hp0
  exact ⟨f0, g20 i a j n d f0 e1 e2 e3 hf0, hp0.1, hp0.2⟩
theorem lamFit0 : LamFit lamS0 "MasterPrices$Town" fwdA 22 19 21 18 (some .int) := ⟨lamD0_1, lamD0_2, lamD0_3, lamD0_4, by decide +kernel, by decide +kernel, by decide +kernel, by decide +kernel, by decide +kernel, by decide +kernel, by decide +kernel, by decide +kernel⟩
theorem lamFld0_0 : LamFld lamS0 "MasterPrices$Town" 15 14 0 "arg$1" "LMasterPrices$Town;" := ⟨by decide +kernel, by decide +kernel, by decide +kernel, by decide +kernel⟩
theorem lamFit1 : LamFit lamS1 "MasterPrices$Town" fwdA 22 19 21 18 (some .int) := ⟨lamD1_1, lamD1_2, lamD1_3, lamD1_4, by decide +kernel, by decide +kernel, by decide +kernel, by decide +kernel, by decide +kernel, by decide +kernel, by decide +kernel, by decide +kernel⟩
theorem lamFld1_0 : LamFld lamS1 "MasterPrices$Town" 15 14 0 "arg$1" "LMasterPrices$Town;" := ⟨by decide +kernel, by decide +kernel, by decide +kernel, by decide +kernel⟩
theorem lamFit2 : LamFit lamS2 "MasterPrices$Town" fwdA 22 19 21 18 (some .int) := ⟨lamD2_1, lamD2_2, lamD2_3, lamD2_4, by decide +kernel, by decide +kernel, by decide +kernel, by decide +kernel, by decide +kernel, by decide +kernel, by decide +kernel, by decide +kernel⟩
theorem lamFld2_0 : LamFld lamS2 "MasterPrices$Town" 15 14 0 "arg$1" "LMasterPrices$Town;" := ⟨by decide +kernel, by decide +kernel, by decide +kernel, by decide +kernel⟩
theorem lamFit3 : LamFit lamS3 "MasterPrices$Town" fwdB 27 23 26 22 (some .int) := ⟨lamD3_1, lamD3_2, lamD3_3, lamD3_4, by decide +kernel, by decide +kernel, by decide +kernel, by decide +kernel, by decide +kernel, by decide +kernel, by decide +kernel, by decide +kernel⟩
theorem lamFld3_0 : LamFld lamS3 "MasterPrices$Town" 17 16 0 "arg$1" "LMasterPrices$Town;" := ⟨by decide +kernel, by decide +kernel, by decide +kernel, by decide +kernel⟩
theorem lamFld3_1 : LamFld lamS3 "MasterPrices$Town" 19 18 1 "arg$2" "I" := ⟨by decide +kernel, by decide +kernel, by decide +kernel, by decide +kernel⟩
theorem lamFit4 : LamFit lamS4 "MasterPrices$Town" fwdB 27 23 26 22 (some .int) := ⟨lamD4_1, lamD4_2, lamD4_3, lamD4_4, by decide +kernel, by decide +kernel, by decide +kernel, by decide +kernel, by decide +kernel, by decide +kernel, by decide +kernel, by decide +kernel⟩
theorem lamFld4_0 : LamFld lamS4 "MasterPrices$Town" 17 16 0 "arg$1" "LMasterPrices$Town;" := ⟨by decide +kernel, by decide +kernel, by decide +kernel, by decide +kernel⟩
theorem lamFld4_1 : LamFld lamS4 "MasterPrices$Town" 19 18 1 "arg$2" "I" := ⟨by decide +kernel, by decide +kernel, by decide +kernel, by decide +kernel⟩
theorem lamFit5 : LamFit lamS5 "MasterPrices$Town" fwdB 27 23 26 22 (some .int) := ⟨lamD5_1, lamD5_2, lamD5_3, lamD5_4, by decide +kernel, by decide +kernel, by decide +kernel, by decide +kernel, by decide +kernel, by decide +kernel, by decide +kernel, by decide +kernel⟩
theorem lamFld5_0 : LamFld lamS5 "MasterPrices$Town" 17 16 0 "arg$1" "LMasterPrices$Town;" := ⟨by decide +kernel, by decide +kernel, by decide +kernel, by decide +kernel⟩
theorem lamFld5_1 : LamFld lamS5 "MasterPrices$Town" 19 18 1 "arg$2" "I" := ⟨by decide +kernel, by decide +kernel, by decide +kernel, by decide +kernel⟩
theorem lamFit6 : LamFit lamS6 "MasterPrices$Known" fwdV 22 19 21 18 none := ⟨lamD6_1, lamD6_2, lamD6_3, lamD6_4, by decide +kernel, by decide +kernel, by decide +kernel, by decide +kernel, by decide +kernel, by decide +kernel, by decide +kernel, by decide +kernel⟩
theorem lamFld6_0 : LamFld lamS6 "MasterPrices$Known" 15 14 0 "arg$1" "LMasterPrices$Known;" := ⟨by decide +kernel, by decide +kernel, by decide +kernel, by decide +kernel⟩
section LC
variable {G : GT} {p : Program} {l : Launch} {e : Env} {R : Room} {s : State} {m : MethodId} {args : Array Value} {below : List Frame} {meth : Method} {c : Code} {nL : Nat} {Q : State → Prop} {bc bs : Nat} {h : AH} {pc : Nat} {L : List (Nat × Value)} {rest : List Value} {cc : ByteArray} {own : String} {ret : Option FieldType}
theorem j_run5 {st : List Value} {mc ms : Nat} {Post : Option Value → AH → Prop} {a : Array Value} (C : Cx G p s m args meth c cc own nL ret) (hmc : mc ≤ bc) (hms : ms ≤ bs)
    (hr : ∀ (H : Heap) (locs : List Loc) (ls : Array Slot) (cells slots : Nat), HG G h H → va_S (fun q => G.1 ≤ q) s.heap H locs → ls.size = nL → cells + mc ≤ R.cells ∧ slots + ms ≤ R.slots → va_Run5 p l e R s m args below meth c H locs cells slots mc ms (F0 m pc ls st) rest (SQ G Post a) (fun q => G.1 ≤ q))
    (kk : ∀ (v : Option Value) (h' : AH), Post v h' → J G p l e R s m args below meth c nL Q (bc - mc) (bs - ms) h' (pc + 5) L (v.toList ++ rest)) : J G p l e R s m args below meth c nL Q bc bs h pc L st := by
  intro H locs ls cells slots hH hS hl b1 b2
  intro T hT X
  obtain ⟨v, st₀, t, T', L1, h0, X', hL, e1, e2, ⟨⟨v', h', hv, hp, hg, hw⟩, hz, hk⟩, st1⟩ := hr H locs ls cells slots hH hS hl.1 ⟨by omega, by omega⟩ T hT X
  cases hv
  rw [h0] at hz hk
  obtain ⟨t2, a1, b3⟩ := kk v h' hp T'.heap (locs ++ L1) ls (cells + mc) (slots + ms) (by rw [e1]; exact hw)
    ⟨Nat.le_trans hS.1 (by rw [e1]; exact hz), fun q h1 h2 => by rw [e1, hk q (Nat.lt_of_lt_of_le h1 hS.1) h2]; exact hS.2.1 q h1 h2, fun q hq => by
      rcases List.mem_append.mp hq with h | h
      · exact hS.2.2 q h
      · exact hL q h⟩ hl (by omega) (by omega) T' rfl X'
  exact ⟨t2, st1 t2 a1, b3⟩
/-- the invocation's head: the interface's method resolved, the made class's own selected -/
theorem lam_head {T : State} {locs : List Loc} {cells slots : Nat} (X : Stand p l e R s m args below meth c T locs cells slots) (hexec : p.tables.exec = Jvm.exec) (hown : s.vm.findClass own = some m.cls) {x : MethodName} {index count pc0 index0 : Nat} {sh : Lambda.Shape} {cK : ClassId} {nm : String} {cd : ByteArray} {iM iC a1 b1 : Nat} {rt : Option FieldType} {x0 : MethodName} (hL : LamV x0 pc0 index0 sh cK s) (hx0 : x0.cls = nm) (fit : LamFit sh nm cd iM iC a1 b1 rt) (hts : ∀ w ∈ lw_all, w.before args s = true)
    (hq : Cond.methodLink own index x ∈ lw_all) (hdecl : va_Nw (.declares x) s) (hface : va_Nw (.interfaceMethod x.cls x.cls x.name x.desc) s) (hxs : sh.iface = x.cls ∧ sh.name = x.name ∧ sh.sam.toString = x.desc) (hxm : x.cls ≠ "java/lang/invoke/MethodHandle" ∧ x.cls ≠ "java/lang/invoke/VarHandle") {n : Nat} (hxn : (parseMethodDescriptor x.desc).map (fun d => d.parameters.length) = some n)
    {q : Addr} {cell : Cell} (hcell : T.heap[q]? = some cell) (hcls : cell.cls = cK) (hnone : cell.vm = .none) {g : JFrame} (hg : g.method = m) {argsL rest : List Value} (hlen : argsL.length = n) (hstack : g.stack = argsL.reverse ++ .ref q :: rest)
    (hdg : decode c.code g.pc = .ok (.invokeinterface index count, 5)) :
    ∃ vm', Stand p l e R s m args below meth c (T.setVm vm') locs cells slots ∧
      ∀ target, (∀ acts, Steps p.tables e below (doInvoke e ((T.setVm vm').setTop { g with stack := rest }) acts ⟨cK, 1⟩ (.ref q :: argsL).toArray).1 target) → Steps p.tables e below (T.setTop g) target := by
  obtain ⟨r0, r, hn, hrm, hstR, hsigR⟩ := Cond.declares_spec hdecl
  obtain ⟨cL, kL, r1, hcL, hkL, hiL, hfoundL, hn1⟩ := Cond.interfaceMethod_spec hface
  cases hn.symm.trans hn1
  have hr0cls : r0.cls = cL := Option.some.inj ((findClass_of_methodNamed hn).symm.trans hcL)
  obtain ⟨hnameR, hdescR⟩ := name_of_methodNamed hn hrm
  obtain ⟨k, methk, ck, ti, tk, t, file, u1, -, -, -, -, u6, -, -, -, -, u11, -⟩ := lam_use hL hx0 fit (lam_obj hts (State.WarmedH.refl s))
  obtain ⟨m0, k0, cf0, i0, p0, v1, v2, v3, -, -, hmade, hcan⟩ := hL
  obtain ⟨dk, k2, ok, tk2, file2, cfK, object, iface', t2, lay, methods, tgt, found, -, hk2, -, -, -, hi', -, -, -, -, -, -, hfound', -, -, -, -, -, -, -, -, -, -, hsel⟩ := Lambda.isMade_spec hmade
  obtain ⟨i2, hi2, hasg, hway⟩ := State.lambdaCallable_spec hcan
  rw [hxs.1] at hi' hi2
  cases hcL.symm.trans hi'
  cases hcL.symm.trans hi2
  have hfnd : found = r0 := by
    simp only [State.methodFound?, hcL, hkL, Option.bind_eq_bind, Option.bind_some, hiL] at hfoundL
    rw [hxs.2.1, hxs.2.2] at hfound'
    rw [hfound'] at hfoundL
    exact Option.some.inj hfoundL
  subst hfnd
  have hpar : r.sig.parameters.length = n := by
    rw [hsigR] at hxn
    exact Option.some.inj hxn
  exact X.invokeinterface hexec hown (hts _ hq) hn hrm hstR (by rw [hr0cls]; exact hkL) hiL hxm (a := q) (cell := cell) (kcell := k2) hcell (fun z hz => by rw [hnone] at hz; cases hz) (by rw [hcls]; exact hk2) (by rw [hr0cls, hcls]; exact hasg)
    (m' := ⟨cK, 1⟩) (meth' := methk) (by rw [Launch.admits_selectMethod X.admits, hcls]; exact hsel) u6 (by rw [hcls, hnameR, hdescR, ← hxs.2.1, ← hxs.2.2]; exact hway) (by rw [u11]; decide) (by simp [Method.isAbstract, u11, hasFlag, Acc.abstract]) hg (hlen.trans hpar.symm) hstack hdg
/-- what the forwarding call asks of the tables -/
theorem lam_tgt {T : State} {cK : ClassId} {nm : String} {cd : ByteArray} {iM iC a1 b1 : Nat} {rt : Option FieldType} {x0 : MethodName} {pc0 index0 : Nat} {sh : Lambda.Shape} (hW : s.WarmedH T.vm) (hL : LamV x0 pc0 index0 sh cK s) (hx0 : x0.cls = nm) (fit : LamFit sh nm cd iM iC a1 b1 rt) (hpn : plainName (nm ++ "$$Lambda") = true) (hts : ∀ w ∈ lw_all, w.before args s = true)
    {y : MethodName} {cc' : ByteArray} {nL' n : Nat} {rt' : Option FieldType} {Cn : String} (hy : CalV y Cn cc' nL' rt' n) (hyi : sh.implClass = y.cls ∧ sh.implName = y.name ∧ sh.implDesc.toString = y.desc) :
    ∃ (methk : Method) (ck : Code) (t : MethodId) (kt : Class) (metht : Method), T.vm.method? ⟨cK, 1⟩ = some methk ∧ methk.code = some ck ∧ ck.code = cd ∧ ck.maxLocals = 3 ∧ methk.locks = false ∧ T.plainMethod ⟨cK, 1⟩ ∧ methk.sig.returnType = rt ∧
      namesAClass T cK iM ∧ T.vm.methodReady cK iM t ∧ T.vm.classes[t.cls]? = some kt ∧ T.vm.method? t = some metht ∧ signaturePolymorphic kt metht = false ∧ metht.isStatic = false ∧ metht.sig.parameters.length = n ∧ metht.isAbstract = false ∧ kt.isInterface = false ∧ T.methodNamed? y = some t ∧
      (∀ cB : ClassId, s.vm.findClass Cn = some cB → selectMethod {} T.vm cB t = .method t) ∧
      (∀ (i a j : Nat) (n d : String), LamFld sh nm i a j n d → ∃ f : Field, T.vm.fieldReady cK i cK f ∧ f.isStatic = false ∧ f.slot = j) := by
  have hA := hW.alike
  obtain ⟨k, methk, ck, ti, tk, t, file, u1, -, -, u4, u5, u6, u7, u8, u9, u10, u11, u12, u13, u14, u15, u16, u17, u18, u19, u20⟩ := lam_use (LamV.moved hW hL) hx0 fit (lam_obj hts hW)
  obtain ⟨h1, h2, -, h4, ⟨hyc, hm1, hm2, hpl⟩⟩ := hy
  obtain ⟨mk, metht, n1, n2, n3, n4⟩ := Cond.instanceMethod_spec (hts _ h1)
  have n1' : T.methodNamed? y = some mk := by
    have := State.methodNamed?_setVm (s := s) hA y
    rw [n1] at this
    exact this
  obtain ⟨c2, r2, m2, q1, q2, q3, q4, kP, hkP, hkPi⟩ := Cond.selects_spec (hts _ h2)
  cases n1.symm.trans q3
  cases (State.methodFound?_of_named n1 ⟨hm1, hm2⟩).symm.trans q2
  have hf := State.methodFound?_of_named n1' ⟨hm1, hm2⟩
  rw [hyi.1] at u13
  simp only [State.methodFound?, u13, u14, Option.bind_eq_bind, Option.bind_some] at hf
  rw [hyi.2.1, hyi.2.2] at u16
  rw [u16] at hf
  cases Option.some.inj hf
  obtain ⟨kt, hkt, het⟩ := hA.2.2 _ _ hkP
  obtain ⟨kx, hkx, hnx⟩ := className_of_methodNamed n1'
  cases hkt.symm.trans hkx
  have hsig : parseMethodDescriptor y.desc = some metht.sig := by
    obtain ⟨r', c0, hrm', -, -, -, -, -, -, hsig⟩ := Cond.code_spec n1 (hts _ h4)
    cases n2.symm.trans hrm'
    exact hsig
  refine ⟨methk, ck, t, kt, metht, u6, u7, u8, u9, u10, fun k3 hk3 => ?_, u12, ?_, u17, hkt, by rw [hA.method?]; exact n2, by simp [signaturePolymorphic, hnx, hm1, hm2], n3, ?_, n4, by rw [het]; exact hkPi, n1', fun cB hcB => ?_, u20⟩
  · cases u1.symm.trans hk3
    exact plain_of_name (by rw [u19]; exact hpn)
  · exact ⟨k, file, iC, a1, ti, tk, u1, u4, by rw [u5]; exact fit.2.2.2.2.2.1, u18, u14, u15⟩
  · rw [hsig] at hpl
    exact Option.some.inj hpl
  · cases hcB.symm.trans q1
    rw [hA.selectMethod]; exact q4
theorem j_lamA (C : Cx G p s m args meth c cc own nL ret) {x x0 : MethodName} {index count pc0 index0 : Nat} {sh : Lambda.Shape} {cK : ClassId} {nm n0 d0 n1 d1 : String} (hL : LamV x0 pc0 index0 sh cK s) (hx0 : x0.cls = nm) (fit : LamFit sh nm fwdA 22 19 21 18 (some .int)) (fl0 : LamFld sh nm 15 14 0 n0 d0) (hpn : plainName (nm ++ "$$Lambda") = true)
    (hq : Cond.methodLink own index x ∈ lw_all) (hdecl : va_Nw (.declares x) s) (hface : va_Nw (.interfaceMethod x.cls x.cls x.name x.desc) s) (hxs : sh.iface = x.cls ∧ sh.name = x.name ∧ sh.sam.toString = x.desc) (hxm : x.cls ≠ "java/lang/invoke/MethodHandle" ∧ x.cls ≠ "java/lang/invoke/VarHandle") (hxn : (parseMethodDescriptor x.desc).map (fun d => d.parameters.length) = some 2)
    {q b : Addr} {i j : Int32} (hcell : ∀ H : Heap, HG G h H → ∃ cell : Cell, H[q]? = some cell ∧ cell.cls = cK ∧ cell.slots = #[.ref b] ∧ cell.vm = .none) {ci : Nat} {fs : List Value} {Cn : String} {T0 : u_T} {N : Nat} (hrecv : h b = some (.inr (ci, fs))) (hci : vwCl[ci]? = some (Cn, T0, N))
    {y : MethodName} {cc' : ByteArray} {nL' fr lo mc ms : Nat} {Post : Option Value → AH → Prop} (hM : MT G l y cc' nL' (some .int) fr lo 0 0 [.ref b, .int i, .int j] h Post) (hy : CalV y Cn cc' nL' (some .int) 2) (hyi : sh.implClass = y.cls ∧ sh.implName = y.name ∧ sh.implDesc.toString = y.desc) (hpost : ∀ v h', Post v h' → ∃ r : Int32, v = some (.int r))
    (hfr : fr + 2 ≤ R.frames) (hcat : (rest.map fun v => v.category).sum ≤ 8) (hlo : 22 + (8 + (nL' + 11) + lo) ≤ R.locals) (hdg : decode cc pc = .ok (.invokeinterface index count, 5))
    (kk : ∀ (v : Option Value) (h' : AH), Post v h' → J G p l e R s m args below meth c nL Q bc bs h' (pc + 5) L (v.toList ++ rest)) : J G p l e R s m args below meth c nL Q bc bs h pc L (.int j :: .int i :: .ref q :: rest) := by
  refine j_run5 (mc := 0) (ms := 0) (Post := Post) (a := ([.ref b, .int i, .int j] : List Value).toArray) C (Nat.zero_le _) (Nat.zero_le _) (fun H locs ls cells slots hH hS hsz hf => ?_) kk
  intro T hT X
  obtain ⟨cell, hc1, hc2, hc3, hc4⟩ := hcell H hH
  obtain ⟨vm', X₁, hstep⟩ := lam_head X C.1 C.2.2.2.1 hL hx0 fit C.2.2.2.2.1 hq hdecl hface hxs hxm hxn (q := q) (cell := cell) (by rw [hT]; exact hc1) hc2 hc4 (g := F0 m pc ls (.int j :: .int i :: .ref q :: rest)) rfl (argsL := [.int i, .int j]) (rest := rest) rfl rfl (by rw [C.2.1]; exact hdg)
  obtain ⟨methk, ck, t, kt, metht, g1, g2, g3, g4, g5, g6, g7, g8, g9, g10, g11, g12, g13, g14, g15, g16, g17, g18, g19⟩ := lam_tgt (T := T.setVm vm') X₁.warmed hL hx0 fit hpn C.2.2.2.2.1 hy hyi
  obtain ⟨f1, w1, w2, w3⟩ := g19 _ _ _ _ _ fl0

  obtain ⟨ws, hw1, hw2, hw3⟩ := id hH.1
  obtain ⟨q0, hq0⟩ := hw1 b _ hrecv
  obtain ⟨cellB, hb1, hb2, hb3⟩ := va_recv C.2.2.2.2.2.1.1 hw2 hci hq0
  obtain ⟨v, st, u, T', L1, a1, a2, a3, a4, a5, a6, a7⟩ := lam_inA X₁ C.1 (g := F0 m pc ls rest) rfl (by show ls.size = _; rw [hsz, C.2.2.1]) (by rw [C.2.1]; exact hdg) g1 g2 g3 g4 g5 g6 g7 (q := q) (b := b) (cellK := cell) (by show T.heap[q]? = _; rw [hT]; exact hc1) (by rw [hc4]; exact fun h => by cases h) w1 w2 (by rw [hc3, w3]; rfl) g8 g9 g10 g11 g12 g13 g14 (cellB := cellB) (by show T.heap[b]? = _; rw [hT]; exact hb1) (fun z hz => by rw [hz] at hb2; cases hb2) (by rw [Launch.admits_selectMethod X.admits]; exact g18 _ hb3) g15 g16 hM (SP.blind C.2.2.2.2.2.2.1) C.2.2.2.2.1 hy.2.2.2.1 (by rw [hy.2.2.2.2.1]; exact hy.2.2.1) g17
    (fun V hV hVm => ⟨rfl, C.gw hS (by rw [hV]; exact hT) (by rw [hVm]; exact X₁.warmed), by rw [hV]; show HG G h T.heap; rw [hT]; exact hH⟩) (fun st v u hq => by
      obtain ⟨⟨v', h', hv, hp, -⟩, -⟩ := hq
      cases hv
      exact hpost _ _ hp) hfr (by show 2 * 0 + (rest.map fun v => v.category).sum + (3 + 11) + _ ≤ _; omega) (by omega) (by omega)
  refine ⟨v, st, u, T', L1, by rw [a1]; exact hT, a2, a3, a4, a5, a6, fun target hgo => hstep _ fun acts => (a7 acts).trans hgo⟩
theorem j_lamB (C : Cx G p s m args meth c cc own nL ret) {x x0 : MethodName} {index count pc0 index0 : Nat} {sh : Lambda.Shape} {cK : ClassId} {nm n0 d0 n1 d1 : String} (hL : LamV x0 pc0 index0 sh cK s) (hx0 : x0.cls = nm) (fit : LamFit sh nm fwdB 27 23 26 22 (some .int)) (fl0 : LamFld sh nm 17 16 0 n0 d0) (fl1 : LamFld sh nm 19 18 1 n1 d1) (hpn : plainName (nm ++ "$$Lambda") = true)
    (hq : Cond.methodLink own index x ∈ lw_all) (hdecl : va_Nw (.declares x) s) (hface : va_Nw (.interfaceMethod x.cls x.cls x.name x.desc) s) (hxs : sh.iface = x.cls ∧ sh.name = x.name ∧ sh.sam.toString = x.desc) (hxm : x.cls ≠ "java/lang/invoke/MethodHandle" ∧ x.cls ≠ "java/lang/invoke/VarHandle") (hxn : (parseMethodDescriptor x.desc).map (fun d => d.parameters.length) = some 2)
    {q b : Addr} {w i j : Int32} (hcell : ∀ H : Heap, HG G h H → ∃ cell : Cell, H[q]? = some cell ∧ cell.cls = cK ∧ cell.slots = #[.ref b, .int w] ∧ cell.vm = .none) {ci : Nat} {fs : List Value} {Cn : String} {T0 : u_T} {N : Nat} (hrecv : h b = some (.inr (ci, fs))) (hci : vwCl[ci]? = some (Cn, T0, N))
    {y : MethodName} {cc' : ByteArray} {nL' fr lo mc ms : Nat} {Post : Option Value → AH → Prop} (hM : MT G l y cc' nL' (some .int) fr lo 0 0 [.ref b, .int w, .int i, .int j] h Post) (hy : CalV y Cn cc' nL' (some .int) 3) (hyi : sh.implClass = y.cls ∧ sh.implName = y.name ∧ sh.implDesc.toString = y.desc) (hpost : ∀ v h', Post v h' → ∃ r : Int32, v = some (.int r))
    (hfr : fr + 2 ≤ R.frames) (hcat : (rest.map fun v => v.category).sum ≤ 8) (hlo : 22 + (8 + (nL' + 11) + lo) ≤ R.locals) (hdg : decode cc pc = .ok (.invokeinterface index count, 5))
    (kk : ∀ (v : Option Value) (h' : AH), Post v h' → J G p l e R s m args below meth c nL Q bc bs h' (pc + 5) L (v.toList ++ rest)) : J G p l e R s m args below meth c nL Q bc bs h pc L (.int j :: .int i :: .ref q :: rest) := by
  refine j_run5 (mc := 0) (ms := 0) (Post := Post) (a := ([.ref b, .int w, .int i, .int j] : List Value).toArray) C (Nat.zero_le _) (Nat.zero_le _) (fun H locs ls cells slots hH hS hsz hf => ?_) kk
  intro T hT X
  obtain ⟨cell, hc1, hc2, hc3, hc4⟩ := hcell H hH
  obtain ⟨vm', X₁, hstep⟩ := lam_head X C.1 C.2.2.2.1 hL hx0 fit C.2.2.2.2.1 hq hdecl hface hxs hxm hxn (q := q) (cell := cell) (by rw [hT]; exact hc1) hc2 hc4 (g := F0 m pc ls (.int j :: .int i :: .ref q :: rest)) rfl (argsL := [.int i, .int j]) (rest := rest) rfl rfl (by rw [C.2.1]; exact hdg)
  obtain ⟨methk, ck, t, kt, metht, g1, g2, g3, g4, g5, g6, g7, g8, g9, g10, g11, g12, g13, g14, g15, g16, g17, g18, g19⟩ := lam_tgt (T := T.setVm vm') X₁.warmed hL hx0 fit hpn C.2.2.2.2.1 hy hyi
  obtain ⟨f1, w1, w2, w3⟩ := g19 _ _ _ _ _ fl0
  obtain ⟨f2, z1, z2, z3⟩ := g19 _ _ _ _ _ fl1
  obtain ⟨ws, hw1, hw2, hw3⟩ := id hH.1
  obtain ⟨q0, hq0⟩ := hw1 b _ hrecv
  obtain ⟨cellB, hb1, hb2, hb3⟩ := va_recv C.2.2.2.2.2.1.1 hw2 hci hq0
  obtain ⟨v, st, u, T', L1, a1, a2, a3, a4, a5, a6, a7⟩ := lam_inB X₁ C.1 (g := F0 m pc ls rest) rfl (by show ls.size = _; rw [hsz, C.2.2.1]) (by rw [C.2.1]; exact hdg) g1 g2 g3 g4 g5 g6 g7 (q := q) (b := b) (cellK := cell) (by show T.heap[q]? = _; rw [hT]; exact hc1) (by rw [hc4]; exact fun h => by cases h) w1 w2 (by rw [hc3, w3]; rfl) z1 z2 (by rw [hc3, z3]; rfl) g8 g9 g10 g11 g12 g13 g14 (cellB := cellB) (by show T.heap[b]? = _; rw [hT]; exact hb1) (fun z hz => by rw [hz] at hb2; cases hb2) (by rw [Launch.admits_selectMethod X.admits]; exact g18 _ hb3) g15 g16 hM (SP.blind C.2.2.2.2.2.2.1) C.2.2.2.2.1 hy.2.2.2.1 (by rw [hy.2.2.2.2.1]; exact hy.2.2.1) g17
    (fun V hV hVm => ⟨rfl, C.gw hS (by rw [hV]; exact hT) (by rw [hVm]; exact X₁.warmed), by rw [hV]; show HG G h T.heap; rw [hT]; exact hH⟩) (fun st v u hq => by
      obtain ⟨⟨v', h', hv, hp, -⟩, -⟩ := hq
      cases hv
      exact hpost _ _ hp) hfr (by show 2 * 0 + (rest.map fun v => v.category).sum + (3 + 11) + _ ≤ _; omega) (by omega) (by omega)
  refine ⟨v, st, u, T', L1, by rw [a1]; exact hT, a2, a3, a4, a5, a6, fun target hgo => hstep _ fun acts => (a7 acts).trans hgo⟩
theorem j_lamV (C : Cx G p s m args meth c cc own nL ret) {x x0 : MethodName} {index count pc0 index0 : Nat} {sh : Lambda.Shape} {cK : ClassId} {nm n0 d0 n1 d1 : String} (hL : LamV x0 pc0 index0 sh cK s) (hx0 : x0.cls = nm) (fit : LamFit sh nm fwdV 22 19 21 18 none) (fl0 : LamFld sh nm 15 14 0 n0 d0) (hpn : plainName (nm ++ "$$Lambda") = true)
    (hq : Cond.methodLink own index x ∈ lw_all) (hdecl : va_Nw (.declares x) s) (hface : va_Nw (.interfaceMethod x.cls x.cls x.name x.desc) s) (hxs : sh.iface = x.cls ∧ sh.name = x.name ∧ sh.sam.toString = x.desc) (hxm : x.cls ≠ "java/lang/invoke/MethodHandle" ∧ x.cls ≠ "java/lang/invoke/VarHandle") (hxn : (parseMethodDescriptor x.desc).map (fun d => d.parameters.length) = some 2)
    {q b : Addr} {i : Nat} {j : Int32} (hcell : ∀ H : Heap, HG G h H → ∃ cell : Cell, H[q]? = some cell ∧ cell.cls = cK ∧ cell.slots = #[.ref b] ∧ cell.vm = .none) {ci : Nat} {fs : List Value} {Cn : String} {T0 : u_T} {N : Nat} (hrecv : h b = some (.inr (ci, fs))) (hci : vwCl[ci]? = some (Cn, T0, N))
    {y : MethodName} {cc' : ByteArray} {nL' fr lo mc ms : Nat} {Post : Option Value → AH → Prop} (hM : MT G l y cc' nL' none fr lo 0 0 [.ref b, .ref i, .int j] h Post) (hy : CalV y Cn cc' nL' none 2) (hyi : sh.implClass = y.cls ∧ sh.implName = y.name ∧ sh.implDesc.toString = y.desc) (hpost : ∀ v h', Post v h' → v = none)
    (hfr : fr + 2 ≤ R.frames) (hcat : (rest.map fun v => v.category).sum ≤ 8) (hlo : 22 + (8 + (nL' + 11) + lo) ≤ R.locals) (hdg : decode cc pc = .ok (.invokeinterface index count, 5))
    (kk : ∀ (v : Option Value) (h' : AH), Post v h' → J G p l e R s m args below meth c nL Q bc bs h' (pc + 5) L (v.toList ++ rest)) : J G p l e R s m args below meth c nL Q bc bs h pc L (.int j :: .ref i :: .ref q :: rest) := by
  refine j_run5 (mc := 0) (ms := 0) (Post := Post) (a := ([.ref b, .ref i, .int j] : List Value).toArray) C (Nat.zero_le _) (Nat.zero_le _) (fun H locs ls cells slots hH hS hsz hf => ?_) kk
  intro T hT X
  obtain ⟨cell, hc1, hc2, hc3, hc4⟩ := hcell H hH
  obtain ⟨vm', X₁, hstep⟩ := lam_head X C.1 C.2.2.2.1 hL hx0 fit C.2.2.2.2.1 hq hdecl hface hxs hxm hxn (q := q) (cell := cell) (by rw [hT]; exact hc1) hc2 hc4 (g := F0 m pc ls (.int j :: .ref i :: .ref q :: rest)) rfl (argsL := [.ref i, .int j]) (rest := rest) rfl rfl (by rw [C.2.1]; exact hdg)
  obtain ⟨methk, ck, t, kt, metht, g1, g2, g3, g4, g5, g6, g7, g8, g9, g10, g11, g12, g13, g14, g15, g16, g17, g18, g19⟩ := lam_tgt (T := T.setVm vm') X₁.warmed hL hx0 fit hpn C.2.2.2.2.1 hy hyi
  obtain ⟨f1, w1, w2, w3⟩ := g19 _ _ _ _ _ fl0

  obtain ⟨ws, hw1, hw2, hw3⟩ := id hH.1
  obtain ⟨q0, hq0⟩ := hw1 b _ hrecv
  obtain ⟨cellB, hb1, hb2, hb3⟩ := va_recv C.2.2.2.2.2.1.1 hw2 hci hq0
  obtain ⟨v, st, u, T', L1, a1, a2, a3, a4, a5, a6, a7⟩ := lam_inV X₁ C.1 (g := F0 m pc ls rest) rfl (by show ls.size = _; rw [hsz, C.2.2.1]) (by rw [C.2.1]; exact hdg) g1 g2 g3 g4 g5 g6 g7 (q := q) (b := b) (cellK := cell) (by show T.heap[q]? = _; rw [hT]; exact hc1) (by rw [hc4]; exact fun h => by cases h) w1 w2 (by rw [hc3, w3]; rfl) g8 g9 g10 g11 g12 g13 g14 (cellB := cellB) (by show T.heap[b]? = _; rw [hT]; exact hb1) (fun z hz => by rw [hz] at hb2; cases hb2) (by rw [Launch.admits_selectMethod X.admits]; exact g18 _ hb3) g15 g16 hM (SP.blind C.2.2.2.2.2.2.1) C.2.2.2.2.1 hy.2.2.2.1 (by rw [hy.2.2.2.2.1]; exact hy.2.2.1) g17
    (fun V hV hVm => ⟨rfl, C.gw hS (by rw [hV]; exact hT) (by rw [hVm]; exact X₁.warmed), by rw [hV]; show HG G h T.heap; rw [hT]; exact hH⟩) (fun st v u hq => by
      obtain ⟨⟨v', h', hv, hp, -⟩, -⟩ := hq
      cases hv
      exact hpost _ _ hp) hfr (by show 2 * 0 + (rest.map fun v => v.category).sum + (3 + 11) + _ ≤ _; omega) (by omega) (by omega)
  refine ⟨v, st, u, T', L1, by rw [a1]; exact hT, a2, a3, a4, a5, a6, fun target hgo => hstep _ fun acts => (a7 acts).trans hgo⟩
end LC
