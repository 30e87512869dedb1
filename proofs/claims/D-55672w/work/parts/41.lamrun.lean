/-! A CALL THROUGH A LAMBDA's OBJECT (turned from the library's example of forwarders) -/
set_option maxRecDepth 100000
theorem lam_facts {x : MethodName} {pc index : Nat} {sh : Lambda.Shape} {cK : ClassId} {U : State} (h : LamV x pc index sh cK U) {nm : String} (hx : x.cls = nm) {D : ClassFile} (h1 : sh.file nm = some D) {fw : Method} (h2 : ∀ ms, layoutMethods D = some ms → ms[1]? = some fw) {laid : Array Field × Array FieldType × Array FieldType} (h3 : layoutFields D 0 = some laid) {cd : Array UInt8} {nl : Nat} (h4 : (fw.code.map fun c => (c.code.data, c.maxLocals)) = some (cd, nl)) {rt : Option FieldType} (h5 : (fw.accessFlags, fw.sig.returnType) = (0x0001, rt))
    (hO : ∀ o ok, U.vm.findClass "java/lang/Object" = some o → U.vm.classes[o]? = some ok → ok.instanceTypes.size = 0) {iM iC a1 b1 : Nat} (eM1 : D.constantPool[iM]? = some (.methodref iC a1)) (eM2 : D.constantPool.className? iC = some sh.implClass) (eM3 : D.constantPool.nameAndType? a1 = some (sh.implName, sh.implDesc.toString)) (eC1 : D.constantPool[iC]? = some (.class_ b1)) (eC2 : D.constantPool.string? b1 = some sh.implClass) (eC3 : iC ≠ D.thisClass) (hitf : sh.implItf = false) :
    ∃ (k : Class) (methk : Method) (ck : Code) (ti : ClassId) (tk : Class) (t : MethodId) (file : ClassFile), U.vm.classes[cK]? = some k ∧ k.kind = .ordinary ∧ k.instanceTypes = laid.2.1 ∧ k.cf = some file ∧ file.constantPool = D.constantPool ∧ U.vm.method? ⟨cK, 1⟩ = some methk ∧ methk.code = some ck ∧ ck.code.data = cd ∧ ck.maxLocals = nl ∧ methk.locks = false ∧ methk.accessFlags = 0x0001 ∧ methk.sig.returnType = rt ∧ U.vm.findClass sh.implClass = some ti ∧ U.vm.classes[ti]? = some tk ∧ tk.isInterface = false ∧ ((methodIn ti sh.implName sh.implDesc.toString tk.isInterface none).ask { classPath := fun _ => none } U.vm).1 = .ok t ∧ U.vm.methodReady cK iM t ∧ U.vm.classReady cK iC ti ∧ k.name = nm ++ "$$Lambda" ∧
      (∀ (i a j : Nat) (n d : String) (f : Field), D.constantPool[i]? = some (.fieldref 2 a) → D.constantPool.nameAndType? a = some (n, d) → laid.1.findIdx? (·.name == n) = some j → laid.1[j]? = some f → U.vm.fieldReady cK i cK f) := by
  obtain ⟨m, k0, cf0, i0, p0, g1, g2, g3, -, -, hmade, -⟩ := h
  have hfc : U.vm.findClass x.cls = some m.cls := findClass_of_methodNamed g1
  obtain ⟨k1, hk1, hnm⟩ := Vm.findClass_spec hfc
  cases g2.symm.trans hk1
  obtain ⟨dk', k, ok, tk, file, cf, object, iface, ti, lay, methods, target, found, hd', hk, hfile, hcf, hobj, -, hok, hlay, hms, ht, htk, hg, -, hrec, -, -, -, hit, hpool, hmeth, hfields, hinst, hres, -⟩ := Lambda.isMade_spec hmade
  cases g2.symm.trans hd'
  rw [hnm, hx, h1] at hcf
  cases hcf
  have hz := hO object ok hobj hok
  rw [hz, h3] at hlay
  cases hlay
  obtain ⟨b, hb, hsame⟩ := hmeth 1 fw (h2 methods hms)
  simp only [Lambda.sameMethod, Bool.and_eq_true, decide_eq_true_eq] at hsame
  obtain ⟨⟨hn, -, hsig, hfl⟩, hcode⟩ := hsame
  simp only [Prod.mk.injEq] at h5
  have hoe : ok.instanceTypes = #[] := Array.eq_empty_of_size_eq_zero hz
  cases hfcd : fw.code with
  | none => rw [hfcd] at h4; cases h4
  | some xx =>
    cases hbc : b.code with
    | none => simp [hfcd, hbc] at hcode
    | some y =>
      simp only [hfcd, hbc, Bool.and_eq_true, decide_eq_true_eq] at hcode
      simp only [hfcd, Option.map_some, Option.some.injEq, Prod.mk.injEq] at h4
      refine ⟨k, b, y, ti, tk, target, file, hk, hrec.2.1, by rw [hinst.1, hoe]; simp, hfile, hpool.2.1, by simp [Vm.method?, hk, hb], hbc, ?_, by rw [← hcode.1.1.1.1.2.1]; exact h4.2, ?_, by rw [← hfl]; exact h5.1, by rw [← hsig]; exact h5.2, ht, htk, by rw [hit]; exact hitf, hg,
        ⟨k, hk, hres iM _ (Lambda.resolvedOf_method eM1 eM2 ht htk eM3 hg)⟩, ⟨k, hk, hres iC _ (Lambda.resolvedOf_class eC1 eC3 eC2 ht)⟩, by rw [hrec.1, hnm, hx], fun i a j n d f e1 e2 e3 e4 => ⟨k, j, k, hk, hres i _ (Lambda.resolvedOf_field e1 e2 e3), hk, hfields j _ e4⟩⟩
      · rw [← hcode.1.1.1.1.2.2]
        exact h4.1
      · simp [Method.locks, Method.isSynchronized, ← hfl, h5.1, hasFlag, Acc.synchronized]
def fwdA : ByteArray := ⟨#[42, 180, 0, 15, 27, 28, 182, 0, 22, 172]⟩
theorem fdA_0 : decode fwdA 0 = .ok (.aload_n 0, 1) := by decide +kernel
theorem fdA_1 : decode fwdA 1 = .ok (.getfield 15, 3) := by decide +kernel
theorem fdA_4 : decode fwdA 4 = .ok (.iload_n 1, 1) := by decide +kernel
theorem fdA_5 : decode fwdA 5 = .ok (.iload_n 2, 1) := by decide +kernel
theorem fdA_6 : decode fwdA 6 = .ok (.invokevirtual 22, 3) := by decide +kernel
theorem fdA_9 : decode fwdA 9 = .ok (.ireturn, 1) := by decide +kernel
set_option maxHeartbeats 1000000 in
theorem lam_inA {p : Program} {l : Launch} {e : Env} {R : Room} {s : State} {m : MethodId} {args : Array Value} {below : List Frame} {meth : Method} {c : Code} {T : State} {locs : List Loc} {cells slots : Nat} (X : Stand p l e R s m args below meth c T locs cells slots) (hexec : p.tables.exec = Jvm.exec) {g : JFrame} (hg : g.method = m) (hsize : g.locals.size = c.maxLocals) {ig : Instr} {len : Nat} (hdg : decode c.code g.pc = .ok (ig, len))
    {mk : MethodId} {methk : Method} {ck : Code} (hmk : T.vm.method? mk = some methk) (hck : methk.code = some ck) (hbytes : ck.code = fwdA) (hml : ck.maxLocals = 3) (hlk : methk.locks = false) (hpk : T.plainMethod mk) (hretk : methk.sig.returnType = some .int)
    {q b : Addr} {i j : Int32} {cellK : Cell} (hcellK : T.heap[q]? = some cellK) (hknown : cellK.vm ≠ .unknown) {f1 : Field} (hf1 : T.vm.fieldReady mk.cls 15 mk.cls f1) (hf1s : f1.isStatic = false) (hf1v : cellK.slots[f1.slot]? = some (.ref b))
    {t : MethodId} {kt : Class} {metht : Method} {cellB : Cell} (hnamed : namesAClass T mk.cls 22) (hready : T.vm.methodReady mk.cls 22 t) (hkt : T.vm.classes[t.cls]? = some kt) (hmt : T.vm.method? t = some metht) (hpoly : signaturePolymorphic kt metht = false) (hstatic : metht.isStatic = false) (hpar : metht.sig.parameters.length = 2) (hcellB : T.heap[b]? = some cellB) (hobjB : ∀ k, cellB.vm ≠ .statics k) (hsel : selectMethod e.platform T.vm cellB.cls t = .method t) (habs : metht.isAbstract = false) (hitf : kt.isInterface = false)
    {y : MethodName} {ccL : ByteArray} {nLL frL loL : Nat} {ret : Option FieldType} {Pc : Array Value → State → Prop} {Qc : Array Value → State → Outcome → State → Prop} {free : Addr → Prop} (hM : Met l y (ws_ y ccL nLL ret) ({ frames := frL, cells := 0, slots := 0, locals := loL }) Pc Qc 0 0 free) (hblind : FrameBlind Pc) (hts : ∀ w ∈ lw_all, w.before args s = true) (hcd : Cond.code y ccL nLL ret ∈ lw_all) (hini : Cond.initialized y.cls ∈ lw_all) (hny : T.methodNamed? y = some t)
    (hpre : ∀ V : State, V.heap = T.heap → V.vm = T.vm → Pc ([.ref b, .int i, .int j] : List Value).toArray V) (hq : ∀ (st : State) (v : Option Value) (u : State), Qc ([.ref b, .int i, .int j] : List Value).toArray st (.returned v) u → ∃ r : Int32, v = some (.int r))
    (hfr : frL + 2 ≤ R.frames) (hlo : 2 * g.monitorRoom + (g.stack.map fun v => v.category).sum + (3 + 11) + (8 + (nLL + 11) + loL) ≤ R.locals) (hcells : cells ≤ R.cells) (hslots : slots ≤ R.slots) :
    ∃ (v : Option Value) (st u T' : State) (L : List Loc), st.heap = T.heap ∧ Stand p l e R s m args below meth c T' (locs ++ L) cells slots ∧ (∀ z ∈ L, free z.base) ∧ T'.heap = u.heap ∧ T'.vm = u.vm ∧ Qc ([.ref b, .int i, .int j] : List Value).toArray st (.returned v) u ∧
      ∀ acts, Steps p.tables e below (doInvoke e (T.setTop g) acts mk (.ref q :: [.int i, .int j] : List Value).toArray).1 (T'.setTop { g with pc := g.pc + len, stack := v.toList ++ g.stack }) := by
  obtain ⟨Y₀, hin⟩ := X.into hg hsize hdg (.ref q :: [.int i, .int j] : List Value).toArray (R' := { frames := frL + 1, cells := 0, slots := 0, locals := 8 + (nLL + 11) + loL }) hmk hck hlk hpk (by show frL + 1 + 1 ≤ _; omega) (by rw [hml]; exact hlo) (by simpa using hcells) (by simpa using hslots)
  generalize hU : (T.setTop g).pushFrame (.java (entryFrame mk (.ref q :: [.int i, .int j] : List Value).toArray ck.maxLocals)) = U at Y₀ hin
  have hvm : U.vm = T.vm := by rw [← hU]; rfl
  have hheap : U.heap = T.heap := by rw [← hU]; rfl
  have hW0 : s.WarmedH T.vm := X.warmed
  have hgood : ∀ w ∈ ws_ y ccL nLL ret, ∀ (a' : Array Value) (V : State), s.WarmedH V.vm → w.before a' V = true := pay_in hts (lw_meth hcd)
  have hK : Back l ({ frames := frL + 1, cells := 0, slots := 0, locals := 8 + (nLL + 11) + loL }) p e (.java g :: below) (T.calling g mk (.ref q :: [.int i, .int j] : List Value).toArray) (.ref q :: [.int i, .int j] : List Value).toArray y 3 8 (PreOf ({ frames := frL + 1, cells := 0, slots := 0, locals := 8 + (nLL + 11) + loL }) 0 0 Pc) (PostOf Qc 0 0 free) :=
    back_of hM hblind rfl rfl (Nat.le_refl _) (Nat.le_refl _) (fun w hw a' V hW => hgood w hw a' V (State.WarmedH.trans hW0 hW)) List.mem_cons_self (fun a' V hW => pay_in hts lw_self _ hini a' V (State.WarmedH.trans hW0 hW))
  obtain ⟨v, B, Y₁, hpost, hsteps⟩ := hK mk methk ck ⟨U, [], 0, 0⟩ { method := mk, pc := 6, locals := #[.val (.ref q), .val (.int i), .val (.int j)], stack := [], locked := none } (.invokevirtual 22) t ([.ref b, .int i, .int j] : List Value).toArray Y₀ rfl (by rw [hml]; rfl) (by rw [hbytes]; exact fdA_6) (by show 2 * 0 + 0 ≤ 8; omega) (by show U.methodNamed? y = some t; rw [← hny]; exact congrFun (congrArg (fun (V : Vm) (y : MethodName) => (T.setVm V).methodNamed? y) hvm) y) ⟨Nat.le_refl _, Nat.le_refl _, hpre U hheap hvm⟩
  obtain ⟨gg, mk2, u, L, b1, b2, b3, b4, b5, b6, b7⟩ := hpost
  obtain ⟨r, rfl⟩ := hq _ _ _ b3
  obtain ⟨fs, hleave, -, hended, hWe, hsame⟩ := Y₁.leave (v := (some (.int r))) (fun h => by rw [hretk] at h; cases h) hlk
  obtain ⟨T', X', hW', -, ht⟩ := X.outOf hg hdg hended hWe hsame
  have e1 : T'.heap = u.heap := by
    have := congrArg State.heap ht
    exact this.symm.trans b1
  have e2 : T'.vm = u.vm := by
    have := congrArg State.vm ht
    exact this.symm.trans b2
  have b4' : B.locs = L := by rw [b4]; rfl
  have b6' : B.cells = 0 := b6
  have b7' : B.slots = 0 := b7
  rw [b4', b6', b7'] at X'
  refine ⟨(some (.int r)), _, u, T', L, ?_, X', b5, e1, e2, b3, fun acts => ?_⟩
  · exact hheap
  rw [hin acts]
  show Steps p.tables e below _ (T'.setTop { g with pc := g.pc + len, stack := ((some (.int r)) : Option Value).toList ++ g.stack })
  rw [← ht]
  refine Steps.weaken (mid := [.java g]) ?_
  have hloc : entryFrame mk (.ref q :: [.int i, .int j] : List Value).toArray ck.maxLocals = { method := mk, pc := 0, locals := #[.val (.ref q), .val (.int i), .val (.int j)], stack := [], locked := none } := by rw [hml]; rfl
  rw [hloc]
  have hs : U.topJava?.isSome := Y₀.here.top
  jvm_step Y₀.here [hexec, hbytes, fdA_0, Value.isRef]
  jvm_step Y₀.here [hexec, hbytes, fdA_1, getfield.wp_ready (e := e) (s := U) (c := mk.cls) (field := f1) (a := q) (rest := []) (cell := cellK) (v := .ref b) (f := { method := mk, pc := 1, locals := #[.val (.ref q), .val (.int i), .val (.int j)], stack := [.ref q], locked := none }) hs (by rw [hvm]; exact hf1) hf1s rfl (by rw [hheap]; exact hcellK) hknown hf1v]
  jvm_step Y₀.here [hexec, hbytes, fdA_4]
  jvm_step Y₀.here [hexec, hbytes, fdA_5]
  jvm_step Y₀.here [hexec, hbytes, fdA_6, invokevirtual.wp_ready (e := e) (s := U) (r := t) (m := t) (k := kt) (mk := kt) (rmeth := metht) (meth := metht) (a := b) (args := [.int i, .int j]) (rest := []) (cell := cellB) (f := { method := mk, pc := 6, locals := #[.val (.ref q), .val (.int i), .val (.int j)], stack := [.int j, .int i, .ref b], locked := none }) hs (by rw [← hU]; exact hnamed) (by rw [hvm]; exact hready) (by rw [hvm]; exact hkt) (by rw [hvm]; exact hmt) hpoly hstatic (by rw [hpar]; rfl) rfl (by rw [hheap]; exact hcellB) hobjB (by rw [hvm]; exact hsel) (by rw [hvm]; exact hmt) habs (by rw [hvm]; exact hkt) hitf]
  intro acts'
  rw [doInvoke_state]
  refine hsteps.trans ?_
  show Steps p.tables e (.java g :: below) (B.U.setTop { method := mk, pc := 9, locals := #[.val (.ref q), .val (.int i), .val (.int j)], stack := [.int r], locked := none }) _
  have hs2 : B.U.topJava?.isSome := Y₁.here.top
  jvm_step Y₁.here [hs2, hexec, hbytes, fdA_9, (show B.U.vm.method? mk = some methk from Y₁.method'), hretk, narrow]
  intro acts''
  rw [hleave { method := mk, pc := 9, locals := #[.val (.ref q), .val (.int i), .val (.int j)], stack := [], locked := none } acts'' rfl rfl rfl]
  exact Steps.refl _
def fwdB : ByteArray := ⟨#[42, 180, 0, 17, 42, 180, 0, 19, 27, 28, 182, 0, 27, 172]⟩
theorem fdB_0 : decode fwdB 0 = .ok (.aload_n 0, 1) := by decide +kernel
theorem fdB_1 : decode fwdB 1 = .ok (.getfield 17, 3) := by decide +kernel
theorem fdB_4 : decode fwdB 4 = .ok (.aload_n 0, 1) := by decide +kernel
theorem fdB_5 : decode fwdB 5 = .ok (.getfield 19, 3) := by decide +kernel
theorem fdB_8 : decode fwdB 8 = .ok (.iload_n 1, 1) := by decide +kernel
theorem fdB_9 : decode fwdB 9 = .ok (.iload_n 2, 1) := by decide +kernel
theorem fdB_10 : decode fwdB 10 = .ok (.invokevirtual 27, 3) := by decide +kernel
theorem fdB_13 : decode fwdB 13 = .ok (.ireturn, 1) := by decide +kernel
set_option maxHeartbeats 1000000 in
theorem lam_inB {p : Program} {l : Launch} {e : Env} {R : Room} {s : State} {m : MethodId} {args : Array Value} {below : List Frame} {meth : Method} {c : Code} {T : State} {locs : List Loc} {cells slots : Nat} (X : Stand p l e R s m args below meth c T locs cells slots) (hexec : p.tables.exec = Jvm.exec) {g : JFrame} (hg : g.method = m) (hsize : g.locals.size = c.maxLocals) {ig : Instr} {len : Nat} (hdg : decode c.code g.pc = .ok (ig, len))
    {mk : MethodId} {methk : Method} {ck : Code} (hmk : T.vm.method? mk = some methk) (hck : methk.code = some ck) (hbytes : ck.code = fwdB) (hml : ck.maxLocals = 3) (hlk : methk.locks = false) (hpk : T.plainMethod mk) (hretk : methk.sig.returnType = some .int)
    {q b : Addr} {w i j : Int32} {cellK : Cell} (hcellK : T.heap[q]? = some cellK) (hknown : cellK.vm ≠ .unknown) {f1 : Field} (hf1 : T.vm.fieldReady mk.cls 17 mk.cls f1) (hf1s : f1.isStatic = false) (hf1v : cellK.slots[f1.slot]? = some (.ref b)) {f2 : Field} (hf2 : T.vm.fieldReady mk.cls 19 mk.cls f2) (hf2s : f2.isStatic = false) (hf2v : cellK.slots[f2.slot]? = some (.int w))
    {t : MethodId} {kt : Class} {metht : Method} {cellB : Cell} (hnamed : namesAClass T mk.cls 27) (hready : T.vm.methodReady mk.cls 27 t) (hkt : T.vm.classes[t.cls]? = some kt) (hmt : T.vm.method? t = some metht) (hpoly : signaturePolymorphic kt metht = false) (hstatic : metht.isStatic = false) (hpar : metht.sig.parameters.length = 3) (hcellB : T.heap[b]? = some cellB) (hobjB : ∀ k, cellB.vm ≠ .statics k) (hsel : selectMethod e.platform T.vm cellB.cls t = .method t) (habs : metht.isAbstract = false) (hitf : kt.isInterface = false)
    {y : MethodName} {ccL : ByteArray} {nLL frL loL : Nat} {ret : Option FieldType} {Pc : Array Value → State → Prop} {Qc : Array Value → State → Outcome → State → Prop} {free : Addr → Prop} (hM : Met l y (ws_ y ccL nLL ret) ({ frames := frL, cells := 0, slots := 0, locals := loL }) Pc Qc 0 0 free) (hblind : FrameBlind Pc) (hts : ∀ w ∈ lw_all, w.before args s = true) (hcd : Cond.code y ccL nLL ret ∈ lw_all) (hini : Cond.initialized y.cls ∈ lw_all) (hny : T.methodNamed? y = some t)
    (hpre : ∀ V : State, V.heap = T.heap → V.vm = T.vm → Pc ([.ref b, .int w, .int i, .int j] : List Value).toArray V) (hq : ∀ (st : State) (v : Option Value) (u : State), Qc ([.ref b, .int w, .int i, .int j] : List Value).toArray st (.returned v) u → ∃ r : Int32, v = some (.int r))
    (hfr : frL + 2 ≤ R.frames) (hlo : 2 * g.monitorRoom + (g.stack.map fun v => v.category).sum + (3 + 11) + (8 + (nLL + 11) + loL) ≤ R.locals) (hcells : cells ≤ R.cells) (hslots : slots ≤ R.slots) :
    ∃ (v : Option Value) (st u T' : State) (L : List Loc), st.heap = T.heap ∧ Stand p l e R s m args below meth c T' (locs ++ L) cells slots ∧ (∀ z ∈ L, free z.base) ∧ T'.heap = u.heap ∧ T'.vm = u.vm ∧ Qc ([.ref b, .int w, .int i, .int j] : List Value).toArray st (.returned v) u ∧
      ∀ acts, Steps p.tables e below (doInvoke e (T.setTop g) acts mk (.ref q :: [.int i, .int j] : List Value).toArray).1 (T'.setTop { g with pc := g.pc + len, stack := v.toList ++ g.stack }) := by
  obtain ⟨Y₀, hin⟩ := X.into hg hsize hdg (.ref q :: [.int i, .int j] : List Value).toArray (R' := { frames := frL + 1, cells := 0, slots := 0, locals := 8 + (nLL + 11) + loL }) hmk hck hlk hpk (by show frL + 1 + 1 ≤ _; omega) (by rw [hml]; exact hlo) (by simpa using hcells) (by simpa using hslots)
  generalize hU : (T.setTop g).pushFrame (.java (entryFrame mk (.ref q :: [.int i, .int j] : List Value).toArray ck.maxLocals)) = U at Y₀ hin
  have hvm : U.vm = T.vm := by rw [← hU]; rfl
  have hheap : U.heap = T.heap := by rw [← hU]; rfl
  have hW0 : s.WarmedH T.vm := X.warmed
  have hgood : ∀ w ∈ ws_ y ccL nLL ret, ∀ (a' : Array Value) (V : State), s.WarmedH V.vm → w.before a' V = true := pay_in hts (lw_meth hcd)
  have hK : Back l ({ frames := frL + 1, cells := 0, slots := 0, locals := 8 + (nLL + 11) + loL }) p e (.java g :: below) (T.calling g mk (.ref q :: [.int i, .int j] : List Value).toArray) (.ref q :: [.int i, .int j] : List Value).toArray y 3 8 (PreOf ({ frames := frL + 1, cells := 0, slots := 0, locals := 8 + (nLL + 11) + loL }) 0 0 Pc) (PostOf Qc 0 0 free) :=
    back_of hM hblind rfl rfl (Nat.le_refl _) (Nat.le_refl _) (fun w hw a' V hW => hgood w hw a' V (State.WarmedH.trans hW0 hW)) List.mem_cons_self (fun a' V hW => pay_in hts lw_self _ hini a' V (State.WarmedH.trans hW0 hW))
  obtain ⟨v, B, Y₁, hpost, hsteps⟩ := hK mk methk ck ⟨U, [], 0, 0⟩ { method := mk, pc := 10, locals := #[.val (.ref q), .val (.int i), .val (.int j)], stack := [], locked := none } (.invokevirtual 27) t ([.ref b, .int w, .int i, .int j] : List Value).toArray Y₀ rfl (by rw [hml]; rfl) (by rw [hbytes]; exact fdB_10) (by show 2 * 0 + 0 ≤ 8; omega) (by show U.methodNamed? y = some t; rw [← hny]; exact congrFun (congrArg (fun (V : Vm) (y : MethodName) => (T.setVm V).methodNamed? y) hvm) y) ⟨Nat.le_refl _, Nat.le_refl _, hpre U hheap hvm⟩
  obtain ⟨gg, mk2, u, L, b1, b2, b3, b4, b5, b6, b7⟩ := hpost
  obtain ⟨r, rfl⟩ := hq _ _ _ b3
  obtain ⟨fs, hleave, -, hended, hWe, hsame⟩ := Y₁.leave (v := (some (.int r))) (fun h => by rw [hretk] at h; cases h) hlk
  obtain ⟨T', X', hW', -, ht⟩ := X.outOf hg hdg hended hWe hsame
  have e1 : T'.heap = u.heap := by
    have := congrArg State.heap ht
    exact this.symm.trans b1
  have e2 : T'.vm = u.vm := by
    have := congrArg State.vm ht
    exact this.symm.trans b2
  have b4' : B.locs = L := by rw [b4]; rfl
  have b6' : B.cells = 0 := b6
  have b7' : B.slots = 0 := b7
  rw [b4', b6', b7'] at X'
  refine ⟨(some (.int r)), _, u, T', L, ?_, X', b5, e1, e2, b3, fun acts => ?_⟩
  · exact hheap
  rw [hin acts]
  show Steps p.tables e below _ (T'.setTop { g with pc := g.pc + len, stack := ((some (.int r)) : Option Value).toList ++ g.stack })
  rw [← ht]
  refine Steps.weaken (mid := [.java g]) ?_
  have hloc : entryFrame mk (.ref q :: [.int i, .int j] : List Value).toArray ck.maxLocals = { method := mk, pc := 0, locals := #[.val (.ref q), .val (.int i), .val (.int j)], stack := [], locked := none } := by rw [hml]; rfl
  rw [hloc]
  have hs : U.topJava?.isSome := Y₀.here.top
  jvm_step Y₀.here [hexec, hbytes, fdB_0, Value.isRef]
  jvm_step Y₀.here [hexec, hbytes, fdB_1, getfield.wp_ready (e := e) (s := U) (c := mk.cls) (field := f1) (a := q) (rest := []) (cell := cellK) (v := .ref b) (f := { method := mk, pc := 1, locals := #[.val (.ref q), .val (.int i), .val (.int j)], stack := [.ref q], locked := none }) hs (by rw [hvm]; exact hf1) hf1s rfl (by rw [hheap]; exact hcellK) hknown hf1v]
  jvm_step Y₀.here [hexec, hbytes, fdB_4, Value.isRef]
  jvm_step Y₀.here [hexec, hbytes, fdB_5, getfield.wp_ready (e := e) (s := U) (c := mk.cls) (field := f2) (a := q) (rest := [.ref b]) (cell := cellK) (v := .int w) (f := { method := mk, pc := 5, locals := #[.val (.ref q), .val (.int i), .val (.int j)], stack := [.ref q, .ref b], locked := none }) hs (by rw [hvm]; exact hf2) hf2s rfl (by rw [hheap]; exact hcellK) hknown hf2v]
  jvm_step Y₀.here [hexec, hbytes, fdB_8]
  jvm_step Y₀.here [hexec, hbytes, fdB_9]
  jvm_step Y₀.here [hexec, hbytes, fdB_10, invokevirtual.wp_ready (e := e) (s := U) (r := t) (m := t) (k := kt) (mk := kt) (rmeth := metht) (meth := metht) (a := b) (args := [.int w, .int i, .int j]) (rest := []) (cell := cellB) (f := { method := mk, pc := 10, locals := #[.val (.ref q), .val (.int i), .val (.int j)], stack := [.int j, .int i, .int w, .ref b], locked := none }) hs (by rw [← hU]; exact hnamed) (by rw [hvm]; exact hready) (by rw [hvm]; exact hkt) (by rw [hvm]; exact hmt) hpoly hstatic (by rw [hpar]; rfl) rfl (by rw [hheap]; exact hcellB) hobjB (by rw [hvm]; exact hsel) (by rw [hvm]; exact hmt) habs (by rw [hvm]; exact hkt) hitf]
  intro acts'
  rw [doInvoke_state]
  refine hsteps.trans ?_
  show Steps p.tables e (.java g :: below) (B.U.setTop { method := mk, pc := 13, locals := #[.val (.ref q), .val (.int i), .val (.int j)], stack := [.int r], locked := none }) _
  have hs2 : B.U.topJava?.isSome := Y₁.here.top
  jvm_step Y₁.here [hs2, hexec, hbytes, fdB_13, (show B.U.vm.method? mk = some methk from Y₁.method'), hretk, narrow]
  intro acts''
  rw [hleave { method := mk, pc := 13, locals := #[.val (.ref q), .val (.int i), .val (.int j)], stack := [], locked := none } acts'' rfl rfl rfl]
  exact Steps.refl _
def fwdV : ByteArray := ⟨#[42, 180, 0, 15, 43, 28, 182, 0, 22, 177]⟩
theorem fdV_0 : decode fwdV 0 = .ok (.aload_n 0, 1) := by decide +kernel
theorem fdV_1 : decode fwdV 1 = .ok (.getfield 15, 3) := by decide +kernel
theorem fdV_4 : decode fwdV 4 = .ok (.aload_n 1, 1) := by decide +kernel
theorem fdV_5 : decode fwdV 5 = .ok (.iload_n 2, 1) := by decide +kernel
theorem fdV_6 : decode fwdV 6 = .ok (.invokevirtual 22, 3) := by decide +kernel
theorem fdV_9 : decode fwdV 9 = .ok (.return_, 1) := by decide +kernel
set_option maxHeartbeats 1000000 in
theorem lam_inV {p : Program} {l : Launch} {e : Env} {R : Room} {s : State} {m : MethodId} {args : Array Value} {below : List Frame} {meth : Method} {c : Code} {T : State} {locs : List Loc} {cells slots : Nat} (X : Stand p l e R s m args below meth c T locs cells slots) (hexec : p.tables.exec = Jvm.exec) {g : JFrame} (hg : g.method = m) (hsize : g.locals.size = c.maxLocals) {ig : Instr} {len : Nat} (hdg : decode c.code g.pc = .ok (ig, len))
    {mk : MethodId} {methk : Method} {ck : Code} (hmk : T.vm.method? mk = some methk) (hck : methk.code = some ck) (hbytes : ck.code = fwdV) (hml : ck.maxLocals = 3) (hlk : methk.locks = false) (hpk : T.plainMethod mk) (hretk : methk.sig.returnType = none)
    {q b : Addr} {i : Nat} {j : Int32} {cellK : Cell} (hcellK : T.heap[q]? = some cellK) (hknown : cellK.vm ≠ .unknown) {f1 : Field} (hf1 : T.vm.fieldReady mk.cls 15 mk.cls f1) (hf1s : f1.isStatic = false) (hf1v : cellK.slots[f1.slot]? = some (.ref b))
    {t : MethodId} {kt : Class} {metht : Method} {cellB : Cell} (hnamed : namesAClass T mk.cls 22) (hready : T.vm.methodReady mk.cls 22 t) (hkt : T.vm.classes[t.cls]? = some kt) (hmt : T.vm.method? t = some metht) (hpoly : signaturePolymorphic kt metht = false) (hstatic : metht.isStatic = false) (hpar : metht.sig.parameters.length = 2) (hcellB : T.heap[b]? = some cellB) (hobjB : ∀ k, cellB.vm ≠ .statics k) (hsel : selectMethod e.platform T.vm cellB.cls t = .method t) (habs : metht.isAbstract = false) (hitf : kt.isInterface = false)
    {y : MethodName} {ccL : ByteArray} {nLL frL loL : Nat} {ret : Option FieldType} {Pc : Array Value → State → Prop} {Qc : Array Value → State → Outcome → State → Prop} {free : Addr → Prop} (hM : Met l y (ws_ y ccL nLL ret) ({ frames := frL, cells := 0, slots := 0, locals := loL }) Pc Qc 0 0 free) (hblind : FrameBlind Pc) (hts : ∀ w ∈ lw_all, w.before args s = true) (hcd : Cond.code y ccL nLL ret ∈ lw_all) (hini : Cond.initialized y.cls ∈ lw_all) (hny : T.methodNamed? y = some t)
    (hpre : ∀ V : State, V.heap = T.heap → V.vm = T.vm → Pc ([.ref b, .ref i, .int j] : List Value).toArray V) (hq : ∀ (st : State) (v : Option Value) (u : State), Qc ([.ref b, .ref i, .int j] : List Value).toArray st (.returned v) u → v = none)
    (hfr : frL + 2 ≤ R.frames) (hlo : 2 * g.monitorRoom + (g.stack.map fun v => v.category).sum + (3 + 11) + (8 + (nLL + 11) + loL) ≤ R.locals) (hcells : cells ≤ R.cells) (hslots : slots ≤ R.slots) :
    ∃ (v : Option Value) (st u T' : State) (L : List Loc), st.heap = T.heap ∧ Stand p l e R s m args below meth c T' (locs ++ L) cells slots ∧ (∀ z ∈ L, free z.base) ∧ T'.heap = u.heap ∧ T'.vm = u.vm ∧ Qc ([.ref b, .ref i, .int j] : List Value).toArray st (.returned v) u ∧
      ∀ acts, Steps p.tables e below (doInvoke e (T.setTop g) acts mk (.ref q :: [.ref i, .int j] : List Value).toArray).1 (T'.setTop { g with pc := g.pc + len, stack := v.toList ++ g.stack }) := by
  obtain ⟨Y₀, hin⟩ := X.into hg hsize hdg (.ref q :: [.ref i, .int j] : List Value).toArray (R' := { frames := frL + 1, cells := 0, slots := 0, locals := 8 + (nLL + 11) + loL }) hmk hck hlk hpk (by show frL + 1 + 1 ≤ _; omega) (by rw [hml]; exact hlo) (by simpa using hcells) (by simpa using hslots)
  generalize hU : (T.setTop g).pushFrame (.java (entryFrame mk (.ref q :: [.ref i, .int j] : List Value).toArray ck.maxLocals)) = U at Y₀ hin
  have hvm : U.vm = T.vm := by rw [← hU]; rfl
  have hheap : U.heap = T.heap := by rw [← hU]; rfl
  have hW0 : s.WarmedH T.vm := X.warmed
  have hgood : ∀ w ∈ ws_ y ccL nLL ret, ∀ (a' : Array Value) (V : State), s.WarmedH V.vm → w.before a' V = true := pay_in hts (lw_meth hcd)
  have hK : Back l ({ frames := frL + 1, cells := 0, slots := 0, locals := 8 + (nLL + 11) + loL }) p e (.java g :: below) (T.calling g mk (.ref q :: [.ref i, .int j] : List Value).toArray) (.ref q :: [.ref i, .int j] : List Value).toArray y 3 8 (PreOf ({ frames := frL + 1, cells := 0, slots := 0, locals := 8 + (nLL + 11) + loL }) 0 0 Pc) (PostOf Qc 0 0 free) :=
    back_of hM hblind rfl rfl (Nat.le_refl _) (Nat.le_refl _) (fun w hw a' V hW => hgood w hw a' V (State.WarmedH.trans hW0 hW)) List.mem_cons_self (fun a' V hW => pay_in hts lw_self _ hini a' V (State.WarmedH.trans hW0 hW))
  obtain ⟨v, B, Y₁, hpost, hsteps⟩ := hK mk methk ck ⟨U, [], 0, 0⟩ { method := mk, pc := 6, locals := #[.val (.ref q), .val (.ref i), .val (.int j)], stack := [], locked := none } (.invokevirtual 22) t ([.ref b, .ref i, .int j] : List Value).toArray Y₀ rfl (by rw [hml]; rfl) (by rw [hbytes]; exact fdV_6) (by show 2 * 0 + 0 ≤ 8; omega) (by show U.methodNamed? y = some t; rw [← hny]; exact congrFun (congrArg (fun (V : Vm) (y : MethodName) => (T.setVm V).methodNamed? y) hvm) y) ⟨Nat.le_refl _, Nat.le_refl _, hpre U hheap hvm⟩
  obtain ⟨gg, mk2, u, L, b1, b2, b3, b4, b5, b6, b7⟩ := hpost
  obtain rfl := hq _ _ _ b3
  obtain ⟨fs, hleave, -, hended, hWe, hsame⟩ := Y₁.leave (v := none) (fun h => by rfl) hlk
  obtain ⟨T', X', hW', -, ht⟩ := X.outOf hg hdg hended hWe hsame
  have e1 : T'.heap = u.heap := by
    have := congrArg State.heap ht
    exact this.symm.trans b1
  have e2 : T'.vm = u.vm := by
    have := congrArg State.vm ht
    exact this.symm.trans b2
  have b4' : B.locs = L := by rw [b4]; rfl
  have b6' : B.cells = 0 := b6
  have b7' : B.slots = 0 := b7
  rw [b4', b6', b7'] at X'
  refine ⟨none, _, u, T', L, ?_, X', b5, e1, e2, b3, fun acts => ?_⟩
  · exact hheap
  rw [hin acts]
  show Steps p.tables e below _ (T'.setTop { g with pc := g.pc + len, stack := (none : Option Value).toList ++ g.stack })
  rw [← ht]
  refine Steps.weaken (mid := [.java g]) ?_
  have hloc : entryFrame mk (.ref q :: [.ref i, .int j] : List Value).toArray ck.maxLocals = { method := mk, pc := 0, locals := #[.val (.ref q), .val (.ref i), .val (.int j)], stack := [], locked := none } := by rw [hml]; rfl
  rw [hloc]
  have hs : U.topJava?.isSome := Y₀.here.top
  jvm_step Y₀.here [hexec, hbytes, fdV_0, Value.isRef]
  jvm_step Y₀.here [hexec, hbytes, fdV_1, getfield.wp_ready (e := e) (s := U) (c := mk.cls) (field := f1) (a := q) (rest := []) (cell := cellK) (v := .ref b) (f := { method := mk, pc := 1, locals := #[.val (.ref q), .val (.ref i), .val (.int j)], stack := [.ref q], locked := none }) hs (by rw [hvm]; exact hf1) hf1s rfl (by rw [hheap]; exact hcellK) hknown hf1v]
  jvm_step Y₀.here [hexec, hbytes, fdV_4, Value.isRef]
  jvm_step Y₀.here [hexec, hbytes, fdV_5]
  jvm_step Y₀.here [hexec, hbytes, fdV_6, invokevirtual.wp_ready (e := e) (s := U) (r := t) (m := t) (k := kt) (mk := kt) (rmeth := metht) (meth := metht) (a := b) (args := [.ref i, .int j]) (rest := []) (cell := cellB) (f := { method := mk, pc := 6, locals := #[.val (.ref q), .val (.ref i), .val (.int j)], stack := [.int j, .ref i, .ref b], locked := none }) hs (by rw [← hU]; exact hnamed) (by rw [hvm]; exact hready) (by rw [hvm]; exact hkt) (by rw [hvm]; exact hmt) hpoly hstatic (by rw [hpar]; rfl) rfl (by rw [hheap]; exact hcellB) hobjB (by rw [hvm]; exact hsel) (by rw [hvm]; exact hmt) habs (by rw [hvm]; exact hkt) hitf]
  intro acts'
  rw [doInvoke_state]
  refine hsteps.trans ?_
  show Steps p.tables e (.java g :: below) (B.U.setTop { method := mk, pc := 9, locals := #[.val (.ref q), .val (.ref i), .val (.int j)], stack := [], locked := none }) _
  have hs2 : B.U.topJava?.isSome := Y₁.here.top
  jvm_step Y₁.here [hs2, hexec, hbytes, fdV_9, (show B.U.vm.method? mk = some methk from Y₁.method'), hretk]
  intro acts''
  rw [hleave { method := mk, pc := 9, locals := #[.val (.ref q), .val (.ref i), .val (.int j)], stack := [], locked := none } acts'' rfl rfl rfl]
  exact Steps.refl _
