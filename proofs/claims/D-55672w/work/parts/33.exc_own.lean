/-! THE SUPER-CONSTRUCTOR CALL of an own exception: Exception.<init>() on an object of a class of ours, no traces kept (turned from kit/laws/EXCEPTIONS vx_ctorMade0) -/
set_option maxRecDepth 100000
theorem x_declC {y : MethodName} {s U : State} (hvm : s.vm.Alike U.vm) (h : va_Nw (.declares y) s) : va_Nw (.declares y) U := by
  have e := Cond.onTables_vm (A := #[]) (A' := #[]) (U := s) (U' := U) U.vm (.declares y) rfl
  have hU : U.setVm U.vm = U := rfl
  rw [hU] at e
  show (Cond.declares y).before #[] U = true
  rw [← e, Cond.declares_setVm hvm]
  exact h
/-- Throwable's words, all but the two statics' -/
theorem x_thr {s : State} {args : Array Value} (hts : ∀ w ∈ lw_all, w.before args s = true) {A : Nat → Prop} (hU : vx_Zq Bundle.tN "UNASSIGNED_STACK" Bundle.steD A s s.heap) (hN : vx_Zq Bundle.tN "SUPPRESSED_SENTINEL" Bundle.listD A s s.heap) : ∀ w ∈ Bundle.throwableAtoms, w.before args s = true := by
  unfold Bundle.throwableAtoms
  refine List.forall_mem_cons.mpr ⟨hts _ q104, List.forall_mem_cons.mpr ⟨hts _ q324, List.forall_mem_cons.mpr ⟨hts _ q333, List.forall_mem_cons.mpr ⟨hts _ q344, List.forall_mem_cons.mpr ⟨hts _ q347, List.forall_mem_cons.mpr ⟨hts _ q349, List.forall_mem_cons.mpr ⟨hts _ q325, List.forall_mem_cons.mpr ⟨hts _ q326, List.forall_mem_cons.mpr ⟨hts _ q142, List.forall_mem_cons.mpr ⟨hts _ q143, List.forall_mem_cons.mpr ⟨hts _ q327, List.forall_mem_cons.mpr ⟨hts _ q332, List.forall_mem_cons.mpr ⟨hts _ q345, List.forall_mem_cons.mpr ⟨hts _ q368, List.forall_mem_cons.mpr ⟨hts _ q314, List.forall_mem_cons.mpr ⟨hts _ q369, List.forall_mem_cons.mpr ⟨hts _ q316, List.forall_mem_cons.mpr ⟨hts _ q370, List.forall_mem_cons.mpr ⟨hts _ q318, List.forall_mem_cons.mpr ⟨hts _ q328, List.forall_mem_cons.mpr ⟨hU.2.word, List.forall_mem_cons.mpr ⟨hts _ q330, List.forall_mem_cons.mpr ⟨hN.2.word, List.forall_mem_cons.mpr ⟨hts _ q320, fun _ h => nomatch h⟩⟩⟩⟩⟩⟩⟩⟩⟩⟩⟩⟩⟩⟩⟩⟩⟩⟩⟩⟩⟩⟩⟩⟩
/-- the first six fields are Throwable's -/
def ThrT (T0 : u_T) : Prop := T0 0 = ("java/lang/Throwable", "cause", "Ljava/lang/Throwable;", false) ∧ T0 1 = ("java/lang/Throwable", "stackTrace", "[Ljava/lang/StackTraceElement;", false) ∧ T0 2 = ("java/lang/Throwable", "suppressedExceptions", "Ljava/util/List;", false) ∧ T0 4 = ("java/lang/Throwable", "backtrace", "Ljava/lang/Object;", false)
def MonF (a : Nat) (H : Heap) : Prop := ∀ cell : Cell, H[a]? = some cell → cell.monitor.owner = none ∧ cell.monitor.count = 0
set_option maxHeartbeats 2000000 in
theorem w_excInit {G : GT} {p : Program} {l : Launch} {e : Env} {R : Room} {s : State} {m : MethodId} {args : Array Value} {below : List Frame} {meth : Method} {c : Code} {nL : Nat} {Q : State → Prop} {h : AH} {pc : Nat} {ls : Array Slot} {rest : List Value} {cc : ByteArray} {own : String} {ret : Option FieldType}
    (C : Cx G p s m args meth c cc own nL ret) (hfl : l.stackTraces = false) {a ci N ic : Nat} {fs : List Value} {T0 : u_T} (ha : h a = some (.inr (ci, fs))) (hc : vwCl[ci]? = some (own, T0, N)) (hT : ThrT T0) (hN : 6 ≤ N) (hfs : fs.length = N) (hbk : fs[4]? = some .null) (hmon : MonF a s.heap)
    (hin : ∀ w ∈ u_ws own T0 N, w ∈ lw_all) (ty0 : Nat → FieldType) (hty : ∀ k, k < N → parseFieldDescriptor (T0 k).2.2.1 = some (ty0 k)) (hnm : ∀ a, a < N → ∀ b, b < N → a ≠ b → (T0 a).2.1 ≠ (T0 b).2.1)
    (hU : vx_Zq Bundle.tN "UNASSIGNED_STACK" Bundle.steD (fun q => G.1 ≤ q) s s.heap) (hNs : vx_Zq Bundle.tN "SUPPRESSED_SENTINEL" Bundle.listD (fun q => G.1 ≤ q) s s.heap) (hdecl : va_Nw (.declares Bundle.tInit0) s)
    (hq : Cond.methodLink own ic (Bundle.init0 "java/lang/Exception") ∈ lw_all) (hs0 : Cond.selects own Bundle.tFill0 Bundle.tFill0 ∈ lw_all) (hsF : Cond.selects own Bundle.tFill Bundle.tFill ∈ lw_all)
    (hm : FreeG G) (hHW : HG G h s.heap) (hsz : ls.size = nL) (hdg : decode cc pc = .ok (.invokespecial ic, 3)) (hRf : 4 ≤ R.frames) (hRl : (rest.map fun v => v.category).sum + 70 ≤ R.locals)
    (kk : ∀ (u0 sen : Value) (H1 : Heap) (locs1 : List Loc), u0.isRef = true → sen.isRef = true → HG G (hup h a (.inr (ci, (((fs.set 0 (.ref a)).set 1 u0).set 2 sen).set 1 u0))) H1 → va_S (fun q => G.1 ≤ q) s.heap H1 locs1 → W p l e R s m args below meth c H1 locs1 0 0 Q (F0 m (pc + 3) ls rest)) :
    W p l e R s m args below meth c s.heap [] 0 0 Q (F0 m pc ls (.ref a :: rest)) := by
  intro W0 hW0 X
  obtain ⟨hexec, hb, hml, hown, hts, hGW, hG, -, -⟩ := C
  have htr : e.platform.stackTraces = false := (show e.platform.stackTraces = l.stackTraces by rw [X.admits.platform]).trans hfl
  have howns : e.platform.frameOwnsMonitors = true := by rw [X.admits.platform]
  have hfin : e.platform.finalization = false := by rw [X.admits.platform]
  have hpl : e.platform.magicAccessors = ({} : Platform).magicAccessors := by rw [X.admits.platform]
  have hcls : Bundle.fit "java/lang/Exception" = true := by decide +kernel
  obtain ⟨T, Z, L, LZ, Y⟩ := ThrowableC.of_atoms (args := args) howns hfin hpl (x_thr hts hU hNs)
  have hch : ∀ w ∈ Bundle.chain0Atoms "java/lang/Exception" [], w.before args s = true := by
    unfold Bundle.chain0Atoms Bundle.passAtoms
    exact List.forall_mem_cons.mpr ⟨hts _ q357, List.forall_mem_cons.mpr ⟨hts _ q358, List.forall_mem_cons.mpr ⟨hts _ q359, List.forall_mem_cons.mpr ⟨hts _ q325, List.forall_mem_cons.mpr ⟨hdecl.use rfl, fun _ h => nomatch h⟩⟩⟩⟩⟩
  obtain ⟨P1, Ps, hlen, L1, hL, hP1m, hlink1, hlink⟩ := Bundle.chain0 (args := args) hpl Y.init0 [] "java/lang/Exception" hcls (fun _ h => nomatch h) hch
  obtain ⟨ws, g1, g2, g3⟩ := hHW.1
  obtain ⟨k0, hk0⟩ := g1 a _ ha
  obtain ⟨r, hr1, cell, q1, q2, q3, q4⟩ := g2 k0 _ hk0
  cases Option.some.inj (hr1.symm.trans hc)
  have hza : G.1 ≤ a := g3.2 k0 _ hk0
  obtain ⟨hS, hfc, kC, hkC, hkind⟩ := hGW.1.1 ci _ hc
  have hS : ∀ k, k < N → SlotIs s (T0 k).1 (T0 k).2.1 (T0 k).2.2.1 (G.2.1.2 ci k) := hS
  have q4 : ∀ k, k < N → cell.slots[G.2.1.2 ci k]? = some (vp_V fs k) := q4
  have q2 : cell.cls = G.2.1.1 ci := q2
  have hap : ∀ x y, x < N → y < N → x ≠ y → G.2.1.2 ci x ≠ G.2.1.2 ci y := va_apart (own := own) hts hin ty0 hty hnm hGW.1 hc
  have hsel0 : selectMethod e.platform s.vm cell.cls T.fill0 = .method T.fill0 := by
    obtain ⟨c2, r2, m2, z1, z2, z3, z4, -⟩ := Cond.selects_spec (hts _ hs0)
    cases Option.some.inj (z1.symm.trans hfc)
    cases Option.some.inj (z2.symm.trans (State.methodFound?_of_named Y.fill0 (by decide)))
    cases Option.some.inj (z3.symm.trans Y.fill0)
    rw [q2, Launch.admits_selectMethod X.admits]; exact z4
  have hselF : selectMethod e.platform s.vm cell.cls T.fill = .method T.fill := by
    obtain ⟨c2, r2, m2, z1, z2, z3, z4, -⟩ := Cond.selects_spec (hts _ hsF)
    cases Option.some.inj (z1.symm.trans hfc)
    cases Option.some.inj (z2.symm.trans (State.methodFound?_of_named Y.fill (by decide)))
    cases Option.some.inj (z3.symm.trans Y.fill)
    rw [q2, Launch.admits_selectMethod X.admits]; exact z4
  obtain ⟨cellS0, hcS0, hiss⟩ := Y.statics
  obtain ⟨u0, hu0⟩ := Cond.staticRefV Y.unassigned L.unassignedStatic L.statics hcS0 hiss (show (Cond.isRef (.static Bundle.tN "UNASSIGNED_STACK" Bundle.steD)).holds args s none s [] = true from vx_isRefq hU.1)
  obtain ⟨sen, hsen⟩ := Cond.staticRefV Y.sentinel L.sentinelStatic L.statics hcS0 hiss (show (Cond.isRef (.static Bundle.tN "SUPPRESSED_SENTINEL" Bundle.listD)).holds args s none s [] = true from vx_isRefq hNs.1)
  obtain ⟨ci198, i198, fB, hk198, hg198, ha198, hsB, -, hnB, htB, hffB⟩ := Cond.ownField (t := .object "java/lang/Object") Y.found L.cls (by decide +kernel) (hts (.fieldLink Bundle.tN 198 Bundle.tN "backtrace" "Ljava/lang/Object;") q366) (hts (.lays Bundle.tN Bundle.tN "backtrace" "Ljava/lang/Object;") q322) e.platform hpl
  have hcellS : W0.heap[T.aS]? = some cellS0 := by rw [hW0]; exact hcS0
  have hknownS : cellS0.vm ≠ .unknown := by
    intro hu
    rw [show cellS0.vm = .unknown from hu] at hiss
    cases hiss
  have hneS : T.aS ≠ a := by
    intro q
    rw [q, q1] at hcS0
    cases hcS0
    rw [q3] at hiss
    cases hiss
  have slot : ∀ {k : Nat} {o n d : String} {bb : Bool} {c1 : ClassId} {k1 : Class} {i1 : Nat} {f1 : Field}, k < N → T0 k = (o, n, d, bb) → s.fieldFound? o n d = some (c1, k1, i1, f1) → f1.slot = G.2.1.2 ci k := by
    intro k o n d bb c1 k1 i1 f1 hk hk2 hf
    obtain ⟨cf, kf, fi, fd, hi, hsl⟩ := hS k hk
    rw [hk2] at hi
    cases Option.some.inj (hi.symm.trans hf)
    exact hsl
  obtain ⟨t0, t1, t2, t4⟩ := hT
  have eC : T.fCause.slot = G.2.1.2 ci 0 := slot (by omega) t0 Y.cause
  have eS : T.fStack.slot = G.2.1.2 ci 1 := slot (by omega) t1 Y.stack
  have eP : T.fSupp.slot = G.2.1.2 ci 2 := slot (by omega) t2 Y.supp
  have eB : fB.slot = G.2.1.2 ci 4 := slot (by omega) t4 hffB
  have takes : ∀ {k : Nat} {f1 : Field} {v : Value} {c1 : ClassId} {k1 : Class} {i1 : Nat}, k < N → s.fieldFound? (T0 k).1 (T0 k).2.1 (T0 k).2.2.1 = some (c1, k1, i1, f1) → narrow (ty0 k) v = v → fits (ty0 k) v = true → Takes s cell f1 v := by
    intro k f1 v c1 k1 i1 hk hi hn hv
    refine ⟨?_, ?_⟩
    · rw [slot hk rfl hi]; exact k2_hasslot (q4 k hk)
    · rw [q2, q3]; exact (u_fits hfc hkC hkind (u_lays hts hin hk) hi (hty k hk) hn hv).2
  have ty_0 : ty0 0 = .object "java/lang/Throwable" := by have := hty 0 (by omega); rw [t0] at this; exact (Option.some.inj this).symm.trans (by rfl)
  have ty_1 : ty0 1 = .array (.object "java/lang/StackTraceElement") := by have := hty 1 (by omega); rw [t1] at this; exact (Option.some.inj this).symm.trans (by rfl)
  have ty_2 : ty0 2 = .object "java/util/List" := by have := hty 2 (by omega); rw [t2] at this; exact (Option.some.inj this).symm.trans (by rfl)
  have htC : Takes s cell T.fCause (.ref a) := takes (k := 0) (by omega) (by rw [t0]; exact Y.cause) (by rw [ty_0]; rfl) (by rw [ty_0]; rfl)
  have htS : Takes s cell T.fStack u0.v := takes (k := 1) (by omega) (by rw [t1]; exact Y.stack) (narrow_refV _ u0) (by rw [ty_1]; exact fits_refV_array _ u0)
  have htP : Takes s cell T.fSupp sen.v := takes (k := 2) (by omega) (by rw [t2]; exact Y.supp) (narrow_refV _ sen) (by rw [ty_2]; exact fits_refV_object _ sen)
  have s1 := t_set q4 hap (k := 0) (by omega) (.ref a)
  have s2 := t_set s1 hap (k := 1) (by omega) u0.v
  have s3 := t_set s2 hap (k := 2) (by omega) sen.v
  have s4 := t_set s3 hap (k := 1) (by omega) u0.v
  rw [← eC, ← eS, ← eP] at s3
  have hskip : SkipFacts T e.platform s (fun u => u) u0 ((preparedCellV T.toThrowableT cell a u0 sen).withEntry W0.cur) := by
    refine ⟨{ ci198 := ci198, i198 := i198, fBack := fB }, ⟨hk198, hg198, ha198, hsB⟩, ?_, fun _ _ => rfl⟩
    have h4 := s3 4 (by omega)
    show (preparedCellV T.toThrowableT cell a u0 sen).slots[fB.slot]? = some .null
    rw [eB, h4]
    simp [updV, vp_V, hbk]
  obtain ⟨tm, methC, cdC, kC2, vm₁, hnC, -, -, -, -, -, -, -, hW₁, st1⟩ := Steps.initCold (tb := p.tables) (e := e) (below := below) (s := s) (U := W0) X.here hexec X.warmed hpl hown (t := Bundle.init0 "java/lang/Exception") rfl rfl (Bundle.fit_spec hcls).2
    (hts _ hq) (hts (.instanceMethod (Bundle.init0 "java/lang/Exception")) q357) (bytes := Bundle.five) (maxL := 1) (hts (.code (Bundle.init0 "java/lang/Exception") Bundle.five 1 none) q358)
    (f := F0 m pc ls (.ref a :: rest)) rfl (a := a) (rest := rest) rfl (by rw [hb]; exact hdg)
  cases Option.some.inj (hnC.symm.trans hP1m)
  have X₁ := X.noted hW₁
  have hlen0 : Ps.length = 0 := by rw [hlen]; rfl
  have hsize : ls.size = c.maxLocals := by rw [hml]; exact hsz
  obtain ⟨vm₂, X₂, st2⟩ := X₁.ctorPlainOffV hexec (g := { F0 m pc ls (.ref a :: rest) with stack := rest }) rfl hsize T L Z LZ (P1 :: Ps)
    (fun P hP => by rcases List.mem_cons.mp hP with rfl | hP; exact L1; exact hL P hP) ⟨hlink1, hlink⟩ (u0 := u0) (sen := sen) (self := a) (cell := cell) (cellS := cellS0)
    (by show W0.heap[a]? = some cell; rw [hW0]; exact q1) (fun _ => by rw [q3]; simp) (by rw [q3]; simp) (hmon cell q1).1 (hmon cell q1).2 hsel0 hselF hcellS hneS hknownS hu0 hsen
    htC htS htP Y.objLocals hskip htr [] (by rw [hb]; exact hdg)
    (by simp only [List.length_cons, hlen0]; omega) (by simp only [List.length_cons, hlen0]; show 2 * 0 + _ + _ ≤ _; omega)
  have hlt : a < s.heap.size := (Array.getElem?_eq_some_iff.mp q1).1
  generalize hce : (preparedCellV T.toThrowableT cell a u0 sen).setSlot T.fStack.slot u0.v = ce at X₂ st2
  have hH1 : (((W0.setVm vm₁).setVm vm₂).setCell a ce).heap = s.heap.setIfInBounds a ce := by
    show W0.heap.setIfInBounds a ce = _
    rw [hW0]
  have oq : ∀ q : Nat, q ≠ a → (s.heap.setIfInBounds a ce)[q]? = s.heap[q]? := fun q hq => by simp [Array.getElem?_setIfInBounds, Ne.symm hq]
  have hat : va_at G.2.1 vwCl (a, .inr (ci, (((fs.set 0 (.ref a)).set 1 u0.v).set 2 sen.v).set 1 u0.v)) (s.heap.setIfInBounds a ce) := by
    refine ⟨_, hc, ce, by simp [hlt], by rw [← hce]; exact q2, by rw [← hce]; exact q3, fun j hj => ?_⟩
    rw [← hce]
    have h5 := s4 j hj
    rw [← eC, ← eS, ← eP] at h5
    refine h5.trans (congrArg some ?_)
    have e1 : ∀ j, updV (vp_V fs) 0 (.ref a) j = vp_V (fs.set 0 (.ref a)) j := fun j => vp_updV_set (by omega) _ j
    have e2 : ∀ j, updV (vp_V (fs.set 0 (.ref a))) 1 u0.v j = vp_V ((fs.set 0 (.ref a)).set 1 u0.v) j := fun j => vp_updV_set (by simp; omega) _ j
    have e3 : ∀ j, updV (vp_V ((fs.set 0 (.ref a)).set 1 u0.v)) 2 sen.v j = vp_V (((fs.set 0 (.ref a)).set 1 u0.v).set 2 sen.v) j := fun j => vp_updV_set (by simp; omega) _ j
    have e4 : ∀ j, updV (vp_V (((fs.set 0 (.ref a)).set 1 u0.v).set 2 sen.v)) 1 u0.v j = vp_V ((((fs.set 0 (.ref a)).set 1 u0.v).set 2 sen.v).set 1 u0.v) j := fun j => vp_updV_set (by simp; omega) _ j
    rw [show updV (vp_V fs) 0 (.ref a) = vp_V (fs.set 0 (.ref a)) from funext e1, show updV (vp_V (fs.set 0 (.ref a))) 1 u0.v = vp_V ((fs.set 0 (.ref a)).set 1 u0.v) from funext e2, show updV (vp_V ((fs.set 0 (.ref a)).set 1 u0.v)) 2 sen.v = vp_V (((fs.set 0 (.ref a)).set 1 u0.v).set 2 sen.v) from funext e3]
    exact e4 j
  obtain ⟨t, a1, b1⟩ := kk u0.v sen.v (s.heap.setIfInBounds a ce) _ u0.ok sen.ok ⟨HW.set g1 hk0 (g2.set g3 hk0 hat oq) (g3.set hk0), hm _⟩
    ⟨by simp, fun q _ hA => oq q (fun z => hA (by rw [z]; exact hza)), fun x hx => by
      simp only [List.nil_append, List.mem_cons, List.not_mem_nil, or_false] at hx
      rcases hx with rfl | rfl | rfl | rfl <;> exact hza⟩ _ hH1 X₂
  refine ⟨t, st1 _ (fun acts => ?_), b1⟩
  rw [doInvoke_state]
  exact st2 _ a1
