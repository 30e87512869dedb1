/-! METHODS THAT MAY THROW: contracts MX, the judgement JX (an exception on its way), rows -/
set_option maxRecDepth 100000
def XQ (G : GT) (PX : Addr → String → AH → Prop) : Addr → String → State → State → Prop := fun q E st t => (∃ h' : AH, PX q E h' ∧ GW G t ∧ HG G h' t.heap) ∧ va_F (fun q => G.1 ≤ q) st t
def MX (G : GT) (l : Launch) (y : MethodName) (cc : ByteArray) (nL : Nat) (ret : Option FieldType) (fr lo mc ms : Nat) (av : List Value) (h : AH) (Post : Option Value → AH → Prop) (PX : Addr → String → AH → Prop) : Prop :=
  vx_Met l y (ws_ y cc nL ret) ({ frames := fr, cells := mc, slots := ms, locals := lo }) (SP G av h) (SQ G Post) (XQ G PX) mc ms (fun q => G.1 ≤ q)
/-- a method with a table of handlers: one that throws, one that doesn't -/
def MXW (G : GT) (l : Launch) (y : MethodName) (cc : ByteArray) (nL : Nat) (ret : Option FieldType) (hh : List (Nat × Nat × Nat × Nat)) (fr lo mc ms : Nat) (av : List Value) (h : AH) (Post : Option Value → AH → Prop) (PX : Addr → String → AH → Prop) : Prop :=
  vx_Met l y (wsW_ y cc nL ret hh) ({ frames := fr, cells := mc, slots := ms, locals := lo }) (SP G av h) (SQ G Post) (XQ G PX) mc ms (fun q => G.1 ≤ q)
section JXS
variable {G : GT} {p : Program} {l : Launch} {e : Env} {R : Room} {s : State} {m : MethodId} {args : Array Value} {below : List Frame} {meth : Method} {c : Code} {nL : Nat} {Q : State → Prop} {bc bs : Nat} {h : AH} {pc : Nat} {L : List (Nat × Value)} {rest : List Value} {cc : ByteArray} {own : String} {ret : Option FieldType}
def JX (G : GT) (p : Program) (l : Launch) (e : Env) (R : Room) (s : State) (m : MethodId) (args : Array Value) (below : List Frame) (meth : Method) (c : Code) (nL : Nat) (Q : State → Prop) (bc bs : Nat) (h : AH) (pc : Nat) (L : List (Nat × Value)) (E : String) (q : Addr) : Prop :=
  ∀ (H : Heap) (locs : List Loc) (ls : Array Slot) (cells slots : Nat) (rest : List Value) (ce : Cell), HG G h H → va_S (fun q => G.1 ≤ q) s.heap H locs → lv_has ls nL L → cells + bc ≤ R.cells → slots + bs ≤ R.slots → H[q]? = some ce → ce.vm = .none → s.vm.findClass E = some ce.cls → vx_W p l e R s m args below meth c H locs cells slots Q (F0 m pc ls rest) q
theorem MX.mk {y : MethodName} {fr lo mc ms : Nat} {av : List Value} {Post : Option Value → AH → Prop} {PX : Addr → String → AH → Prop} (hy : plainName y.cls = true) (hown : y.cls = own) (hG : GOK G) (hav : (lg_sl av).length ≤ nL)
    (body : ∀ (p : Program) (e : Env) (s : State) (m : MethodId) (below : List Frame) (meth : Method) (c : Code) (args : Array Value) (Q : State → Prop), args = av.toArray → Q = vx_MQ below (SQ G Post) (XQ G PX) args s mc ms (fun q => G.1 ≤ q) → Cx G p s m args meth c cc own nL ret → meth.name = y.name → (∀ x ∈ c.exceptionTable.toList, False) → J G p l e ({ frames := fr, cells := mc, slots := ms, locals := lo }) s m args below meth c nL Q mc ms h 0 (lv_args 0 av) []) : MX G l y cc nL ret fr lo mc ms av h Post PX := by
  refine vx_ofW (cc := cc) (maxL := nL) (ret := ret) hy rfl ?_
  intro p e s m args below meth c s₁ B hml htab hv
  obtain ⟨rfl, hGW, hHW⟩ := hv
  have hts := atoms_spec (ws := ws_ y cc nL ret) B.pre
  have hts : ∀ w ∈ lw_all, w.before _ s = true := fun w h => hts w (List.mem_cons_of_mem _ h)
  have hown2 : s.vm.findClass own = some m.cls := hown ▸ findClass_of_methodNamed B.named
  have hl := lv_entry av (n := nL) hav
  rw [lg_entry_eq]
  exact body p e s m below meth c _ _ rfl rfl ⟨B.exec, B.bytes, hml, hown2, hts, hGW, hG, B.returns, B.notSynchronized⟩ (name_of_methodNamed B.named B.method).1 htab s.heap [] _ 0 0 hHW va_S.rf hl (by simp) (by simp)
theorem MXW.mk {y : MethodName} {fr lo mc ms : Nat} {av : List Value} {Post : Option Value → AH → Prop} {PX : Addr → String → AH → Prop} {hh : List (Nat × Nat × Nat × Nat)} (hy : plainName y.cls = true) (hown : y.cls = own) (hG : GOK G) (hav : (lg_sl av).length ≤ nL)
    (body : ∀ (p : Program) (e : Env) (s : State) (m : MethodId) (below : List Frame) (meth : Method) (c : Code) (args : Array Value) (Q : State → Prop), args = av.toArray → Q = vx_MQ below (SQ G Post) (XQ G PX) args s mc ms (fun q => G.1 ≤ q) → Cx G p s m args meth c cc own nL ret → meth.name = y.name → c.exceptionTable.toList = tableOf hh → J G p l e ({ frames := fr, cells := mc, slots := ms, locals := lo }) s m args below meth c nL Q mc ms h 0 (lv_args 0 av) []) : MXW G l y cc nL ret hh fr lo mc ms av h Post PX := by
  refine vx_ofWH (cc := cc) (maxL := nL) (ret := ret) (hh := hh) hy rfl ?_
  intro p e s m args below meth c s₁ B hml hv
  obtain ⟨rfl, hGW, hHW⟩ := hv
  have hts := atoms_spec (ws := wsW_ y cc nL ret hh) B.pre
  have htab := vx_table (x := y) B (hts _ List.mem_cons_self)
  have hts : ∀ w ∈ lw_all, w.before _ s = true := fun w h => hts w (List.mem_cons_of_mem _ h)
  have hown2 : s.vm.findClass own = some m.cls := hown ▸ findClass_of_methodNamed B.named
  have hl := lv_entry av (n := nL) hav
  rw [lg_entry_eq]
  exact body p e s m below meth c _ _ rfl rfl ⟨B.exec, B.bytes, hml, hown2, hts, hGW, hG, B.returns, B.notSynchronized⟩ (name_of_methodNamed B.named B.method).1 htab s.heap [] _ 0 0 hHW va_S.rf hl (by simp) (by simp)
theorem jx_iret {Post : Option Value → AH → Prop} {PX : Addr → String → AH → Prop} {L : List (Nat × Value)} {ty : FieldType} {v : Int32} (hn : narrow ty (.int v) = .int v) (C : Cx G p s m args meth c cc own nL (some ty)) (hp : Post (some (.int v)) h) (hdg : decode cc pc = .ok (.ireturn, 1)) : J G p l e R s m args below meth c nL (vx_MQ below (SQ G Post) (XQ G PX) args s R.cells R.slots (fun q => G.1 ≤ q)) bc bs h pc L [.int v] := by
  intro H locs ls cells slots hH hS hl b1 b2
  refine W.widen (k := R.cells) (n := R.slots) (by omega) (by omega) (vx_ret ?_)
  exact W.zret C.1 C.2.1 C.2.2.2.2.2.2.2.1 hn (fun t ht hW => ⟨⟨_, h, rfl, hp, C.gw hS ht hW, by rw [ht]; exact hH⟩, hS.F ht⟩) hS.2.2 hdg C.2.2.2.2.2.2.2.2
theorem jx_vret {Post : Option Value → AH → Prop} {PX : Addr → String → AH → Prop} {L : List (Nat × Value)} (C : Cx G p s m args meth c cc own nL none) (hp : Post none h) (hdg : decode cc pc = .ok (.return_, 1)) : J G p l e R s m args below meth c nL (vx_MQ below (SQ G Post) (XQ G PX) args s R.cells R.slots (fun q => G.1 ≤ q)) bc bs h pc L [] := by
  intro H locs ls cells slots hH hS hl b1 b2
  refine W.widen (k := R.cells) (n := R.slots) (by omega) (by omega) (vx_ret ?_)
  exact W.vret C.1 C.2.1 C.2.2.2.2.2.2.2.1 (fun t ht hW => ⟨⟨_, h, rfl, hp, C.gw hS ht hW, by rw [ht]; exact hH⟩, hS.F ht⟩) hS.2.2 hdg C.2.2.2.2.2.2.2.2
theorem jx_dret {Post : Option Value → AH → Prop} {PX : Addr → String → AH → Prop} {L : List (Nat × Value)} {v : UInt64} (C : Cx G p s m args meth c cc own nL (some .double)) (hp : Post (some (.double v)) h) (hdg : decode cc pc = .ok (.dreturn, 1)) : J G p l e R s m args below meth c nL (vx_MQ below (SQ G Post) (XQ G PX) args s R.cells R.slots (fun q => G.1 ≤ q)) bc bs h pc L [.double v] := by
  intro H locs ls cells slots hH hS hl b1 b2
  refine W.widen (k := R.cells) (n := R.slots) (by omega) (by omega) (vx_ret ?_)
  exact W.dret C.1 C.2.1 C.2.2.2.2.2.2.2.1 (fun t ht hW => ⟨⟨_, h, rfl, hp, C.gw hS ht hW, by rw [ht]; exact hH⟩, hS.F ht⟩) hS.2.2 hdg C.2.2.2.2.2.2.2.2
theorem jx_fret {Post : Option Value → AH → Prop} {PX : Addr → String → AH → Prop} {L : List (Nat × Value)} {v : UInt32} (C : Cx G p s m args meth c cc own nL (some .float)) (hp : Post (some (.float v)) h) (hdg : decode cc pc = .ok (.freturn, 1)) : J G p l e R s m args below meth c nL (vx_MQ below (SQ G Post) (XQ G PX) args s R.cells R.slots (fun q => G.1 ≤ q)) bc bs h pc L [.float v] := by
  intro H locs ls cells slots hH hS hl b1 b2
  refine W.widen (k := R.cells) (n := R.slots) (by omega) (by omega) (vx_ret ?_)
  exact W.fret C.1 C.2.1 C.2.2.2.2.2.2.2.1 (fun t ht hW => ⟨⟨_, h, rfl, hp, C.gw hS ht hW, by rw [ht]; exact hH⟩, hS.F ht⟩) hS.2.2 hdg C.2.2.2.2.2.2.2.2
theorem jx_aret {Post : Option Value → AH → Prop} {PX : Addr → String → AH → Prop} {L : List (Nat × Value)} {v : Value} {rt : FieldType} (hrt : (∃ n, rt = .object n) ∨ ∃ t, rt = .array t) (hv : v = .null ∨ ∃ a, v = .ref a) (C : Cx G p s m args meth c cc own nL (some rt)) (hp : Post (some (v)) h) (hdg : decode cc pc = .ok (.areturn, 1)) : J G p l e R s m args below meth c nL (vx_MQ below (SQ G Post) (XQ G PX) args s R.cells R.slots (fun q => G.1 ≤ q)) bc bs h pc L [v] := by
  intro H locs ls cells slots hH hS hl b1 b2
  refine W.widen (k := R.cells) (n := R.slots) (by omega) (by omega) (vx_ret ?_)
  exact W.aret C.1 C.2.1 C.2.2.2.2.2.2.2.1 hrt hv (fun t ht hW => ⟨⟨_, h, rfl, hp, C.gw hS ht hW, by rw [ht]; exact hH⟩, hS.F ht⟩) hS.2.2 hdg C.2.2.2.2.2.2.2.2
/-- nobody here catches it -/
theorem jx_out {Post : Option Value → AH → Prop} {PX : Addr → String → AH → Prop} {E : String} {q : Addr} (C : Cx G p s m args meth c cc own nL ret) (hno : ∀ x ∈ c.exceptionTable.toList, covers x pc = false) (hp : PX q E h) : JX G p l e R s m args below meth c nL (vx_MQ below (SQ G Post) (XQ G PX) args s R.cells R.slots (fun q => G.1 ≤ q)) bc bs h pc L E q := by
  intro H locs ls cells slots rest ce hH hS hl b1 b2 g1 g2 g3
  exact vx_out hno C.2.2.2.2.2.2.2.2 g1 g2 g3 (fun t ht hW => ⟨⟨h, hp, C.gw hS ht hW, by rw [ht]; exact hH⟩, hS.F ht⟩) hS.2.2 (by omega) (by omega)
/-- none of this method's handlers is for it -/
theorem jx_outP {Post : Option Value → AH → Prop} {PX : Addr → String → AH → Prop} {E : String} {q : Addr} (C : Cx G p s m args meth c cc own nL ret) (hpass : ∀ z ∈ c.exceptionTable.toList, covers z pc = false ∨ (z.catchType ≠ 0 ∧ ∃ nm : String, Cond.classLink own z.catchType nm ∈ lw_all ∧ va_Nc E nm s)) (hp : PX q E h) : JX G p l e R s m args below meth c nL (vx_MQ below (SQ G Post) (XQ G PX) args s R.cells R.slots (fun q => G.1 ≤ q)) bc bs h pc L E q := by
  intro H locs ls cells slots rest ce hH hS hl b1 b2 g1 g2 g3
  refine vx_outP C.2.2.2.1 C.2.2.2.2.2.2.2.2 (fun z hz => ?_) g1 g2 g3 (fun t ht hW => ⟨⟨h, hp, C.gw hS ht hW, by rw [ht]; exact hH⟩, hS.F ht⟩) hS.2.2 (by omega) (by omega)
  rcases hpass z hz with a | ⟨a, nm, b, d⟩
  · exact Or.inl a
  · exact Or.inr ⟨a, nm, C.2.2.2.2.1 _ b, d⟩
/-- a handler of this method takes it -/
theorem jx_catch {E name : String} {q : Addr} (C : Cx G p s m args meth c cc own nL ret) {hh : List (Nat × Nat × Nat × Nat)} (htab : c.exceptionTable.toList = tableOf hh) (pre : List ExceptionTableEntry) (x : ExceptionTableEntry) (suf : List ExceptionTableEntry) (hsplit : tableOf hh = pre ++ x :: suf)
    (hpass : ∀ z ∈ pre, covers z pc = false ∨ (z.catchType ≠ 0 ∧ ∃ nm : String, Cond.classLink own z.catchType nm ∈ lw_all ∧ va_Nc E nm s)) (hx : covers x pc = true) (h0 : x.catchType ≠ 0) (hlink : Cond.classLink own x.catchType name ∈ lw_all) (hcast : va_Nw (.castable E name) s)
    (k : J G p l e R s m args below meth c nL Q bc bs h x.handlerPc L [.ref q]) : JX G p l e R s m args below meth c nL Q bc bs h pc L E q := by
  intro H locs ls cells slots rest ce hH hS hl b1 b2 g1 g2 g3
  refine vx_catch C.2.2.2.1 pre x suf (htab.trans hsplit) (fun z hz => ?_) hx h0 (C.2.2.2.2.1 _ hlink) (hcast.use rfl) g1 g2 g3 (k H locs ls cells slots hH hS hl b1 b2)
  rcases hpass z hz with a | ⟨a, nm, b, d⟩
  · exact Or.inl a
  · exact Or.inr ⟨a, nm, C.2.2.2.2.1 _ b, d⟩
theorem jx_athrow {ci : Nat} {fs : List Value} {E : String} {T : u_T} {N : Nat} {q : Addr} (C : Cx G p s m args meth c cc own nL ret) (hq : h q = some (.inr (ci, fs))) (hc : vwCl[ci]? = some (E, T, N)) (hdg : decode cc pc = .ok (.athrow, 1)) (k : JX G p l e R s m args below meth c nL Q bc bs h pc L E q) : J G p l e R s m args below meth c nL Q bc bs h pc L (.ref q :: rest) := by
  intro H locs ls cells slots hH hS hl b1 b2
  obtain ⟨ws, h1, h2, h3⟩ := id hH.1
  obtain ⟨k0, hk⟩ := h1 q _ hq
  obtain ⟨r, g1, cell, g2, g3, g4, g5⟩ := h2 k0 _ hk
  cases Option.some.inj (g1.symm.trans hc)
  refine vx_athrow C.1 C.2.1 hdg (k H locs ls cells slots rest cell hH hS hl b1 b2 g2 g4 ?_)
  rw [g3]
  exact (C.2.2.2.2.2.1.1.1 ci _ hc).2.1
theorem jx_run {st : List Value} {mc ms : Nat} {Post : Option Value → AH → Prop} {PX : Addr → String → AH → Prop} {a : Array Value} (C : Cx G p s m args meth c cc own nL ret) (hmc : mc ≤ bc) (hms : ms ≤ bs)
    (hr : ∀ (H : Heap) (locs : List Loc) (ls : Array Slot) (cells slots : Nat), HG G h H → va_S (fun q => G.1 ≤ q) s.heap H locs → ls.size = nL → cells + mc ≤ R.cells ∧ slots + ms ≤ R.slots → vx_Run p l e R s m args below meth c H locs cells slots mc ms (F0 m pc ls st) rest (SQ G Post a) (XQ G PX) (fun q => G.1 ≤ q))
    (kx : ∀ (q : Addr) (E : String) (h' : AH), PX q E h' → JX G p l e R s m args below meth c nL Q (bc - mc) (bs - ms) h' pc L E q)
    (kk : ∀ (v : Option Value) (h' : AH), Post v h' → J G p l e R s m args below meth c nL Q (bc - mc) (bs - ms) h' (pc + 3) L (v.toList ++ rest)) : J G p l e R s m args below meth c nL Q bc bs h pc L st := by
  intro H locs ls cells slots hH hS hl b1 b2 T hT X
  rcases hr H locs ls cells slots hH hS hl.1 ⟨by omega, by omega⟩ T hT X with ⟨v, st₀, t, T', L1, h0, X', hL, e1, e2, ⟨⟨v', h', hv, hp, hg, hw⟩, hF⟩, st1⟩ | ⟨q, st₀, t, T', L1, E, ce, h0, X', hL, e1, e2, ⟨⟨h', hp, hg, hw⟩, hF⟩, hce, hcv, hcl, st1⟩
  · cases hv
    obtain ⟨k1, k2, k3⟩ := vx_keep h0 e1 hS (fun _ _ z => z) (fun _ z => z) hL hF
    obtain ⟨t2, a1, b3⟩ := kk v h' hp T'.heap (locs ++ L1) ls (cells + mc) (slots + ms) (by rw [e1]; exact hw) k3 hl (by omega) (by omega) T' rfl X'
    exact ⟨t2, st1 t2 a1, b3⟩
  · obtain ⟨k1, k2, k3⟩ := vx_keep h0 e1 hS (fun _ _ z => z) (fun _ z => z) hL hF
    obtain ⟨t2, a1, b3⟩ := kx q E h' hp T'.heap (locs ++ L1) ls (cells + mc) (slots + ms) rest ce (by rw [e1]; exact hw) k3 hl (by omega) (by omega) (by rw [e1]; exact hce) hcv hcl T' rfl X'
    exact ⟨t2, st1.trans a1, b3⟩
theorem jx_callV (C : Cx G p s m args meth c cc own nL ret) {y : MethodName} {cc' : ByteArray} {nL' : Nat} {ret' : Option FieldType} {fr lo mc ms n index : Nat} {As st : List Value} {Post : Option Value → AH → Prop} {PX : Addr → String → AH → Prop} {b ci : Nat} {Cn : String} {fs : List Value} {T : u_T} {N : Nat} (hM : MX G l y cc' nL' ret' fr lo mc ms (.ref b :: As) h Post PX) (hq : Cond.methodLink own index y ∈ lw_all) (hy : CalV y Cn cc' nL' ret' n) (hrecv : h b = some (.inr (ci, fs))) (hci : vwCl[ci]? = some (Cn, T, N)) (hn : As.length = n) (hst : st = As.reverse ++ .ref b :: rest) (hcat : (rest.map fun v => v.category).sum ≤ 8) (hR : fr + 1 ≤ R.frames ∧ 8 + (nL' + 11) + lo ≤ R.locals) (hmc : mc ≤ bc) (hms : ms ≤ bs) (hdg : decode cc pc = .ok (.invokevirtual index, 3)) (kx : ∀ (q : Addr) (E : String) (h' : AH), PX q E h' → JX G p l e R s m args below meth c nL Q (bc - mc) (bs - ms) h' pc L E q) (kk : ∀ (v : Option Value) (h' : AH), Post v h' → J G p l e R s m args below meth c nL Q (bc - mc) (bs - ms) h' (pc + 3) L (v.toList ++ rest)) : J G p l e R s m args below meth c nL Q bc bs h pc L st := by
  refine jx_run (a := (Value.ref b :: As).toArray) C hmc hms (fun H locs ls cells slots hH hS hsz hf => ?_) kx kk
  obtain ⟨ws, h1, h2, h3⟩ := id hH.1
  obtain ⟨q0, hq0⟩ := h1 b _ hrecv
  exact vx_runV ⟨C.1, C.2.1, C.2.2.1, C.2.2.2.1, C.2.2.2.2.1⟩ hM (cwV n C.2.2.2.2.1 (lw_V hq hy.1 hy.2.1 hy.2.2.1 hy.2.2.2.1) rfl rfl rfl hy.2.2.2.2 hR) ⟨SP.blind C.2.2.2.2.2.2.1, va_recv C.2.2.2.2.2.1.1 h2 hci hq0, fun U hU hW => ⟨rfl, C.gw hS hU hW, by rw [hU]; exact hH⟩⟩ rfl hn hsz hst (lv_room hcat) hdg hf
theorem jx_callS (C : Cx G p s m args meth c cc own nL ret) {y : MethodName} {cc' : ByteArray} {nL' : Nat} {ret' : Option FieldType} {fr lo mc ms n index : Nat} {As st : List Value} {Post : Option Value → AH → Prop} {PX : Addr → String → AH → Prop} (hM : MX G l y cc' nL' ret' fr lo mc ms As h Post PX) (hq : Cond.methodLink own index y ∈ lw_all) (hy : CalS y cc' nL' ret' n) (hn : As.length = n) (hst : st = As.reverse ++ rest) (hcat : (rest.map fun v => v.category).sum ≤ 8) (hR : fr + 1 ≤ R.frames ∧ 8 + (nL' + 11) + lo ≤ R.locals) (hmc : mc ≤ bc) (hms : ms ≤ bs) (hdg : decode cc pc = .ok (.invokestatic index, 3)) (kx : ∀ (q : Addr) (E : String) (h' : AH), PX q E h' → JX G p l e R s m args below meth c nL Q (bc - mc) (bs - ms) h' pc L E q) (kk : ∀ (v : Option Value) (h' : AH), Post v h' → J G p l e R s m args below meth c nL Q (bc - mc) (bs - ms) h' (pc + 3) L (v.toList ++ rest)) : J G p l e R s m args below meth c nL Q bc bs h pc L st := by
  refine jx_run (a := As.toArray) C hmc hms (fun H locs ls cells slots hH hS hsz hf => ?_) kx kk
  exact vx_runS ⟨C.1, C.2.1, C.2.2.1, C.2.2.2.1, C.2.2.2.2.1⟩ hM (va_cwS n C.2.2.2.2.1 (lw_S hq hy.1 hy.2.1 hy.2.2.1) rfl rfl rfl hy.2.2.2 hR) ⟨SP.blind C.2.2.2.2.2.2.1, fun U hU hW => ⟨rfl, C.gw hS hU hW, by rw [hU]; exact hH⟩⟩ rfl hn hsz hst (lv_room hcat) hdg hf
/-- a private static of a nest mate -/
theorem jx_callSN (C : Cx G p s m args meth c cc own nL ret) {y : MethodName} {cc' : ByteArray} {nL' : Nat} {ret' : Option FieldType} {fr lo mc ms n index : Nat} {As st : List Value} {Post : Option Value → AH → Prop} {PX : Addr → String → AH → Prop} {host : String} (hM : MX G l y cc' nL' ret' fr lo mc ms As h Post PX) (hq : va_Nw (.methodLinkNest own index y host) s) (hy : CalS y cc' nL' ret' n) (hn : As.length = n) (hst : st = As.reverse ++ rest) (hcat : (rest.map fun v => v.category).sum ≤ 8) (hR : fr + 1 ≤ R.frames ∧ 8 + (nL' + 11) + lo ≤ R.locals) (hmc : mc ≤ bc) (hms : ms ≤ bs) (hdg : decode cc pc = .ok (.invokestatic index, 3)) (kx : ∀ (q : Addr) (E : String) (h' : AH), PX q E h' → JX G p l e R s m args below meth c nL Q (bc - mc) (bs - ms) h' pc L E q) (kk : ∀ (v : Option Value) (h' : AH), Post v h' → J G p l e R s m args below meth c nL Q (bc - mc) (bs - ms) h' (pc + 3) L (v.toList ++ rest)) : J G p l e R s m args below meth c nL Q bc bs h pc L st := by
  refine jx_run (a := As.toArray) C hmc hms (fun H locs ls cells slots hH hS hsz hf => ?_) kx kk
  exact vx_runSN ⟨C.1, C.2.1, C.2.2.1, C.2.2.2.1, C.2.2.2.2.1⟩ hM ⟨va_cnB n C.2.2.2.2.1 (lw_meth hy.2.2.1) rfl rfl rfl hq (C.2.2.2.2.1 _ hy.2.1) hy.2.2.2 hR, C.2.2.2.2.1 _ hy.1, trivial⟩ ⟨SP.blind C.2.2.2.2.2.2.1, fun U hU hW => ⟨rfl, C.gw hS hU hW, by rw [hU]; exact hH⟩⟩ rfl hn hsz hst (lv_room hcat) hdg hf
theorem j_callSN (C : Cx G p s m args meth c cc own nL ret) {y : MethodName} {cc' : ByteArray} {nL' : Nat} {ret' : Option FieldType} {fr lo mc ms n index : Nat} {As st : List Value} {Post : Option Value → AH → Prop} {host : String} (hM : MT G l y cc' nL' ret' fr lo mc ms As h Post) (hq : va_Nw (.methodLinkNest own index y host) s) (hy : CalS y cc' nL' ret' n) (hn : As.length = n) (hst : st = As.reverse ++ rest) (hcat : (rest.map fun v => v.category).sum ≤ 8) (hR : fr + 1 ≤ R.frames ∧ 8 + (nL' + 11) + lo ≤ R.locals) (hmc : mc ≤ bc) (hms : ms ≤ bs) (hdg : decode cc pc = .ok (.invokestatic index, 3)) (kk : ∀ (v : Option Value) (h' : AH), Post v h' → J G p l e R s m args below meth c nL Q (bc - mc) (bs - ms) h' (pc + 3) L (v.toList ++ rest)) : J G p l e R s m args below meth c nL Q bc bs h pc L st := by
  refine j_run (a := As.toArray) C hmc hms (fun H locs ls cells slots hH hS hsz hf => ?_) kk
  exact va_runSN ⟨C.1, C.2.1, C.2.2.1, C.2.2.2.1, C.2.2.2.2.1⟩ hM ⟨va_cnB n C.2.2.2.2.1 (lw_meth hy.2.2.1) rfl rfl rfl hq (C.2.2.2.2.1 _ hy.2.1) hy.2.2.2 hR, C.2.2.2.2.1 _ hy.1, trivial⟩ ⟨SP.blind C.2.2.2.2.2.2.1, fun U hU hW => ⟨rfl, C.gw hS hU hW, by rw [hU]; exact hH⟩⟩ rfl hn hsz hst (lv_room hcat) hdg hf
def CalVW (y : MethodName) (Cn : String) (cc : ByteArray) (nL : Nat) (ret : Option FieldType) (hh : List (Nat × Nat × Nat × Nat)) (n : Nat) : Prop := Cond.instanceMethod y ∈ lw_all ∧ Cond.selects Cn y y ∈ lw_all ∧ Cond.initialized Cn ∈ lw_all ∧ Cond.codeWith y cc nL ret hh ∈ lw_all ∧ (y.cls = Cn ∧ y.cls ≠ "java/lang/invoke/MethodHandle" ∧ y.cls ≠ "java/lang/invoke/VarHandle" ∧ (parseMethodDescriptor y.desc).map (fun d => d.parameters.length) = some n)
def CalSW (y : MethodName) (cc : ByteArray) (nL : Nat) (ret : Option FieldType) (hh : List (Nat × Nat × Nat × Nat)) (n : Nat) : Prop := Cond.static y ∈ lw_all ∧ Cond.initialized y.cls ∈ lw_all ∧ Cond.codeWith y cc nL ret hh ∈ lw_all ∧ (y.cls ≠ "java/lang/invoke/MethodHandle" ∧ y.cls ≠ "java/lang/invoke/VarHandle" ∧ (parseMethodDescriptor y.desc).map (fun d => d.parameters.length) = some n)
theorem jx_callVW (C : Cx G p s m args meth c cc own nL ret) {y : MethodName} {cc' : ByteArray} {nL' : Nat} {ret' : Option FieldType} {fr lo mc ms n index : Nat} {As st : List Value} {Post : Option Value → AH → Prop} {PX : Addr → String → AH → Prop} {b ci : Nat} {Cn : String} {fs : List Value} {T : u_T} {N : Nat} {hh : List (Nat × Nat × Nat × Nat)} (hM : MXW G l y cc' nL' ret' hh fr lo mc ms (.ref b :: As) h Post PX) (hq : Cond.methodLink own index y ∈ lw_all) (hy : CalVW y Cn cc' nL' ret' hh n) (hrecv : h b = some (.inr (ci, fs))) (hci : vwCl[ci]? = some (Cn, T, N)) (hn : As.length = n) (hst : st = As.reverse ++ .ref b :: rest) (hcat : (rest.map fun v => v.category).sum ≤ 8) (hR : fr + 1 ≤ R.frames ∧ 8 + (nL' + 11) + lo ≤ R.locals) (hmc : mc ≤ bc) (hms : ms ≤ bs) (hdg : decode cc pc = .ok (.invokevirtual index, 3)) (kx : ∀ (q : Addr) (E : String) (h' : AH), PX q E h' → JX G p l e R s m args below meth c nL Q (bc - mc) (bs - ms) h' pc L E q) (kk : ∀ (v : Option Value) (h' : AH), Post v h' → J G p l e R s m args below meth c nL Q (bc - mc) (bs - ms) h' (pc + 3) L (v.toList ++ rest)) : J G p l e R s m args below meth c nL Q bc bs h pc L st := by
  refine jx_run (a := (Value.ref b :: As).toArray) C hmc hms (fun H locs ls cells slots hH hS hsz hf => ?_) kx kk
  obtain ⟨ws, h1, h2, h3⟩ := id hH.1
  obtain ⟨q0, hq0⟩ := h1 b _ hrecv
  exact vx_runVX ⟨C.1, C.2.1, C.2.2.1, C.2.2.2.1, C.2.2.2.2.1⟩ hM (vx_cwVW n C.2.2.2.2.1 (lw_VW hq hy.1 hy.2.1 hy.2.2.1 hy.2.2.2.1) rfl rfl rfl hy.2.2.2.2 hR) ⟨SP.blind C.2.2.2.2.2.2.1, va_recv C.2.2.2.2.2.1.1 h2 hci hq0, fun U hU hW => ⟨rfl, C.gw hS hU hW, by rw [hU]; exact hH⟩⟩ rfl hn hsz hst (lv_room hcat) hdg hf
theorem jx_callSW (C : Cx G p s m args meth c cc own nL ret) {y : MethodName} {cc' : ByteArray} {nL' : Nat} {ret' : Option FieldType} {fr lo mc ms n index : Nat} {As st : List Value} {Post : Option Value → AH → Prop} {PX : Addr → String → AH → Prop} {hh : List (Nat × Nat × Nat × Nat)} (hM : MXW G l y cc' nL' ret' hh fr lo mc ms As h Post PX) (hq : Cond.methodLink own index y ∈ lw_all) (hy : CalSW y cc' nL' ret' hh n) (hn : As.length = n) (hst : st = As.reverse ++ rest) (hcat : (rest.map fun v => v.category).sum ≤ 8) (hR : fr + 1 ≤ R.frames ∧ 8 + (nL' + 11) + lo ≤ R.locals) (hmc : mc ≤ bc) (hms : ms ≤ bs) (hdg : decode cc pc = .ok (.invokestatic index, 3)) (kx : ∀ (q : Addr) (E : String) (h' : AH), PX q E h' → JX G p l e R s m args below meth c nL Q (bc - mc) (bs - ms) h' pc L E q) (kk : ∀ (v : Option Value) (h' : AH), Post v h' → J G p l e R s m args below meth c nL Q (bc - mc) (bs - ms) h' (pc + 3) L (v.toList ++ rest)) : J G p l e R s m args below meth c nL Q bc bs h pc L st := by
  refine jx_run (a := As.toArray) C hmc hms (fun H locs ls cells slots hH hS hsz hf => ?_) kx kk
  exact vx_runSX ⟨C.1, C.2.1, C.2.2.1, C.2.2.2.1, C.2.2.2.2.1⟩ hM (vx_cwSW n C.2.2.2.2.1 (lw_SW hq hy.1 hy.2.1 hy.2.2.1) rfl rfl rfl hy.2.2.2 hR) ⟨SP.blind C.2.2.2.2.2.2.1, fun U hU hW => ⟨rfl, C.gw hS hU hW, by rw [hU]; exact hH⟩⟩ rfl hn hsz hst (lv_room hcat) hdg hf
/-- a nest mate's field -/
theorem j_getN (C : Cx G p s m args meth c cc own nL ret) {a : Nat} {ref Cn host : String} {T : u_T} {N ci index : Nat} {fs : List Value} (ha : h a = some (.inr (ci, fs))) (hc : vwCl[ci]? = some (Cn, T, N)) (hin : ∀ w ∈ u_ws Cn T N, w ∈ lw_all) (k : Nat) (hk : k < N) (hlink : va_Nw (.fieldLinkNest own index ref (T k).2.1 (T k).2.2.1 host) s) (hsame : (T k).1 = ref) {v : Value} (hv : fs[k]? = some v) (hdg : decode cc pc = .ok (.getfield index, 3))
    (kk : J G p l e R s m args below meth c nL Q bc bs h (pc + 3) L (v :: rest)) : J G p l e R s m args below meth c nL Q bc bs h pc L (.ref a :: rest) := by
  intro H locs ls cells slots hH hS hl b1 b2
  obtain ⟨ws, h1, h2, h3⟩ := id hH.1
  obtain ⟨q0, hq⟩ := h1 a _ ha
  exact va_getN C.1 C.2.1 C.2.2.2.2.1 hin C.2.2.2.1 C.2.2.2.2.2.1.1 h2 q0 hq hc k hk (hlink.use rfl) (fun x hx => by rw [hsame] at hx; exact hx) hv hdg (kk H locs ls cells slots hH hS hl b1 b2)
theorem j_mmax (C : Cx G p s m args meth c cc own nL ret) {index : Nat} {x y : Int32} (hfr : 1 ≤ R.frames) (hlo : 30 ≤ R.locals) (hq : Cond.methodLink own index Lib.Math.max.name ∈ lw_all) (hcat : (rest.map fun v => v.category).sum ≤ 17) (hs : Cond.static Lib.Math.max.name ∈ lw_all) (hi : Cond.initialized "java/lang/Math" ∈ lw_all) (hcd : Cond.code Lib.Math.max.name Lib.Math.max.code 2 (some .int) ∈ lw_all) (hdg : decode cc pc = .ok (.invokestatic index, 3)) (kk : J G p l e R s m args below meth c nL Q bc bs h (pc + 3) L (.int (if x < y then y else x) :: rest)) : J G p l e R s m args below meth c nL Q bc bs h pc L (.int y :: .int x :: rest) := by
  intro H locs ls cells slots hH hS hl b1 b2
  exact va_mmax C.1 C.2.1 (by rw [C.2.2.1, hl.1]) C.2.2.2.1 (C.2.2.2.2.1 _ hq) (C.2.2.2.2.1 _ hs) (C.2.2.2.2.1 _ hi) (C.2.2.2.2.1 _ hcd) hfr (by omega) (by omega) (by omega) hdg (kk H locs ls cells slots hH hS hl b1 b2)
theorem j_mmin (C : Cx G p s m args meth c cc own nL ret) {index : Nat} {x y : Int32} (hfr : 1 ≤ R.frames) (hlo : 30 ≤ R.locals) (hq : Cond.methodLink own index Lib.Math.min.name ∈ lw_all) (hcat : (rest.map fun v => v.category).sum ≤ 17) (hs : Cond.static Lib.Math.min.name ∈ lw_all) (hi : Cond.initialized "java/lang/Math" ∈ lw_all) (hcd : Cond.code Lib.Math.min.name Lib.Math.min.code 2 (some .int) ∈ lw_all) (hdg : decode cc pc = .ok (.invokestatic index, 3)) (kk : J G p l e R s m args below meth c nL Q bc bs h (pc + 3) L (.int (if y < x then y else x) :: rest)) : J G p l e R s m args below meth c nL Q bc bs h pc L (.int y :: .int x :: rest) := by
  intro H locs ls cells slots hH hS hl b1 b2
  exact va_mmin C.1 C.2.1 (by rw [C.2.2.1, hl.1]) C.2.2.2.1 (C.2.2.2.2.1 _ hq) (C.2.2.2.2.1 _ hs) (C.2.2.2.2.1 _ hi) (C.2.2.2.2.1 _ hcd) hfr (by omega) (by omega) (by omega) hdg (kk H locs ls cells slots hH hS hl b1 b2)
end JXS
