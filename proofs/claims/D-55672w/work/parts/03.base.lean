/-! OWN BASE: the world as a partial function of addresses; the judgement J; a row an instruction -/
set_option maxRecDepth 100000
abbrev AH : Type := Nat → Option va_E
def hup (h : AH) (a : Nat) (e : va_E) : AH := fun b => if b = a then some e else h b
theorem hup_self {h : AH} {a : Nat} {e : va_E} : hup h a e a = some e := by simp [hup]
theorem hup_ne {h : AH} {a b : Nat} {e : va_E} (n : b ≠ a) : hup h a e b = h b := by simp [hup, n]
def tyl (dA : Nat → ClassId) : List (ClassId × FieldType) := [(dA 0, .int), (dA 1, .char), (dA 2, .byte), (dA 3, .boolean), (dA 4, .long), (dA 5, .double), (dA 6, .array .int), (dA 7, .object "java/lang/Object"), (dA 8, .object "MasterPrices$Kind")]
/-- the heap holds what h says, at addresses from z on -/
def HW (z : Nat) (D : va_G) (h : AH) (H : Heap) : Prop := ∃ ws : va_W, (∀ (a : Nat) (e : va_E), h a = some e → ∃ k : Nat, ws[k]? = some (a, e)) ∧ va_P D vwCl ws H ∧ va_D (fun q => z ≤ q) ws
theorem HW.weaken {z : Nat} {D : va_G} {h h' : AH} {H : Heap} (hh : HW z D h H) (hs : ∀ (a : Nat) (e : va_E), h' a = some e → h a = some e) : HW z D h' H := by
  obtain ⟨ws, h1, h2, h3⟩ := hh
  exact ⟨ws, fun a e q => h1 a e (hs a e q), h2, h3⟩
theorem HW.lists_set {h : AH} {ws : va_W} {A : Nat → Prop} {k a : Nat} {e e' : va_E} (h1 : ∀ (a : Nat) (e : va_E), h a = some e → ∃ k : Nat, ws[k]? = some (a, e)) (hk : ws[k]? = some (a, e)) : ∀ (b : Nat) (eb : va_E), hup h a e' b = some eb → ∃ k' : Nat, (ws.set k (a, e'))[k']? = some (b, eb) := by
  intro b eb hb
  have hl := (List.getElem?_eq_some_iff.mp hk).1
  by_cases hba : b = a
  · subst hba
    rw [hup_self] at hb
    cases hb
    exact ⟨k, List.getElem?_set_self hl⟩
  · rw [hup_ne hba] at hb
    obtain ⟨j, hj⟩ := h1 b eb hb
    refine ⟨j, ?_⟩
    rw [List.getElem?_set_ne]
    · exact hj
    · intro hkj
      subst hkj
      rw [hk] at hj
      cases hj
      exact hba rfl
theorem HW.set {z : Nat} {D : va_G} {h : AH} {ws : va_W} {H1 : Heap} {k a : Nat} {e e' : va_E} (h1 : ∀ (a : Nat) (e : va_E), h a = some e → ∃ k : Nat, ws[k]? = some (a, e)) (hk : ws[k]? = some (a, e)) (hP : va_P D vwCl (ws.set k (a, e')) H1) (hD : va_D (fun q => z ≤ q) (ws.set k (a, e'))) : HW z D (hup h a e') H1 :=
  ⟨_, HW.lists_set (A := fun _ => True) h1 hk, hP, hD⟩
theorem HW.push {z : Nat} {D : va_G} {h : AH} {ws : va_W} {H1 : Heap} {q : Nat} {e : va_E} (h1 : ∀ (a : Nat) (e : va_E), h a = some e → ∃ k : Nat, ws[k]? = some (a, e)) (hP : va_P D vwCl (ws ++ [(q, e)]) H1) (hD : va_D (fun q => z ≤ q) (ws ++ [(q, e)])) : HW z D (hup h q e) H1 ∧ h q = none ∧ z ≤ q := by
  refine ⟨⟨_, fun b eb hb => ?_, hP, hD⟩, ?_, ?_⟩
  · by_cases hba : b = q
    · subst hba
      rw [hup_self] at hb
      cases hb
      exact ⟨ws.length, by simp⟩
    · rw [hup_ne hba] at hb
      obtain ⟨j, hj⟩ := h1 b eb hb
      exact ⟨j, by rw [List.getElem?_append_left (List.getElem?_eq_some_iff.mp hj).1]; exact hj⟩
  · cases hq : h q with
    | none => rfl
    | some e0 =>
      obtain ⟨j, hj⟩ := h1 q e0 hq
      have hl := (List.getElem?_eq_some_iff.mp hj).1
      have := hD.1 j ws.length (q, e0) (q, e) (by rw [List.getElem?_append_left hl]; exact hj) (by simp) rfl
      omega
  · exact hD.2 ws.length (q, e) (by simp)
abbrev GT : Type := Nat × va_G × (Nat → ClassId) × (State → Prop) × (Heap → Prop)
def GW (G : GT) (U : State) : Prop := va_K G.2.1 vwCl (tyl G.2.2.1) U ∧ G.2.2.2.1 U ∧ G.1 ≤ U.heap.size
def GOK (G : GT) : Prop := ∀ u U : State, u.WarmedH U.vm → (∀ a : Nat, a < u.heap.size → ¬ G.1 ≤ a → U.heap[a]? = u.heap[a]?) → G.2.2.2.1 u → G.2.2.2.1 U
theorem GW.moved {G : GT} (hG : GOK G) {u U : State} (hvm : u.WarmedH U.vm) {H : Heap} {locs : List Loc} (hS : va_S (fun q => G.1 ≤ q) u.heap H locs) (hH : U.heap = H) (h : GW G u) : GW G U :=
  ⟨h.1.moved hvm.alike, hG u U hvm (fun a h1 h2 => by rw [hH]; exact hS.2.1 a h1 h2) h.2.1, by rw [hH]; exact Nat.le_trans h.2.2 hS.1⟩
theorem GW.calling {G : GT} (hG : GOK G) {U : State} {g : JFrame} {mk : MethodId} {a : Array Value} (h : GW G U) : GW G (U.calling g mk a) :=
  ⟨va_K.moved (u := U) (U := U.calling g mk a) (Vm.Alike.refl U.vm) h.1, hG U _ (State.WarmedH.refl U) (fun _ _ _ => rfl) h.2.1, h.2.2⟩
/-- the heap holds h, and what G says of all heaps (nothing, or which heap it is) -/
def HG (G : GT) (h : AH) (H : Heap) : Prop := HW G.1 G.2.1 h H ∧ G.2.2.2.2 H
def FreeG (G : GT) : Prop := ∀ H : Heap, G.2.2.2.2 H
/-- what is fixed through a method's body -/
def Cx (G : GT) (p : Program) (s : State) (m : MethodId) (args : Array Value) (meth : Method) (c : Code) (cc : ByteArray) (own : String) (nL : Nat) (ret : Option FieldType) : Prop :=
  p.tables.exec = Jvm.exec ∧ c.code = cc ∧ c.maxLocals = nL ∧ s.vm.findClass own = some m.cls ∧ (∀ w ∈ lw_all, w.before args s = true) ∧ GW G s ∧ GOK G ∧ meth.sig.returnType = ret ∧ meth.locks = false
def SP (G : GT) (av : List Value) (h : AH) : Array Value → State → Prop := va_Pc av (fun U => GW G U ∧ HG G h U.heap)
def SQ (G : GT) (Post : Option Value → AH → Prop) : Array Value → State → Outcome → State → Prop := fun _ st oc t => (∃ (v : Option Value) (h' : AH), oc = .returned v ∧ Post v h' ∧ GW G t ∧ HG G h' t.heap) ∧ va_F (fun q => G.1 ≤ q) st t
/-- a method's contract: from a world h, with these arguments, it returns, with Post -/
def MT (G : GT) (l : Launch) (y : MethodName) (cc : ByteArray) (nL : Nat) (ret : Option FieldType) (fr lo mc ms : Nat) (av : List Value) (h : AH) (Post : Option Value → AH → Prop) : Prop :=
  Met l y (ws_ y cc nL ret) ({ frames := fr, cells := mc, slots := ms, locals := lo }) (SP G av h) (SQ G Post) mc ms (fun q => G.1 ≤ q)
section JJ
variable {G : GT} {p : Program} {l : Launch} {e : Env} {R : Room} {s : State} {m : MethodId} {args : Array Value} {below : List Frame} {meth : Method} {c : Code} {nL : Nat} {Q : State → Prop} {bc bs : Nat} {h : AH} {pc : Nat} {L : List (Nat × Value)} {rest : List Value} {cc : ByteArray} {own : String} {ret : Option FieldType}
def J (G : GT) (p : Program) (l : Launch) (e : Env) (R : Room) (s : State) (m : MethodId) (args : Array Value) (below : List Frame) (meth : Method) (c : Code) (nL : Nat) (Q : State → Prop) (bc bs : Nat) (h : AH) (pc : Nat) (L : List (Nat × Value)) (st : List Value) : Prop :=
  ∀ (H : Heap) (locs : List Loc) (ls : Array Slot) (cells slots : Nat), HG G h H → va_S (fun q => G.1 ≤ q) s.heap H locs → lv_has ls nL L → cells + bc ≤ R.cells → slots + bs ≤ R.slots → W p l e R s m args below meth c H locs cells slots Q (F0 m pc ls st)
theorem MT.mk {y : MethodName} {fr lo mc ms : Nat} {av : List Value} {Post : Option Value → AH → Prop} (hy : plainName y.cls = true) (hown : y.cls = own) (hG : GOK G) (hav : (lg_sl av).length ≤ nL)
    (body : ∀ (p : Program) (e : Env) (s : State) (m : MethodId) (below : List Frame) (meth : Method) (c : Code), ∀ (args : Array Value) (Q : State → Prop), args = av.toArray → Q = MQ below (SQ G Post) args s mc ms (fun q => G.1 ≤ q) → Cx G p s m args meth c cc own nL ret → meth.name = y.name → J G p l e ({ frames := fr, cells := mc, slots := ms, locals := lo }) s m args below meth c nL Q mc ms h 0 (lv_args 0 av) []) : MT G l y cc nL ret fr lo mc ms av h Post := by
  refine Met.ofW (cc := cc) (maxL := nL) (ret := ret) hy rfl ?_
  intro p e s m args below meth c s₁ B hml hv
  obtain ⟨rfl, hGW, hHW⟩ := hv
  have hts := atoms_spec (ws := ws_ y cc nL ret) B.pre
  have hts : ∀ w ∈ lw_all, w.before _ s = true := fun w h => hts w (List.mem_cons_of_mem _ h)
  have hown2 : s.vm.findClass own = some m.cls := hown ▸ findClass_of_methodNamed B.named
  have hl := lv_entry av (n := nL) hav
  rw [lg_entry_eq]
  exact body p e s m below meth c _ _ rfl rfl ⟨B.exec, B.bytes, hml, hown2, hts, hGW, hG, B.returns, B.notSynchronized⟩ (name_of_methodNamed B.named B.method).1 s.heap [] _ 0 0 hHW va_S.rf hl (by simp) (by simp)
theorem J.weaken {st : List Value} {h' : AH} {bc' bs' : Nat} (k : J G p l e R s m args below meth c nL Q bc' bs' h' pc L st) (hs : ∀ (a : Nat) (e : va_E), h' a = some e → h a = some e) (h1 : bc' ≤ bc) (h2 : bs' ≤ bs) : J G p l e R s m args below meth c nL Q bc bs h pc L st :=
  fun H locs ls cells slots hH hS hl b1 b2 => k H locs ls cells slots ⟨hH.1.weaken hs, hH.2⟩ hS hl (by omega) (by omega)
theorem J.locals {st : List Value} {L' : List (Nat × Value)} (ks : List Nat) (k : J G p l e R s m args below meth c nL Q bc bs h pc L' st) (hl : lv_pick L ks = L') : J G p l e R s m args below meth c nL Q bc bs h pc L st :=
  fun H locs ls cells slots hH hS hl1 b1 b2 => k H locs ls cells slots hH hS (lv_sub hl1 ks hl) b1 b2
theorem J.heap {st : List Value} {h' : AH} (k : J G p l e R s m args below meth c nL Q bc bs h' pc L st) (hs : h = h') : J G p l e R s m args below meth c nL Q bc bs h pc L st := hs ▸ k
theorem J.stack {st st' : List Value} (k : J G p l e R s m args below meth c nL Q bc bs h pc L st') (hs : st = st') : J G p l e R s m args below meth c nL Q bc bs h pc L st := hs ▸ k

theorem j_iconst (C : Cx G p s m args meth c cc own nL ret) {n : Int} {v : Int32} (hdg : decode cc pc = .ok (.iconst n, 1)) (hv : Int32.ofInt n = v) (k : J G p l e R s m args below meth c nL Q bc bs h (pc + 1) L (.int v :: rest)) : J G p l e R s m args below meth c nL Q bc bs h pc L (rest) :=
  fun H locs ls cells slots hH hS hl b1 b2 => lv_iconst C.1 C.2.1 hdg hv (k H locs ls cells slots hH hS hl b1 b2)
theorem j_bipush (C : Cx G p s m args meth c cc own nL ret) {n : Int} {v : Int32} (hdg : decode cc pc = .ok (.bipush n, 2)) (hv : (Int8.ofInt n).toInt32 = v) (k : J G p l e R s m args below meth c nL Q bc bs h (pc + 2) L (.int v :: rest)) : J G p l e R s m args below meth c nL Q bc bs h pc L (rest) :=
  fun H locs ls cells slots hH hS hl b1 b2 => lv_bipush C.1 C.2.1 hdg hv (k H locs ls cells slots hH hS hl b1 b2)
theorem j_sipush (C : Cx G p s m args meth c cc own nL ret) {n : Int} {v : Int32} (hdg : decode cc pc = .ok (.sipush n, 3)) (hv : (Int16.ofInt n).toInt32 = v) (k : J G p l e R s m args below meth c nL Q bc bs h (pc + 3) L (.int v :: rest)) : J G p l e R s m args below meth c nL Q bc bs h pc L (rest) :=
  fun H locs ls cells slots hH hS hl b1 b2 => lv_sipush C.1 C.2.1 hdg hv (k H locs ls cells slots hH hS hl b1 b2)
theorem j_lconst (C : Cx G p s m args meth c cc own nL ret) {n : Fin 2} {v : Int64} (hdg : decode cc pc = .ok (.lconst n, 1)) (hv : Int64.ofNat (n : Nat) = v) (k : J G p l e R s m args below meth c nL Q bc bs h (pc + 1) L (.long v :: rest)) : J G p l e R s m args below meth c nL Q bc bs h pc L (rest) :=
  fun H locs ls cells slots hH hS hl b1 b2 => lv_lconst C.1 C.2.1 hdg hv (k H locs ls cells slots hH hS hl b1 b2)
theorem j_dconst0 (C : Cx G p s m args meth c cc own nL ret)  (hdg : decode cc pc = .ok (.dconst 0, 1))  (k : J G p l e R s m args below meth c nL Q bc bs h (pc + 1) L (.double FP.dconst0 :: rest)) : J G p l e R s m args below meth c nL Q bc bs h pc L (rest) :=
  fun H locs ls cells slots hH hS hl b1 b2 => lv_dconst0 C.1 C.2.1 hdg  (k H locs ls cells slots hH hS hl b1 b2)
theorem j_fconst0 (C : Cx G p s m args meth c cc own nL ret)  (hdg : decode cc pc = .ok (.fconst 0, 1))  (k : J G p l e R s m args below meth c nL Q bc bs h (pc + 1) L (.float FP.fconst0 :: rest)) : J G p l e R s m args below meth c nL Q bc bs h pc L (rest) :=
  fun H locs ls cells slots hH hS hl b1 b2 => lv_fconst0 C.1 C.2.1 hdg  (k H locs ls cells slots hH hS hl b1 b2)
theorem j_null (C : Cx G p s m args meth c cc own nL ret)  (hdg : decode cc pc = .ok (.aconst_null, 1))  (k : J G p l e R s m args below meth c nL Q bc bs h (pc + 1) L (.null :: rest)) : J G p l e R s m args below meth c nL Q bc bs h pc L (rest) :=
  fun H locs ls cells slots hH hS hl b1 b2 => lv_null C.1 C.2.1 hdg  (k H locs ls cells slots hH hS hl b1 b2)
theorem j_ldc (C : Cx G p s m args meth c cc own nL ret) {index : Nat} {v : Int32} (hdg : decode cc pc = .ok (.ldc index, 2)) (hc : Cond.constant own index v ∈ lw_all) (k : J G p l e R s m args below meth c nL Q bc bs h (pc + 2) L (.int v :: rest)) : J G p l e R s m args below meth c nL Q bc bs h pc L rest :=
  fun H locs ls cells slots hH hS hl b1 b2 => lv_ldc C.1 C.2.1 C.2.2.2.1 (C.2.2.2.2.1 _ hc) hdg (k H locs ls cells slots hH hS hl b1 b2)
theorem j_iload (C : Cx G p s m args meth c cc own nL ret) {i : Nat} {x : Int32} (hdg : decode cc pc = .ok (.iload i, 2)) (q : Nat) (hq : L[q]? = some (i, .int x)) (k : J G p l e R s m args below meth c nL Q bc bs h (pc + 2) L (.int x :: rest)) : J G p l e R s m args below meth c nL Q bc bs h pc L rest :=
  fun H locs ls cells slots hH hS hl b1 b2 => lv_iload C.1 C.2.1 hdg (lv_at hl q hq) (k H locs ls cells slots hH hS hl b1 b2)
theorem j_iload_n (C : Cx G p s m args meth c cc own nL ret) {kk : Fin 4} {i : Nat} {x : Int32} (hdg : decode cc pc = .ok (.iload_n kk, 1)) (hi : (kk : Nat) = i) (q : Nat) (hq : L[q]? = some (i, .int x)) (k : J G p l e R s m args below meth c nL Q bc bs h (pc + 1) L (.int x :: rest)) : J G p l e R s m args below meth c nL Q bc bs h pc L rest :=
  fun H locs ls cells slots hH hS hl b1 b2 => lv_iload_n C.1 C.2.1 hdg hi (lv_at hl q hq) (k H locs ls cells slots hH hS hl b1 b2)
theorem j_istore (C : Cx G p s m args meth c cc own nL ret) {i : Nat} {x : Int32} {L2 : List (Nat × Value)} (hdg : decode cc pc = .ok (.istore i, 2)) (hn : i < nL) (hl2 : (i, Value.int x) :: L.filter (fun q => !(q.1 == i) && !(q.1 + 1 == i && q.2.category == 2)) = L2) (k : J G p l e R s m args below meth c nL Q bc bs h (pc + 2) L2 rest) : J G p l e R s m args below meth c nL Q bc bs h pc L (.int x :: rest) :=
  fun H locs ls cells slots hH hS hl b1 b2 => lv_istore C.1 C.2.1 hdg hl hn hl2 (fun ls2 h2 => k H locs ls2 cells slots hH hS h2 b1 b2)
theorem j_istore_n (C : Cx G p s m args meth c cc own nL ret) {kk : Fin 4} {i : Nat} {x : Int32} {L2 : List (Nat × Value)} (hdg : decode cc pc = .ok (.istore_n kk, 1)) (hi : (kk : Nat) = i) (hn : i < nL) (hl2 : (i, Value.int x) :: L.filter (fun q => !(q.1 == i) && !(q.1 + 1 == i && q.2.category == 2)) = L2) (k : J G p l e R s m args below meth c nL Q bc bs h (pc + 1) L2 rest) : J G p l e R s m args below meth c nL Q bc bs h pc L (.int x :: rest) :=
  fun H locs ls cells slots hH hS hl b1 b2 => lv_istore_n C.1 C.2.1 hdg hi hl hn hl2 (fun ls2 h2 => k H locs ls2 cells slots hH hS h2 b1 b2)
theorem j_lload (C : Cx G p s m args meth c cc own nL ret) {i : Nat} {x : Int64} (hdg : decode cc pc = .ok (.lload i, 2)) (q : Nat) (hq : L[q]? = some (i, .long x)) (k : J G p l e R s m args below meth c nL Q bc bs h (pc + 2) L (.long x :: rest)) : J G p l e R s m args below meth c nL Q bc bs h pc L rest :=
  fun H locs ls cells slots hH hS hl b1 b2 => lv_lload C.1 C.2.1 hdg (lv_at hl q hq) (k H locs ls cells slots hH hS hl b1 b2)
theorem j_lload_n (C : Cx G p s m args meth c cc own nL ret) {kk : Fin 4} {i : Nat} {x : Int64} (hdg : decode cc pc = .ok (.lload_n kk, 1)) (hi : (kk : Nat) = i) (q : Nat) (hq : L[q]? = some (i, .long x)) (k : J G p l e R s m args below meth c nL Q bc bs h (pc + 1) L (.long x :: rest)) : J G p l e R s m args below meth c nL Q bc bs h pc L rest :=
  fun H locs ls cells slots hH hS hl b1 b2 => lv_lload_n C.1 C.2.1 hdg hi (lv_at hl q hq) (k H locs ls cells slots hH hS hl b1 b2)
theorem j_lstore (C : Cx G p s m args meth c cc own nL ret) {i : Nat} {x : Int64} {L2 : List (Nat × Value)} (hdg : decode cc pc = .ok (.lstore i, 2)) (hn : i + 1 < nL) (hl2 : (i, Value.long x) :: L.filter (fun q => !(q.1 == i) && (!(q.1 == i + 1) && !(q.1 + 1 == i && q.2.category == 2))) = L2) (k : J G p l e R s m args below meth c nL Q bc bs h (pc + 2) L2 rest) : J G p l e R s m args below meth c nL Q bc bs h pc L (.long x :: rest) :=
  fun H locs ls cells slots hH hS hl b1 b2 => lv_lstore C.1 C.2.1 hdg hl hn hl2 (fun ls2 h2 => k H locs ls2 cells slots hH hS h2 b1 b2)
theorem j_lstore_n (C : Cx G p s m args meth c cc own nL ret) {kk : Fin 4} {i : Nat} {x : Int64} {L2 : List (Nat × Value)} (hdg : decode cc pc = .ok (.lstore_n kk, 1)) (hi : (kk : Nat) = i) (hn : i + 1 < nL) (hl2 : (i, Value.long x) :: L.filter (fun q => !(q.1 == i) && (!(q.1 == i + 1) && !(q.1 + 1 == i && q.2.category == 2))) = L2) (k : J G p l e R s m args below meth c nL Q bc bs h (pc + 1) L2 rest) : J G p l e R s m args below meth c nL Q bc bs h pc L (.long x :: rest) :=
  fun H locs ls cells slots hH hS hl b1 b2 => lv_lstore_n C.1 C.2.1 hdg hi hl hn hl2 (fun ls2 h2 => k H locs ls2 cells slots hH hS h2 b1 b2)
theorem j_fload (C : Cx G p s m args meth c cc own nL ret) {i : Nat} {x : UInt32} (hdg : decode cc pc = .ok (.fload i, 2)) (q : Nat) (hq : L[q]? = some (i, .float x)) (k : J G p l e R s m args below meth c nL Q bc bs h (pc + 2) L (.float x :: rest)) : J G p l e R s m args below meth c nL Q bc bs h pc L rest :=
  fun H locs ls cells slots hH hS hl b1 b2 => lv_fload C.1 C.2.1 hdg (lv_at hl q hq) (k H locs ls cells slots hH hS hl b1 b2)
theorem j_fload_n (C : Cx G p s m args meth c cc own nL ret) {kk : Fin 4} {i : Nat} {x : UInt32} (hdg : decode cc pc = .ok (.fload_n kk, 1)) (hi : (kk : Nat) = i) (q : Nat) (hq : L[q]? = some (i, .float x)) (k : J G p l e R s m args below meth c nL Q bc bs h (pc + 1) L (.float x :: rest)) : J G p l e R s m args below meth c nL Q bc bs h pc L rest :=
  fun H locs ls cells slots hH hS hl b1 b2 => lv_fload_n C.1 C.2.1 hdg hi (lv_at hl q hq) (k H locs ls cells slots hH hS hl b1 b2)
theorem j_fstore (C : Cx G p s m args meth c cc own nL ret) {i : Nat} {x : UInt32} {L2 : List (Nat × Value)} (hdg : decode cc pc = .ok (.fstore i, 2)) (hn : i < nL) (hl2 : (i, Value.float x) :: L.filter (fun q => !(q.1 == i) && !(q.1 + 1 == i && q.2.category == 2)) = L2) (k : J G p l e R s m args below meth c nL Q bc bs h (pc + 2) L2 rest) : J G p l e R s m args below meth c nL Q bc bs h pc L (.float x :: rest) :=
  fun H locs ls cells slots hH hS hl b1 b2 => lv_fstore C.1 C.2.1 hdg hl hn hl2 (fun ls2 h2 => k H locs ls2 cells slots hH hS h2 b1 b2)
theorem j_dload (C : Cx G p s m args meth c cc own nL ret) {i : Nat} {x : UInt64} (hdg : decode cc pc = .ok (.dload i, 2)) (q : Nat) (hq : L[q]? = some (i, .double x)) (k : J G p l e R s m args below meth c nL Q bc bs h (pc + 2) L (.double x :: rest)) : J G p l e R s m args below meth c nL Q bc bs h pc L rest :=
  fun H locs ls cells slots hH hS hl b1 b2 => lv_dload C.1 C.2.1 hdg (lv_at hl q hq) (k H locs ls cells slots hH hS hl b1 b2)
theorem j_dload_n (C : Cx G p s m args meth c cc own nL ret) {kk : Fin 4} {i : Nat} {x : UInt64} (hdg : decode cc pc = .ok (.dload_n kk, 1)) (hi : (kk : Nat) = i) (q : Nat) (hq : L[q]? = some (i, .double x)) (k : J G p l e R s m args below meth c nL Q bc bs h (pc + 1) L (.double x :: rest)) : J G p l e R s m args below meth c nL Q bc bs h pc L rest :=
  fun H locs ls cells slots hH hS hl b1 b2 => lv_dload_n C.1 C.2.1 hdg hi (lv_at hl q hq) (k H locs ls cells slots hH hS hl b1 b2)
theorem j_dstore (C : Cx G p s m args meth c cc own nL ret) {i : Nat} {x : UInt64} {L2 : List (Nat × Value)} (hdg : decode cc pc = .ok (.dstore i, 2)) (hn : i + 1 < nL) (hl2 : (i, Value.double x) :: L.filter (fun q => !(q.1 == i) && (!(q.1 == i + 1) && !(q.1 + 1 == i && q.2.category == 2))) = L2) (k : J G p l e R s m args below meth c nL Q bc bs h (pc + 2) L2 rest) : J G p l e R s m args below meth c nL Q bc bs h pc L (.double x :: rest) :=
  fun H locs ls cells slots hH hS hl b1 b2 => lv_dstore C.1 C.2.1 hdg hl hn hl2 (fun ls2 h2 => k H locs ls2 cells slots hH hS h2 b1 b2)
theorem j_aload (C : Cx G p s m args meth c cc own nL ret) {i : Nat} {x : Nat} (hdg : decode cc pc = .ok (.aload i, 2)) (q : Nat) (hq : L[q]? = some (i, .ref x)) (k : J G p l e R s m args below meth c nL Q bc bs h (pc + 2) L (.ref x :: rest)) : J G p l e R s m args below meth c nL Q bc bs h pc L rest :=
  fun H locs ls cells slots hH hS hl b1 b2 => lv_aload C.1 C.2.1 hdg (lv_at hl q hq) (k H locs ls cells slots hH hS hl b1 b2)
theorem j_aload_n (C : Cx G p s m args meth c cc own nL ret) {kk : Fin 4} {i : Nat} {x : Nat} (hdg : decode cc pc = .ok (.aload_n kk, 1)) (hi : (kk : Nat) = i) (q : Nat) (hq : L[q]? = some (i, .ref x)) (k : J G p l e R s m args below meth c nL Q bc bs h (pc + 1) L (.ref x :: rest)) : J G p l e R s m args below meth c nL Q bc bs h pc L rest :=
  fun H locs ls cells slots hH hS hl b1 b2 => lv_aload_n C.1 C.2.1 hdg hi (lv_at hl q hq) (k H locs ls cells slots hH hS hl b1 b2)
theorem j_astore (C : Cx G p s m args meth c cc own nL ret) {i : Nat} {x : Nat} {L2 : List (Nat × Value)} (hdg : decode cc pc = .ok (.astore i, 2)) (hn : i < nL) (hl2 : (i, Value.ref x) :: L.filter (fun q => !(q.1 == i) && !(q.1 + 1 == i && q.2.category == 2)) = L2) (k : J G p l e R s m args below meth c nL Q bc bs h (pc + 2) L2 rest) : J G p l e R s m args below meth c nL Q bc bs h pc L (.ref x :: rest) :=
  fun H locs ls cells slots hH hS hl b1 b2 => lv_astore C.1 C.2.1 hdg hl hn hl2 (fun ls2 h2 => k H locs ls2 cells slots hH hS h2 b1 b2)
theorem j_astore_n (C : Cx G p s m args meth c cc own nL ret) {kk : Fin 4} {i : Nat} {x : Nat} {L2 : List (Nat × Value)} (hdg : decode cc pc = .ok (.astore_n kk, 1)) (hi : (kk : Nat) = i) (hn : i < nL) (hl2 : (i, Value.ref x) :: L.filter (fun q => !(q.1 == i) && !(q.1 + 1 == i && q.2.category == 2)) = L2) (k : J G p l e R s m args below meth c nL Q bc bs h (pc + 1) L2 rest) : J G p l e R s m args below meth c nL Q bc bs h pc L (.ref x :: rest) :=
  fun H locs ls cells slots hH hS hl b1 b2 => lv_astore_n C.1 C.2.1 hdg hi hl hn hl2 (fun ls2 h2 => k H locs ls2 cells slots hH hS h2 b1 b2)
theorem j_iinc (C : Cx G p s m args meth c cc own nL ret) {i q : Nat} {n : Int} {x v : Int32} {L2 : List (Nat × Value)} (hdg : decode cc pc = .ok (.iinc i n, 3)) (hq : L[q]? = some (i, .int x)) (hv : x + Int32.ofInt n = v) (hn : i < nL) (hl2 : (i, Value.int v) :: L.filter (fun q => !(q.1 == i) && !(q.1 + 1 == i && q.2.category == 2)) = L2) (k : J G p l e R s m args below meth c nL Q bc bs h (pc + 3) L2 rest) : J G p l e R s m args below meth c nL Q bc bs h pc L rest :=
  fun H locs ls cells slots hH hS hl b1 b2 => lv_iinc C.1 C.2.1 hdg hl hq hv hn hl2 (fun ls2 h2 => k H locs ls2 cells slots hH hS h2 b1 b2)
theorem j_iadd (C : Cx G p s m args meth c cc own nL ret) {x y : Int32} (hdg : decode cc pc = .ok (.iadd, 1))  (k : J G p l e R s m args below meth c nL Q bc bs h (pc + 1) L (.int (x + y) :: rest)) : J G p l e R s m args below meth c nL Q bc bs h pc L (.int y :: .int x :: rest) :=
  fun H locs ls cells slots hH hS hl b1 b2 => lv_iadd C.1 C.2.1 hdg  (k H locs ls cells slots hH hS hl b1 b2)
theorem j_isub (C : Cx G p s m args meth c cc own nL ret) {x y : Int32} (hdg : decode cc pc = .ok (.isub, 1))  (k : J G p l e R s m args below meth c nL Q bc bs h (pc + 1) L (.int (x - y) :: rest)) : J G p l e R s m args below meth c nL Q bc bs h pc L (.int y :: .int x :: rest) :=
  fun H locs ls cells slots hH hS hl b1 b2 => lv_isub C.1 C.2.1 hdg  (k H locs ls cells slots hH hS hl b1 b2)
theorem j_imul (C : Cx G p s m args meth c cc own nL ret) {x y : Int32} (hdg : decode cc pc = .ok (.imul, 1))  (k : J G p l e R s m args below meth c nL Q bc bs h (pc + 1) L (.int (x * y) :: rest)) : J G p l e R s m args below meth c nL Q bc bs h pc L (.int y :: .int x :: rest) :=
  fun H locs ls cells slots hH hS hl b1 b2 => lv_imul C.1 C.2.1 hdg  (k H locs ls cells slots hH hS hl b1 b2)
theorem j_iand (C : Cx G p s m args meth c cc own nL ret) {x y : Int32} (hdg : decode cc pc = .ok (.iand, 1))  (k : J G p l e R s m args below meth c nL Q bc bs h (pc + 1) L (.int (x &&& y) :: rest)) : J G p l e R s m args below meth c nL Q bc bs h pc L (.int y :: .int x :: rest) :=
  fun H locs ls cells slots hH hS hl b1 b2 => lv_iand C.1 C.2.1 hdg  (k H locs ls cells slots hH hS hl b1 b2)
theorem j_ior (C : Cx G p s m args meth c cc own nL ret) {x y : Int32} (hdg : decode cc pc = .ok (.ior, 1))  (k : J G p l e R s m args below meth c nL Q bc bs h (pc + 1) L (.int (x ||| y) :: rest)) : J G p l e R s m args below meth c nL Q bc bs h pc L (.int y :: .int x :: rest) :=
  fun H locs ls cells slots hH hS hl b1 b2 => lv_ior C.1 C.2.1 hdg  (k H locs ls cells slots hH hS hl b1 b2)
theorem j_ixor (C : Cx G p s m args meth c cc own nL ret) {x y : Int32} (hdg : decode cc pc = .ok (.ixor, 1))  (k : J G p l e R s m args below meth c nL Q bc bs h (pc + 1) L (.int (x ^^^ y) :: rest)) : J G p l e R s m args below meth c nL Q bc bs h pc L (.int y :: .int x :: rest) :=
  fun H locs ls cells slots hH hS hl b1 b2 => lv_ixor C.1 C.2.1 hdg  (k H locs ls cells slots hH hS hl b1 b2)
theorem j_ishl (C : Cx G p s m args meth c cc own nL ret) {x y : Int32} (hdg : decode cc pc = .ok (.ishl, 1))  (k : J G p l e R s m args below meth c nL Q bc bs h (pc + 1) L (.int (x <<< (y &&& 31)) :: rest)) : J G p l e R s m args below meth c nL Q bc bs h pc L (.int y :: .int x :: rest) :=
  fun H locs ls cells slots hH hS hl b1 b2 => lv_ishl C.1 C.2.1 hdg  (k H locs ls cells slots hH hS hl b1 b2)
theorem j_ishr (C : Cx G p s m args meth c cc own nL ret) {x y : Int32} (hdg : decode cc pc = .ok (.ishr, 1))  (k : J G p l e R s m args below meth c nL Q bc bs h (pc + 1) L (.int (x >>> (y &&& 31)) :: rest)) : J G p l e R s m args below meth c nL Q bc bs h pc L (.int y :: .int x :: rest) :=
  fun H locs ls cells slots hH hS hl b1 b2 => lv_ishr C.1 C.2.1 hdg  (k H locs ls cells slots hH hS hl b1 b2)
theorem j_idiv (C : Cx G p s m args meth c cc own nL ret) {x y : Int32} (hdg : decode cc pc = .ok (.idiv, 1)) (hne : ¬ y = 0) (k : J G p l e R s m args below meth c nL Q bc bs h (pc + 1) L (.int (x / y) :: rest)) : J G p l e R s m args below meth c nL Q bc bs h pc L (.int y :: .int x :: rest) :=
  fun H locs ls cells slots hH hS hl b1 b2 => lv_idiv C.1 C.2.1 hdg hne (k H locs ls cells slots hH hS hl b1 b2)
theorem j_irem (C : Cx G p s m args meth c cc own nL ret) {x y : Int32} (hdg : decode cc pc = .ok (.irem, 1)) (hne : ¬ y = 0) (k : J G p l e R s m args below meth c nL Q bc bs h (pc + 1) L (.int (x - x / y * y) :: rest)) : J G p l e R s m args below meth c nL Q bc bs h pc L (.int y :: .int x :: rest) :=
  fun H locs ls cells slots hH hS hl b1 b2 => lv_irem C.1 C.2.1 hdg hne (k H locs ls cells slots hH hS hl b1 b2)
theorem j_ineg (C : Cx G p s m args meth c cc own nL ret) {x : Int32} (hdg : decode cc pc = .ok (.ineg, 1))  (k : J G p l e R s m args below meth c nL Q bc bs h (pc + 1) L (.int (-x) :: rest)) : J G p l e R s m args below meth c nL Q bc bs h pc L (.int x :: rest) :=
  fun H locs ls cells slots hH hS hl b1 b2 => lv_ineg C.1 C.2.1 hdg  (k H locs ls cells slots hH hS hl b1 b2)
theorem j_i2c (C : Cx G p s m args meth c cc own nL ret) {x : Int32} (hdg : decode cc pc = .ok (.i2c, 1))  (k : J G p l e R s m args below meth c nL Q bc bs h (pc + 1) L (.int ((x.toUInt32 % 65536).toInt32) :: rest)) : J G p l e R s m args below meth c nL Q bc bs h pc L (.int x :: rest) :=
  fun H locs ls cells slots hH hS hl b1 b2 => lv_i2c C.1 C.2.1 hdg rfl (k H locs ls cells slots hH hS hl b1 b2)
theorem j_i2b (C : Cx G p s m args meth c cc own nL ret) {x : Int32} (hdg : decode cc pc = .ok (.i2b, 1))  (k : J G p l e R s m args below meth c nL Q bc bs h (pc + 1) L (.int (x.toInt8.toInt32) :: rest)) : J G p l e R s m args below meth c nL Q bc bs h pc L (.int x :: rest) :=
  fun H locs ls cells slots hH hS hl b1 b2 => lv_i2b C.1 C.2.1 hdg rfl (k H locs ls cells slots hH hS hl b1 b2)
theorem j_i2l (C : Cx G p s m args meth c cc own nL ret) {x : Int32} (hdg : decode cc pc = .ok (.i2l, 1))  (k : J G p l e R s m args below meth c nL Q bc bs h (pc + 1) L (.long (x.toInt64) :: rest)) : J G p l e R s m args below meth c nL Q bc bs h pc L (.int x :: rest) :=
  fun H locs ls cells slots hH hS hl b1 b2 => lv_i2l C.1 C.2.1 hdg rfl (k H locs ls cells slots hH hS hl b1 b2)
theorem j_i2d (C : Cx G p s m args meth c cc own nL ret) {x : Int32} (hdg : decode cc pc = .ok (.i2d, 1))  (k : J G p l e R s m args below meth c nL Q bc bs h (pc + 1) L (.double (FP.i2d x) :: rest)) : J G p l e R s m args below meth c nL Q bc bs h pc L (.int x :: rest) :=
  fun H locs ls cells slots hH hS hl b1 b2 => lv_i2d C.1 C.2.1 hdg  (k H locs ls cells slots hH hS hl b1 b2)
theorem j_i2f (C : Cx G p s m args meth c cc own nL ret) {x : Int32} (hdg : decode cc pc = .ok (.i2f, 1))  (k : J G p l e R s m args below meth c nL Q bc bs h (pc + 1) L (.float (FP.i2f x) :: rest)) : J G p l e R s m args below meth c nL Q bc bs h pc L (.int x :: rest) :=
  fun H locs ls cells slots hH hS hl b1 b2 => lv_i2f C.1 C.2.1 hdg  (k H locs ls cells slots hH hS hl b1 b2)
theorem j_f2d (C : Cx G p s m args meth c cc own nL ret) {x : UInt32} (hdg : decode cc pc = .ok (.f2d, 1)) (hne : vf_n64 (FP.f2d x)) (k : J G p l e R s m args below meth c nL Q bc bs h (pc + 1) L (.double (FP.f2d x) :: rest)) : J G p l e R s m args below meth c nL Q bc bs h pc L (.float x :: rest) :=
  fun H locs ls cells slots hH hS hl b1 b2 => lv_f2d C.1 C.2.1 hdg hne (k H locs ls cells slots hH hS hl b1 b2)
theorem j_ddiv (C : Cx G p s m args meth c cc own nL ret) {x y : UInt64} (hdg : decode cc pc = .ok (.ddiv, 1)) (hne : vf_n64 (FP.ddiv x y)) (k : J G p l e R s m args below meth c nL Q bc bs h (pc + 1) L (.double (FP.ddiv x y) :: rest)) : J G p l e R s m args below meth c nL Q bc bs h pc L (.double y :: .double x :: rest) :=
  fun H locs ls cells slots hH hS hl b1 b2 => lv_ddiv C.1 C.2.1 hdg hne (k H locs ls cells slots hH hS hl b1 b2)
theorem j_fdiv (C : Cx G p s m args meth c cc own nL ret) {x y : UInt32} (hdg : decode cc pc = .ok (.fdiv, 1)) (hne : vf_n32 (FP.fdiv x y)) (k : J G p l e R s m args below meth c nL Q bc bs h (pc + 1) L (.float (FP.fdiv x y) :: rest)) : J G p l e R s m args below meth c nL Q bc bs h pc L (.float y :: .float x :: rest) :=
  fun H locs ls cells slots hH hS hl b1 b2 => lv_fdiv C.1 C.2.1 hdg hne (k H locs ls cells slots hH hS hl b1 b2)
theorem j_dcmp (C : Cx G p s m args meth c cc own nL ret) {x y : UInt64} {op : CmpOp} (hdg : decode cc pc = .ok (.dcmp op, 1))  (k : J G p l e R s m args below meth c nL Q bc bs h (pc + 1) L (.int (Op.cmpValue (FP.dcmp x y) op) :: rest)) : J G p l e R s m args below meth c nL Q bc bs h pc L (.double y :: .double x :: rest) :=
  fun H locs ls cells slots hH hS hl b1 b2 => lv_dcmp C.1 C.2.1 hdg  (k H locs ls cells slots hH hS hl b1 b2)
theorem j_fcmp (C : Cx G p s m args meth c cc own nL ret) {x y : UInt32} {op : CmpOp} (hdg : decode cc pc = .ok (.fcmp op, 1))  (k : J G p l e R s m args below meth c nL Q bc bs h (pc + 1) L (.int (Op.cmpValue (FP.fcmp x y) op) :: rest)) : J G p l e R s m args below meth c nL Q bc bs h pc L (.float y :: .float x :: rest) :=
  fun H locs ls cells slots hH hS hl b1 b2 => lv_fcmp C.1 C.2.1 hdg  (k H locs ls cells slots hH hS hl b1 b2)
theorem j_lcmp (C : Cx G p s m args meth c cc own nL ret) {x y : Int64} (hdg : decode cc pc = .ok (.lcmp, 1))  (k : J G p l e R s m args below meth c nL Q bc bs h (pc + 1) L (.int (lg_cmp x y) :: rest)) : J G p l e R s m args below meth c nL Q bc bs h pc L (.long y :: .long x :: rest) :=
  fun H locs ls cells slots hH hS hl b1 b2 => W.lcmp C.1 C.2.1 hdg  (k H locs ls cells slots hH hS hl b1 b2)
theorem j_dup (C : Cx G p s m args meth c cc own nL ret) {va : Value} (hdg : decode cc pc = .ok (.dup, 1)) (hva : va.category = 1) (k : J G p l e R s m args below meth c nL Q bc bs h (pc + 1) L (va :: va :: rest)) : J G p l e R s m args below meth c nL Q bc bs h pc L (va :: rest) :=
  fun H locs ls cells slots hH hS hl b1 b2 => lv_dup C.1 C.2.1 hdg hva (k H locs ls cells slots hH hS hl b1 b2)
theorem j_pop (C : Cx G p s m args meth c cc own nL ret) {va : Value} (hdg : decode cc pc = .ok (.pop, 1)) (hva : va.category = 1) (k : J G p l e R s m args below meth c nL Q bc bs h (pc + 1) L (rest)) : J G p l e R s m args below meth c nL Q bc bs h pc L (va :: rest) :=
  fun H locs ls cells slots hH hS hl b1 b2 => lv_pop C.1 C.2.1 hdg hva (k H locs ls cells slots hH hS hl b1 b2)
theorem j_dup2 (C : Cx G p s m args meth c cc own nL ret) {va vb : Value} (hdg : decode cc pc = .ok (.dup2, 1)) (hva : va.category = 1) (hvb : vb.category = 1) (k : J G p l e R s m args below meth c nL Q bc bs h (pc + 1) L (va :: vb :: va :: vb :: rest)) : J G p l e R s m args below meth c nL Q bc bs h pc L (va :: vb :: rest) :=
  fun H locs ls cells slots hH hS hl b1 b2 => lv_dup2_11 C.1 C.2.1 hdg hva hvb (k H locs ls cells slots hH hS hl b1 b2)
theorem j_dup_x1 (C : Cx G p s m args meth c cc own nL ret) {va vb : Value} (hdg : decode cc pc = .ok (.dup_x1, 1)) (hva : va.category = 1) (hvb : vb.category = 1) (k : J G p l e R s m args below meth c nL Q bc bs h (pc + 1) L (va :: vb :: va :: rest)) : J G p l e R s m args below meth c nL Q bc bs h pc L (va :: vb :: rest) :=
  fun H locs ls cells slots hH hS hl b1 b2 => lv_dup_x1 C.1 C.2.1 hdg hva hvb (k H locs ls cells slots hH hS hl b1 b2)
theorem j_dup_x2 (C : Cx G p s m args meth c cc own nL ret) {va vb vd : Value} (hdg : decode cc pc = .ok (.dup_x2, 1)) (hva : va.category = 1) (hvb : vb.category = 1) (hvd : vd.category = 1) (k : J G p l e R s m args below meth c nL Q bc bs h (pc + 1) L (va :: vb :: vd :: va :: rest)) : J G p l e R s m args below meth c nL Q bc bs h pc L (va :: vb :: vd :: rest) :=
  fun H locs ls cells slots hH hS hl b1 b2 => lv_dup_x2 C.1 C.2.1 hdg hva hvb hvd (k H locs ls cells slots hH hS hl b1 b2)
theorem j_if_eq (C : Cx G p s m args meth c cc own nL ret) {x : Int32} {off : Int} {tgt : Nat} (hdg : decode cc pc = .ok (.ifCond .eq off, 3)) (ht : (pc : Int) + off = (tgt : Int)) (kt : x = 0 → J G p l e R s m args below meth c nL Q bc bs h tgt L rest) (kf : ¬ x = 0 → J G p l e R s m args below meth c nL Q bc bs h (pc + 3) L rest) : J G p l e R s m args below meth c nL Q bc bs h pc L (.int x :: rest) :=
  fun H locs ls cells slots hH hS hl b1 b2 => lv_if_eq C.1 C.2.1 hdg ht (fun q => kt q H locs ls cells slots hH hS hl b1 b2) (fun q => kf q H locs ls cells slots hH hS hl b1 b2)
theorem j_icmp_eq (C : Cx G p s m args meth c cc own nL ret) {x y : Int32} {off : Int} {tgt : Nat} (hdg : decode cc pc = .ok (.if_icmp .eq off, 3)) (ht : (pc : Int) + off = (tgt : Int)) (kt : x = y → J G p l e R s m args below meth c nL Q bc bs h tgt L rest) (kf : ¬ x = y → J G p l e R s m args below meth c nL Q bc bs h (pc + 3) L rest) : J G p l e R s m args below meth c nL Q bc bs h pc L (.int y :: .int x :: rest) :=
  fun H locs ls cells slots hH hS hl b1 b2 => lv_icmp_eq C.1 C.2.1 hdg ht (fun q => kt q H locs ls cells slots hH hS hl b1 b2) (fun q => kf q H locs ls cells slots hH hS hl b1 b2)
theorem j_if_ne (C : Cx G p s m args meth c cc own nL ret) {x : Int32} {off : Int} {tgt : Nat} (hdg : decode cc pc = .ok (.ifCond .ne off, 3)) (ht : (pc : Int) + off = (tgt : Int)) (kt : ¬ x = 0 → J G p l e R s m args below meth c nL Q bc bs h tgt L rest) (kf : x = 0 → J G p l e R s m args below meth c nL Q bc bs h (pc + 3) L rest) : J G p l e R s m args below meth c nL Q bc bs h pc L (.int x :: rest) :=
  fun H locs ls cells slots hH hS hl b1 b2 => lv_if_ne C.1 C.2.1 hdg ht (fun q => kt q H locs ls cells slots hH hS hl b1 b2) (fun q => kf q H locs ls cells slots hH hS hl b1 b2)
theorem j_icmp_ne (C : Cx G p s m args meth c cc own nL ret) {x y : Int32} {off : Int} {tgt : Nat} (hdg : decode cc pc = .ok (.if_icmp .ne off, 3)) (ht : (pc : Int) + off = (tgt : Int)) (kt : ¬ x = y → J G p l e R s m args below meth c nL Q bc bs h tgt L rest) (kf : x = y → J G p l e R s m args below meth c nL Q bc bs h (pc + 3) L rest) : J G p l e R s m args below meth c nL Q bc bs h pc L (.int y :: .int x :: rest) :=
  fun H locs ls cells slots hH hS hl b1 b2 => lv_icmp_ne C.1 C.2.1 hdg ht (fun q => kt q H locs ls cells slots hH hS hl b1 b2) (fun q => kf q H locs ls cells slots hH hS hl b1 b2)
theorem j_if_lt (C : Cx G p s m args meth c cc own nL ret) {x : Int32} {off : Int} {tgt : Nat} (hdg : decode cc pc = .ok (.ifCond .lt off, 3)) (ht : (pc : Int) + off = (tgt : Int)) (kt : x < 0 → J G p l e R s m args below meth c nL Q bc bs h tgt L rest) (kf : ¬ x < 0 → J G p l e R s m args below meth c nL Q bc bs h (pc + 3) L rest) : J G p l e R s m args below meth c nL Q bc bs h pc L (.int x :: rest) :=
  fun H locs ls cells slots hH hS hl b1 b2 => lv_if_lt C.1 C.2.1 hdg ht (fun q => kt q H locs ls cells slots hH hS hl b1 b2) (fun q => kf q H locs ls cells slots hH hS hl b1 b2)
theorem j_icmp_lt (C : Cx G p s m args meth c cc own nL ret) {x y : Int32} {off : Int} {tgt : Nat} (hdg : decode cc pc = .ok (.if_icmp .lt off, 3)) (ht : (pc : Int) + off = (tgt : Int)) (kt : x < y → J G p l e R s m args below meth c nL Q bc bs h tgt L rest) (kf : ¬ x < y → J G p l e R s m args below meth c nL Q bc bs h (pc + 3) L rest) : J G p l e R s m args below meth c nL Q bc bs h pc L (.int y :: .int x :: rest) :=
  fun H locs ls cells slots hH hS hl b1 b2 => lv_icmp_lt C.1 C.2.1 hdg ht (fun q => kt q H locs ls cells slots hH hS hl b1 b2) (fun q => kf q H locs ls cells slots hH hS hl b1 b2)
theorem j_if_ge (C : Cx G p s m args meth c cc own nL ret) {x : Int32} {off : Int} {tgt : Nat} (hdg : decode cc pc = .ok (.ifCond .ge off, 3)) (ht : (pc : Int) + off = (tgt : Int)) (kt : 0 ≤ x → J G p l e R s m args below meth c nL Q bc bs h tgt L rest) (kf : ¬ 0 ≤ x → J G p l e R s m args below meth c nL Q bc bs h (pc + 3) L rest) : J G p l e R s m args below meth c nL Q bc bs h pc L (.int x :: rest) :=
  fun H locs ls cells slots hH hS hl b1 b2 => lv_if_ge C.1 C.2.1 hdg ht (fun q => kt q H locs ls cells slots hH hS hl b1 b2) (fun q => kf q H locs ls cells slots hH hS hl b1 b2)
theorem j_icmp_ge (C : Cx G p s m args meth c cc own nL ret) {x y : Int32} {off : Int} {tgt : Nat} (hdg : decode cc pc = .ok (.if_icmp .ge off, 3)) (ht : (pc : Int) + off = (tgt : Int)) (kt : y ≤ x → J G p l e R s m args below meth c nL Q bc bs h tgt L rest) (kf : ¬ y ≤ x → J G p l e R s m args below meth c nL Q bc bs h (pc + 3) L rest) : J G p l e R s m args below meth c nL Q bc bs h pc L (.int y :: .int x :: rest) :=
  fun H locs ls cells slots hH hS hl b1 b2 => lv_icmp_ge C.1 C.2.1 hdg ht (fun q => kt q H locs ls cells slots hH hS hl b1 b2) (fun q => kf q H locs ls cells slots hH hS hl b1 b2)
theorem j_if_gt (C : Cx G p s m args meth c cc own nL ret) {x : Int32} {off : Int} {tgt : Nat} (hdg : decode cc pc = .ok (.ifCond .gt off, 3)) (ht : (pc : Int) + off = (tgt : Int)) (kt : 0 < x → J G p l e R s m args below meth c nL Q bc bs h tgt L rest) (kf : ¬ 0 < x → J G p l e R s m args below meth c nL Q bc bs h (pc + 3) L rest) : J G p l e R s m args below meth c nL Q bc bs h pc L (.int x :: rest) :=
  fun H locs ls cells slots hH hS hl b1 b2 => lv_if_gt C.1 C.2.1 hdg ht (fun q => kt q H locs ls cells slots hH hS hl b1 b2) (fun q => kf q H locs ls cells slots hH hS hl b1 b2)
theorem j_icmp_gt (C : Cx G p s m args meth c cc own nL ret) {x y : Int32} {off : Int} {tgt : Nat} (hdg : decode cc pc = .ok (.if_icmp .gt off, 3)) (ht : (pc : Int) + off = (tgt : Int)) (kt : y < x → J G p l e R s m args below meth c nL Q bc bs h tgt L rest) (kf : ¬ y < x → J G p l e R s m args below meth c nL Q bc bs h (pc + 3) L rest) : J G p l e R s m args below meth c nL Q bc bs h pc L (.int y :: .int x :: rest) :=
  fun H locs ls cells slots hH hS hl b1 b2 => lv_icmp_gt C.1 C.2.1 hdg ht (fun q => kt q H locs ls cells slots hH hS hl b1 b2) (fun q => kf q H locs ls cells slots hH hS hl b1 b2)
theorem j_if_le (C : Cx G p s m args meth c cc own nL ret) {x : Int32} {off : Int} {tgt : Nat} (hdg : decode cc pc = .ok (.ifCond .le off, 3)) (ht : (pc : Int) + off = (tgt : Int)) (kt : x ≤ 0 → J G p l e R s m args below meth c nL Q bc bs h tgt L rest) (kf : ¬ x ≤ 0 → J G p l e R s m args below meth c nL Q bc bs h (pc + 3) L rest) : J G p l e R s m args below meth c nL Q bc bs h pc L (.int x :: rest) :=
  fun H locs ls cells slots hH hS hl b1 b2 => lv_if_le C.1 C.2.1 hdg ht (fun q => kt q H locs ls cells slots hH hS hl b1 b2) (fun q => kf q H locs ls cells slots hH hS hl b1 b2)
theorem j_icmp_le (C : Cx G p s m args meth c cc own nL ret) {x y : Int32} {off : Int} {tgt : Nat} (hdg : decode cc pc = .ok (.if_icmp .le off, 3)) (ht : (pc : Int) + off = (tgt : Int)) (kt : x ≤ y → J G p l e R s m args below meth c nL Q bc bs h tgt L rest) (kf : ¬ x ≤ y → J G p l e R s m args below meth c nL Q bc bs h (pc + 3) L rest) : J G p l e R s m args below meth c nL Q bc bs h pc L (.int y :: .int x :: rest) :=
  fun H locs ls cells slots hH hS hl b1 b2 => lv_icmp_le C.1 C.2.1 hdg ht (fun q => kt q H locs ls cells slots hH hS hl b1 b2) (fun q => kf q H locs ls cells slots hH hS hl b1 b2)
theorem j_goto (C : Cx G p s m args meth c cc own nL ret) {off : Int} {tgt : Nat} (hdg : decode cc pc = .ok (.goto off, 3)) (ht : (pc : Int) + off = (tgt : Int)) (k : J G p l e R s m args below meth c nL Q bc bs h tgt L rest) : J G p l e R s m args below meth c nL Q bc bs h pc L rest :=
  fun H locs ls cells slots hH hS hl b1 b2 => lv_goto C.1 C.2.1 hdg ht (k H locs ls cells slots hH hS hl b1 b2)
theorem j_ifnull (C : Cx G p s m args meth c cc own nL ret) {x : Nat} {off : Int} (hdg : decode cc pc = .ok (.ifnull off, 3)) (k : J G p l e R s m args below meth c nL Q bc bs h (pc + 3) L rest) : J G p l e R s m args below meth c nL Q bc bs h pc L (.ref x :: rest) :=
  fun H locs ls cells slots hH hS hl b1 b2 => lv_ifnull C.1 C.2.1 hdg (k H locs ls cells slots hH hS hl b1 b2)
theorem j_ifnonnullN (C : Cx G p s m args meth c cc own nL ret) {off : Int} (hdg : decode cc pc = .ok (.ifnonnull off, 3)) (k : J G p l e R s m args below meth c nL Q bc bs h (pc + 3) L rest) : J G p l e R s m args below meth c nL Q bc bs h pc L (.null :: rest) :=
  fun H locs ls cells slots hH hS hl b1 b2 => lv_ifnonnullN C.1 C.2.1 hdg (k H locs ls cells slots hH hS hl b1 b2)
theorem j_ifnullN (C : Cx G p s m args meth c cc own nL ret) {off : Int} {tgt : Nat} (hdg : decode cc pc = .ok (.ifnull off, 3)) (ht : (pc : Int) + off = (tgt : Int)) (k : J G p l e R s m args below meth c nL Q bc bs h tgt L rest) : J G p l e R s m args below meth c nL Q bc bs h pc L (.null :: rest) :=
  fun H locs ls cells slots hH hS hl b1 b2 => lv_ifnullN C.1 C.2.1 hdg ht (k H locs ls cells slots hH hS hl b1 b2)
theorem j_ifnonnull (C : Cx G p s m args meth c cc own nL ret) {x : Nat} {off : Int} {tgt : Nat} (hdg : decode cc pc = .ok (.ifnonnull off, 3)) (ht : (pc : Int) + off = (tgt : Int)) (k : J G p l e R s m args below meth c nL Q bc bs h tgt L rest) : J G p l e R s m args below meth c nL Q bc bs h pc L (.ref x :: rest) :=
  fun H locs ls cells slots hH hS hl b1 b2 => lv_ifnonnull C.1 C.2.1 hdg ht (k H locs ls cells slots hH hS hl b1 b2)
theorem j_tableIn (C : Cx G p s m args meth c cc own nL ret) {dflt lo hi : Int} {offs : Array Int} {len : Nat} {x : Int32} {off : Int} {tgt : Nat} (hdg : decode cc pc = .ok (.tableswitch dflt lo hi offs, len)) (h1 : ¬ x.toInt < lo) (h2 : ¬ hi < x.toInt) (ho : offs[(x.toInt - lo).toNat]? = some off) (ht : (pc : Int) + off = (tgt : Int)) (k : J G p l e R s m args below meth c nL Q bc bs h tgt L rest) : J G p l e R s m args below meth c nL Q bc bs h pc L (.int x :: rest) :=
  fun H locs ls cells slots hH hS hl b1 b2 => lv_tableIn C.1 C.2.1 hdg h1 h2 ho ht (k H locs ls cells slots hH hS hl b1 b2)
theorem j_tableOut (C : Cx G p s m args meth c cc own nL ret) {dflt lo hi : Int} {offs : Array Int} {len : Nat} {x : Int32} {tgt : Nat} (hdg : decode cc pc = .ok (.tableswitch dflt lo hi offs, len)) (hh : x.toInt < lo ∨ hi < x.toInt) (ht : (pc : Int) + dflt = (tgt : Int)) (k : J G p l e R s m args below meth c nL Q bc bs h tgt L rest) : J G p l e R s m args below meth c nL Q bc bs h pc L (.int x :: rest) :=
  fun H locs ls cells slots hH hS hl b1 b2 => lv_tableOut C.1 C.2.1 hdg hh ht (k H locs ls cells slots hH hS hl b1 b2)
theorem j_lookup (C : Cx G p s m args meth c cc own nL ret) {dflt : Int} {ps : Array (Int × Int)} {len : Nat} {x : Int32} {off : Int} {tgt : Nat} (hdg : decode cc pc = .ok (.lookupswitch dflt ps, len)) (hp : (ps.toList.zip (ps.toList.drop 1)).all (fun (a, next) => a.1 < next.1) = true) (ho : Op.lookupswitch.offset ps.toList dflt x.toInt = off) (ht : (pc : Int) + off = (tgt : Int)) (k : J G p l e R s m args below meth c nL Q bc bs h tgt L rest) : J G p l e R s m args below meth c nL Q bc bs h pc L (.int x :: rest) :=
  fun H locs ls cells slots hH hS hl b1 b2 => lv_lookup C.1 C.2.1 hdg hp ho ht (k H locs ls cells slots hH hS hl b1 b2)
theorem Cx.gw {t : State} {H : Heap} {locs : List Loc} (C : Cx G p s m args meth c cc own nL ret) (hS : va_S (fun q => G.1 ≤ q) s.heap H locs) (ht : t.heap = H) (hW : s.WarmedH t.vm) : GW G t := GW.moved C.2.2.2.2.2.2.1 hW hS ht C.2.2.2.2.2.1
theorem j_iret {ty : FieldType} {v : Int32} {Post : Option Value → AH → Prop} {L : List (Nat × Value)} (C : Cx G p s m args meth c cc own nL (some ty)) (hn : narrow ty (.int v) = .int v) (hp : Post (some (.int v)) h) (hdg : decode cc pc = .ok (.ireturn, 1)) : J G p l e R s m args below meth c nL (MQ below (SQ G Post) args s R.cells R.slots (fun q => G.1 ≤ q)) bc bs h pc L [.int v] := by
  intro H locs ls cells slots hH hS hl b1 b2
  refine W.widen (k := R.cells) (n := R.slots) (by omega) (by omega) ?_
  exact W.zret C.1 C.2.1 C.2.2.2.2.2.2.2.1 hn (fun t ht hW => ⟨⟨_, h, rfl, hp, C.gw hS ht hW, by rw [ht]; exact hH⟩, hS.F ht⟩) hS.2.2 hdg C.2.2.2.2.2.2.2.2
theorem j_vret {Post : Option Value → AH → Prop} {L : List (Nat × Value)} (C : Cx G p s m args meth c cc own nL none) (hp : Post none h) (hdg : decode cc pc = .ok (.return_, 1)) : J G p l e R s m args below meth c nL (MQ below (SQ G Post) args s R.cells R.slots (fun q => G.1 ≤ q)) bc bs h pc L [] := by
  intro H locs ls cells slots hH hS hl b1 b2
  refine W.widen (k := R.cells) (n := R.slots) (by omega) (by omega) ?_
  exact W.vret C.1 C.2.1 C.2.2.2.2.2.2.2.1 (fun t ht hW => ⟨⟨_, h, rfl, hp, C.gw hS ht hW, by rw [ht]; exact hH⟩, hS.F ht⟩) hS.2.2 hdg C.2.2.2.2.2.2.2.2
theorem j_dret {v : UInt64} {Post : Option Value → AH → Prop} {L : List (Nat × Value)} (C : Cx G p s m args meth c cc own nL (some .double)) (hp : Post (some (.double v)) h) (hdg : decode cc pc = .ok (.dreturn, 1)) : J G p l e R s m args below meth c nL (MQ below (SQ G Post) args s R.cells R.slots (fun q => G.1 ≤ q)) bc bs h pc L [.double v] := by
  intro H locs ls cells slots hH hS hl b1 b2
  refine W.widen (k := R.cells) (n := R.slots) (by omega) (by omega) ?_
  exact W.dret C.1 C.2.1 C.2.2.2.2.2.2.2.1 (fun t ht hW => ⟨⟨_, h, rfl, hp, C.gw hS ht hW, by rw [ht]; exact hH⟩, hS.F ht⟩) hS.2.2 hdg C.2.2.2.2.2.2.2.2
theorem j_fret {v : UInt32} {Post : Option Value → AH → Prop} {L : List (Nat × Value)} (C : Cx G p s m args meth c cc own nL (some .float)) (hp : Post (some (.float v)) h) (hdg : decode cc pc = .ok (.freturn, 1)) : J G p l e R s m args below meth c nL (MQ below (SQ G Post) args s R.cells R.slots (fun q => G.1 ≤ q)) bc bs h pc L [.float v] := by
  intro H locs ls cells slots hH hS hl b1 b2
  refine W.widen (k := R.cells) (n := R.slots) (by omega) (by omega) ?_
  exact W.fret C.1 C.2.1 C.2.2.2.2.2.2.2.1 (fun t ht hW => ⟨⟨_, h, rfl, hp, C.gw hS ht hW, by rw [ht]; exact hH⟩, hS.F ht⟩) hS.2.2 hdg C.2.2.2.2.2.2.2.2
theorem j_aret {v : Value} {rt : FieldType} {Post : Option Value → AH → Prop} {L : List (Nat × Value)} (C : Cx G p s m args meth c cc own nL (some rt)) (hrt : (∃ n, rt = .object n) ∨ ∃ t, rt = .array t) (hv : v = .null ∨ ∃ a, v = .ref a) (hp : Post (some v) h) (hdg : decode cc pc = .ok (.areturn, 1)) : J G p l e R s m args below meth c nL (MQ below (SQ G Post) args s R.cells R.slots (fun q => G.1 ≤ q)) bc bs h pc L [v] := by
  intro H locs ls cells slots hH hS hl b1 b2
  refine W.widen (k := R.cells) (n := R.slots) (by omega) (by omega) ?_
  exact W.aret C.1 C.2.1 C.2.2.2.2.2.2.2.1 hrt hv (fun t ht hW => ⟨⟨_, h, rfl, hp, C.gw hS ht hW, by rw [ht]; exact hH⟩, hS.F ht⟩) hS.2.2 hdg C.2.2.2.2.2.2.2.2
/-- getfield -/
theorem j_get (C : Cx G p s m args meth c cc own nL ret) {a : Nat} {ref Cn : String} {T : u_T} {N ci index : Nat} {fs : List Value} (ha : h a = some (.inr (ci, fs))) (hc : vwCl[ci]? = some (Cn, T, N)) (hin : ∀ w ∈ u_ws Cn T N, w ∈ lw_all) (k : Nat) (hk : k < N) (hlink : Cond.fieldLink own index ref (T k).2.1 (T k).2.2.1 ∈ lw_all) (hsame : (T k).1 = ref) {v : Value} (hv : fs[k]? = some v) (hdg : decode cc pc = .ok (.getfield index, 3))
    (kk : J G p l e R s m args below meth c nL Q bc bs h (pc + 3) L (v :: rest)) : J G p l e R s m args below meth c nL Q bc bs h pc L (.ref a :: rest) := by
  intro H locs ls cells slots hH hS hl b1 b2
  obtain ⟨ws, h1, h2, h3⟩ := id hH.1
  obtain ⟨q0, hq⟩ := h1 a _ ha
  exact va_get C.1 C.2.1 C.2.2.2.2.1 hin C.2.2.2.1 C.2.2.2.2.2.1.1 h2 q0 hq hc k hk (C.2.2.2.2.1 _ hlink) (fun x hx => by rw [hsame] at hx; exact hx) hv hdg (kk H locs ls cells slots hH hS hl b1 b2)
/-- putfield, not final -/
theorem j_put (C : Cx G p s m args meth c cc own nL ret) (hm : FreeG G) {a : Nat} {ref Cn : String} {T : u_T} {N ci index : Nat} {fs : List Value} (ha : h a = some (.inr (ci, fs))) (hc : vwCl[ci]? = some (Cn, T, N)) (hin : ∀ w ∈ u_ws Cn T N, w ∈ lw_all) (ty0 : Nat → FieldType) (hty : ∀ k, k < N → parseFieldDescriptor (T k).2.2.1 = some (ty0 k)) (hnm : ∀ a, a < N → ∀ b, b < N → a ≠ b → (T a).2.1 ≠ (T b).2.1) (k : Nat) (hk : k < N) (hlink : Cond.fieldLink own index ref (T k).2.1 (T k).2.2.1 ∈ lw_all) (hsame : (T k).1 = ref) (hfin : (T k).2.2.2 = false) {v : Value} (hn : narrow (ty0 k) v = v) (hfit : fits (ty0 k) v = true) (hl0 : k < fs.length) (hdg : decode cc pc = .ok (.putfield index, 3))
    (kk : J G p l e R s m args below meth c nL Q bc bs (hup h a (.inr (ci, fs.set k v))) (pc + 3) L rest) : J G p l e R s m args below meth c nL Q bc bs h pc L (v :: .ref a :: rest) := by
  intro H locs ls cells slots hH hS hl b1 b2
  obtain ⟨ws, h1, h2, h3⟩ := id hH.1
  obtain ⟨q0, hq⟩ := h1 a _ ha
  exact va_put C.1 C.2.1 C.2.2.2.2.1 hin ty0 hty hnm C.2.2.2.1 C.2.2.2.2.2.1.1 h2 h3 hS q0 hq hc k hk (C.2.2.2.2.1 _ hlink) (fun x hx => by rw [hsame] at hx; exact hx) hfin (hty k hk) hn hfit hl0 hdg (fun H1 locs1 hP hD hS1 => kk H1 locs1 ls cells slots ⟨HW.set h1 hq hP hD, hm _⟩ hS1 hl b1 b2)
/-- putfield in a constructor, final -/
theorem j_putF (C : Cx G p s m args meth c cc own nL ret) (hm : FreeG G) {a : Nat} {ref Cn : String} {T : u_T} {N ci index : Nat} {fs : List Value} (ha : h a = some (.inr (ci, fs))) (hc : vwCl[ci]? = some (Cn, T, N)) (hin : ∀ w ∈ u_ws Cn T N, w ∈ lw_all) (ty0 : Nat → FieldType) (hty : ∀ k, k < N → parseFieldDescriptor (T k).2.2.1 = some (ty0 k)) (hnm : ∀ a, a < N → ∀ b, b < N → a ≠ b → (T a).2.1 ≠ (T b).2.1) (k : Nat) (hk : k < N) (hlink : Cond.fieldLink own index ref (T k).2.1 (T k).2.2.1 ∈ lw_all) (hsame : (T k).1 = ref) (hfin : (T k).2.2.2 = true) (hini : meth.name = "<init>") (hdecl : (T k).1 = own) {v : Value} (hn : narrow (ty0 k) v = v) (hfit : fits (ty0 k) v = true) (hl0 : k < fs.length) (hdg : decode cc pc = .ok (.putfield index, 3))
    (kk : J G p l e R s m args below meth c nL Q bc bs (hup h a (.inr (ci, fs.set k v))) (pc + 3) L rest) : J G p l e R s m args below meth c nL Q bc bs h pc L (v :: .ref a :: rest) := by
  intro H locs ls cells slots hH hS hl b1 b2
  obtain ⟨ws, h1, h2, h3⟩ := id hH.1
  obtain ⟨q0, hq⟩ := h1 a _ ha
  exact va_putF C.1 C.2.1 C.2.2.2.2.1 hin ty0 hty hnm C.2.2.2.1 C.2.2.2.2.2.1.1 h2 h3 hS q0 hq hc k hk (C.2.2.2.2.1 _ hlink) (fun x hx => by rw [hsame] at hx; exact hx) hfin hini hdecl (hty k hk) hn hfit hl0 hdg (fun H1 locs1 hP hD hS1 => kk H1 locs1 ls cells slots ⟨HW.set h1 hq hP hD, hm _⟩ hS1 hl b1 b2)
theorem j_iald (C : Cx G p s m args meth c cc own nL ret) {a n : Nat} {f : Nat → Int32} (ha : h a = some (.inl (G.2.2.1 0, n, .inl f))) {i : Int32} (hin : vp_in i n) (hdg : decode cc pc = .ok (.iaload, 1)) (kk : J G p l e R s m args below meth c nL Q bc bs h (pc + 1) L (.int (f i.toNatClampNeg) :: rest)) : J G p l e R s m args below meth c nL Q bc bs h pc L (.int i :: .ref a :: rest) := by
  intro H locs ls cells slots hH hS hl b1 b2
  obtain ⟨ws, h1, h2, h3⟩ := id hH.1
  obtain ⟨q0, hq⟩ := h1 a _ ha
  exact va_iald C.1 C.2.1 C.2.2.2.2.2.1.1 h2 q0 0 hq rfl hin hdg (kk H locs ls cells slots hH hS hl b1 b2)
theorem j_cald (C : Cx G p s m args meth c cc own nL ret) {a n : Nat} {f : Nat → Int32} (ha : h a = some (.inl (G.2.2.1 1, n, .inl f))) {i : Int32} (hin : vp_in i n) (hdg : decode cc pc = .ok (.caload, 1)) (kk : J G p l e R s m args below meth c nL Q bc bs h (pc + 1) L (.int (f i.toNatClampNeg) :: rest)) : J G p l e R s m args below meth c nL Q bc bs h pc L (.int i :: .ref a :: rest) := by
  intro H locs ls cells slots hH hS hl b1 b2
  obtain ⟨ws, h1, h2, h3⟩ := id hH.1
  obtain ⟨q0, hq⟩ := h1 a _ ha
  exact va_cald C.1 C.2.1 C.2.2.2.2.2.1.1 h2 q0 1 hq rfl hin hdg (kk H locs ls cells slots hH hS hl b1 b2)
theorem j_bald (C : Cx G p s m args meth c cc own nL ret) {a n : Nat} {f : Nat → Int32} (ha : h a = some (.inl (G.2.2.1 2, n, .inl f))) {i : Int32} (hin : vp_in i n) (hdg : decode cc pc = .ok (.baload, 1)) (kk : J G p l e R s m args below meth c nL Q bc bs h (pc + 1) L (.int (f i.toNatClampNeg) :: rest)) : J G p l e R s m args below meth c nL Q bc bs h pc L (.int i :: .ref a :: rest) := by
  intro H locs ls cells slots hH hS hl b1 b2
  obtain ⟨ws, h1, h2, h3⟩ := id hH.1
  obtain ⟨q0, hq⟩ := h1 a _ ha
  exact va_bald C.1 C.2.1 C.2.2.2.2.2.1.1 h2 q0 2 hq rfl hin hdg (kk H locs ls cells slots hH hS hl b1 b2)
theorem j_zald (C : Cx G p s m args meth c cc own nL ret) {a n : Nat} {f : Nat → Int32} (ha : h a = some (.inl (G.2.2.1 3, n, .inl f))) {i : Int32} (hin : vp_in i n) (hdg : decode cc pc = .ok (.baload, 1)) (kk : J G p l e R s m args below meth c nL Q bc bs h (pc + 1) L (.int (f i.toNatClampNeg) :: rest)) : J G p l e R s m args below meth c nL Q bc bs h pc L (.int i :: .ref a :: rest) := by
  intro H locs ls cells slots hH hS hl b1 b2
  obtain ⟨ws, h1, h2, h3⟩ := id hH.1
  obtain ⟨q0, hq⟩ := h1 a _ ha
  exact va_zald C.1 C.2.1 C.2.2.2.2.2.1.1 h2 q0 3 hq rfl hin hdg (kk H locs ls cells slots hH hS hl b1 b2)
theorem j_lald (C : Cx G p s m args meth c cc own nL ret) {a n : Nat} {f : Nat → Int64} (ha : h a = some (.inl (G.2.2.1 4, n, .inr (.inl f)))) {i : Int32} (hin : vp_in i n) (hdg : decode cc pc = .ok (.laload, 1)) (kk : J G p l e R s m args below meth c nL Q bc bs h (pc + 1) L (.long (f i.toNatClampNeg) :: rest)) : J G p l e R s m args below meth c nL Q bc bs h pc L (.int i :: .ref a :: rest) := by
  intro H locs ls cells slots hH hS hl b1 b2
  obtain ⟨ws, h1, h2, h3⟩ := id hH.1
  obtain ⟨q0, hq⟩ := h1 a _ ha
  exact va_lald C.1 C.2.1 C.2.2.2.2.2.1.1 h2 q0 4 hq rfl hin hdg (kk H locs ls cells slots hH hS hl b1 b2)
theorem j_dald (C : Cx G p s m args meth c cc own nL ret) {a n : Nat} {f : Nat → UInt64} (ha : h a = some (.inl (G.2.2.1 5, n, .inr (.inr (.inr (.inl f)))))) {i : Int32} (hin : vp_in i n) (hdg : decode cc pc = .ok (.daload, 1)) (kk : J G p l e R s m args below meth c nL Q bc bs h (pc + 1) L (.double (f i.toNatClampNeg) :: rest)) : J G p l e R s m args below meth c nL Q bc bs h pc L (.int i :: .ref a :: rest) := by
  intro H locs ls cells slots hH hS hl b1 b2
  obtain ⟨ws, h1, h2, h3⟩ := id hH.1
  obtain ⟨q0, hq⟩ := h1 a _ ha
  exact va_dald C.1 C.2.1 C.2.2.2.2.2.1.1 h2 q0 5 hq rfl hin hdg (kk H locs ls cells slots hH hS hl b1 b2)
theorem j_iast (C : Cx G p s m args meth c cc own nL ret) (hm : FreeG G) {a n : Nat} {f : Nat → Int32} (ha : h a = some (.inl (G.2.2.1 0, n, .inl f))) {i : Int32} {x : Int32} (hin : vp_in i n) (hdg : decode cc pc = .ok (.iastore, 1)) (kk : J G p l e R s m args below meth c nL Q bc bs (hup h a (.inl (G.2.2.1 0, n, .inl (upd f i.toNatClampNeg x)))) (pc + 1) L rest) : J G p l e R s m args below meth c nL Q bc bs h pc L (.int x :: .int i :: .ref a :: rest) := by
  intro H locs ls cells slots hH hS hl b1 b2
  obtain ⟨ws, h1, h2, h3⟩ := id hH.1
  obtain ⟨q0, hq⟩ := h1 a _ ha
  exact va_iast C.1 C.2.1 C.2.2.2.2.2.1.1 h2 h3 hS q0 0 hq rfl hin hdg (fun H1 locs1 hP hD hS1 => kk H1 locs1 ls cells slots ⟨HW.set h1 hq hP hD, hm _⟩ hS1 hl b1 b2)
theorem j_cast (C : Cx G p s m args meth c cc own nL ret) (hm : FreeG G) {a n : Nat} {f : Nat → Int32} (ha : h a = some (.inl (G.2.2.1 1, n, .inl f))) {i : Int32} {x : Int32} (hin : vp_in i n) (hdg : decode cc pc = .ok (.castore, 1)) (kk : J G p l e R s m args below meth c nL Q bc bs (hup h a (.inl (G.2.2.1 1, n, .inl (upd f i.toNatClampNeg (vp_nar .char x))))) (pc + 1) L rest) : J G p l e R s m args below meth c nL Q bc bs h pc L (.int x :: .int i :: .ref a :: rest) := by
  intro H locs ls cells slots hH hS hl b1 b2
  obtain ⟨ws, h1, h2, h3⟩ := id hH.1
  obtain ⟨q0, hq⟩ := h1 a _ ha
  exact va_cast C.1 C.2.1 C.2.2.2.2.2.1.1 h2 h3 hS q0 1 hq rfl hin hdg (fun H1 locs1 hP hD hS1 => kk H1 locs1 ls cells slots ⟨HW.set h1 hq hP hD, hm _⟩ hS1 hl b1 b2)
theorem j_bast (C : Cx G p s m args meth c cc own nL ret) (hm : FreeG G) {a n : Nat} {f : Nat → Int32} (ha : h a = some (.inl (G.2.2.1 2, n, .inl f))) {i : Int32} {x : Int32} (hin : vp_in i n) (hdg : decode cc pc = .ok (.bastore, 1)) (kk : J G p l e R s m args below meth c nL Q bc bs (hup h a (.inl (G.2.2.1 2, n, .inl (upd f i.toNatClampNeg (vp_nar .byte x))))) (pc + 1) L rest) : J G p l e R s m args below meth c nL Q bc bs h pc L (.int x :: .int i :: .ref a :: rest) := by
  intro H locs ls cells slots hH hS hl b1 b2
  obtain ⟨ws, h1, h2, h3⟩ := id hH.1
  obtain ⟨q0, hq⟩ := h1 a _ ha
  exact va_bast C.1 C.2.1 C.2.2.2.2.2.1.1 h2 h3 hS q0 2 hq rfl hin hdg (fun H1 locs1 hP hD hS1 => kk H1 locs1 ls cells slots ⟨HW.set h1 hq hP hD, hm _⟩ hS1 hl b1 b2)
theorem j_zast (C : Cx G p s m args meth c cc own nL ret) (hm : FreeG G) {a n : Nat} {f : Nat → Int32} (ha : h a = some (.inl (G.2.2.1 3, n, .inl f))) {i : Int32} {x : Int32} (hin : vp_in i n) (hdg : decode cc pc = .ok (.bastore, 1)) (kk : J G p l e R s m args below meth c nL Q bc bs (hup h a (.inl (G.2.2.1 3, n, .inl (upd f i.toNatClampNeg (vp_nar .boolean x))))) (pc + 1) L rest) : J G p l e R s m args below meth c nL Q bc bs h pc L (.int x :: .int i :: .ref a :: rest) := by
  intro H locs ls cells slots hH hS hl b1 b2
  obtain ⟨ws, h1, h2, h3⟩ := id hH.1
  obtain ⟨q0, hq⟩ := h1 a _ ha
  exact va_zast C.1 C.2.1 C.2.2.2.2.2.1.1 h2 h3 hS q0 3 hq rfl hin hdg (fun H1 locs1 hP hD hS1 => kk H1 locs1 ls cells slots ⟨HW.set h1 hq hP hD, hm _⟩ hS1 hl b1 b2)
theorem j_last (C : Cx G p s m args meth c cc own nL ret) (hm : FreeG G) {a n : Nat} {f : Nat → Int64} (ha : h a = some (.inl (G.2.2.1 4, n, .inr (.inl f)))) {i : Int32} {x : Int64} (hin : vp_in i n) (hdg : decode cc pc = .ok (.lastore, 1)) (kk : J G p l e R s m args below meth c nL Q bc bs (hup h a (.inl (G.2.2.1 4, n, .inr (.inl (vp_updL f i.toNatClampNeg x))))) (pc + 1) L rest) : J G p l e R s m args below meth c nL Q bc bs h pc L (.long x :: .int i :: .ref a :: rest) := by
  intro H locs ls cells slots hH hS hl b1 b2
  obtain ⟨ws, h1, h2, h3⟩ := id hH.1
  obtain ⟨q0, hq⟩ := h1 a _ ha
  exact va_last C.1 C.2.1 C.2.2.2.2.2.1.1 h2 h3 hS q0 4 hq rfl hin hdg (fun H1 locs1 hP hD hS1 => kk H1 locs1 ls cells slots ⟨HW.set h1 hq hP hD, hm _⟩ hS1 hl b1 b2)
theorem j_dast (C : Cx G p s m args meth c cc own nL ret) (hm : FreeG G) {a n : Nat} {f : Nat → UInt64} (ha : h a = some (.inl (G.2.2.1 5, n, .inr (.inr (.inr (.inl f)))))) {i : Int32} {x : UInt64} (hin : vp_in i n) (hdg : decode cc pc = .ok (.dastore, 1)) (kk : J G p l e R s m args below meth c nL Q bc bs (hup h a (.inl (G.2.2.1 5, n, .inr (.inr (.inr (.inl (vf_upd f i.toNatClampNeg x))))))) (pc + 1) L rest) : J G p l e R s m args below meth c nL Q bc bs h pc L (.double x :: .int i :: .ref a :: rest) := by
  intro H locs ls cells slots hH hS hl b1 b2
  obtain ⟨ws, h1, h2, h3⟩ := id hH.1
  obtain ⟨q0, hq⟩ := h1 a _ ha
  exact va_dast C.1 C.2.1 C.2.2.2.2.2.1.1 h2 h3 hS q0 5 hq rfl hin hdg (fun H1 locs1 hP hD hS1 => kk H1 locs1 ls cells slots ⟨HW.set h1 hq hP hD, hm _⟩ hS1 hl b1 b2)
theorem j_alen (C : Cx G p s m args meth c cc own nL ret) {a di : Nat} {x : vp_A} {ty : FieldType} (ha : h a = some (.inl (G.2.2.1 di, x))) (ht : (tyl G.2.2.1)[di]? = some (G.2.2.1 di, ty)) (hdg : decode cc pc = .ok (.arraylength, 1)) (kk : J G p l e R s m args below meth c nL Q bc bs h (pc + 1) L (.int (Int32.ofNat x.1) :: rest)) : J G p l e R s m args below meth c nL Q bc bs h pc L (.ref a :: rest) := by
  intro H locs ls cells slots hH hS hl b1 b2
  obtain ⟨ws, h1, h2, h3⟩ := id hH.1
  obtain ⟨q0, hq⟩ := h1 a _ ha
  exact va_alen C.1 C.2.1 C.2.2.2.2.2.1.1 h2 q0 di hq ht rfl hdg (kk H locs ls cells slots hH hS hl b1 b2)
theorem j_new (C : Cx G p s m args meth c cc own nL ret) (hm : FreeG G) {Cn : String} {T : u_T} {N ci index : Nat} (hc : vwCl[ci]? = some (Cn, T, N)) (hin : ∀ w ∈ u_ws Cn T N, w ∈ lw_all) (ty0 : Nat → FieldType) (hty : ∀ k, k < N → parseFieldDescriptor (T k).2.2.1 = some (ty0 k)) (hcl : Cond.classLink own index Cn ∈ lw_all) (hinst : Cond.instantiable Cn N ∈ lw_all) (hini : Cond.initialized Cn ∈ lw_all) (fs : List Value) (hfs : ∀ j, j < N → defaultValue (ty0 j) = vp_V fs j) {bc' bs' : Nat} (hbc : bc' + 1 ≤ bc) (hbs : bs' + N ≤ bs) (hdg : decode cc pc = .ok (.new index, 3))
    (kk : ∀ q : Nat, h q = none → G.1 ≤ q → J G p l e R s m args below meth c nL Q bc' bs' (hup h q (.inr (ci, fs))) (pc + 3) L (.ref q :: rest)) : J G p l e R s m args below meth c nL Q bc bs h pc L rest := by
  intro H locs ls cells slots hH hS hl b1 b2
  obtain ⟨ws, h1, h2, h3⟩ := id hH.1
  refine va_new (c0 := c) C.1 C.2.1 C.2.2.2.2.1 hin ty0 hty C.2.2.2.1 (C.2.2.2.2.1 _ hcl) (C.2.2.2.2.1 _ hinst) (C.2.2.2.2.1 _ hini) C.2.2.2.2.2.1.1 h2 h3 hS (fun q hq => Nat.le_trans C.2.2.2.2.2.1.2.2 hq) hc hfs (by omega) (by omega) hdg (fun q H1 hP hD hS1 => ?_)
  obtain ⟨g1, g2, g3⟩ := HW.push h1 hP hD
  exact kk q g2 g3 H1 locs ls _ _ ⟨g1, hm _⟩ hS1 hl (by omega) (by omega)
theorem cls_of {s : State} {D : va_G} {dA : Nat → ClassId} {cA : ClassId} {ty : FieldType} (di : Nat) (hno : ∀ C, ty ≠ .object C) (hK : va_K D vwCl (tyl dA) s) (hd : (tyl dA)[di]? = some (dA di, ty)) (hK2 : va_K D vwCl (tyl dA ++ [(cA, ty)]) s) : cA = dA di := by
  have h1 := (hK.2 di _ hd).2
  have h2 := (hK2.2 (tyl dA).length (cA, ty) (by simp)).2
  cases ty <;> first | exact absurd rfl (hno _) | (simp only [va_RA] at h1 h2; exact Option.some.inj (h2.symm.trans h1))
theorem j_newa (C : Cx G p s m args meth c cc own nL ret) (hm : FreeG G) {atype : ArrayType} (di : Nat) {ty : FieldType} (hty : newarray.typeOf atype = ty) (hno : ∀ C, ty ≠ .object C) (hd : ∀ dA, (tyl dA)[di]? = some (dA di, ty)) (harr : Cond.arrayClass ty ∈ lw_all) {n : Int32} {N' : Nat} (a0 : vp_A) (ha : ∀ cA : ClassId, vp_cell cA a0 = arrV cA N' (fun _ => defaultValue ty)) (hn : ¬ n < 0) (hN : n.toNatClampNeg = N') (hbytes : N' * componentBytes ty ≤ 536870912) {bc' bs' : Nat} (hbc : bc' + 1 ≤ bc) (hbs : bs' + N' ≤ bs) (hdg : decode cc pc = .ok (.newarray atype, 2))
    (kk : ∀ q : Nat, h q = none → G.1 ≤ q → J G p l e R s m args below meth c nL Q bc' bs' (hup h q (.inl (G.2.2.1 di, a0))) (pc + 2) L (.ref q :: rest)) : J G p l e R s m args below meth c nL Q bc bs h pc L (.int n :: rest) := by
  intro H locs ls cells slots hH hS hl b1 b2
  obtain ⟨ws, h1, h2, h3⟩ := id hH.1
  refine va_newa C.1 C.2.1 (by rw [hty]; exact C.2.2.2.2.1 _ harr) hty C.2.2.2.2.2.1.1 h2 h3 hS (fun q hq => Nat.le_trans C.2.2.2.2.2.1.2.2 hq) ha hn hN hbytes (by omega) (by omega) hdg (fun q cA H1 hK hP hD hS1 => ?_)
  cases cls_of di hno C.2.2.2.2.2.1.1 (hd _) hK
  obtain ⟨g1, g2, g3⟩ := HW.push h1 hP hD
  exact kk q g2 g3 H1 locs ls _ _ ⟨g1, hm _⟩ hS1 hl (by omega) (by omega)
/-- calls: what a contract gives -/
theorem SP.blind {av : List Value} (hG : GOK G) : FrameBlind (SP G av h) := fun a U g mk q => ⟨q.1, q.2.1.calling hG, q.2.2⟩
theorem j_run {st : List Value} {mc ms : Nat} {Post : Option Value → AH → Prop} {a : Array Value} (C : Cx G p s m args meth c cc own nL ret) (hmc : mc ≤ bc) (hms : ms ≤ bs)
    (hr : ∀ (H : Heap) (locs : List Loc) (ls : Array Slot) (cells slots : Nat), HG G h H → va_S (fun q => G.1 ≤ q) s.heap H locs → ls.size = nL → cells + mc ≤ R.cells ∧ slots + ms ≤ R.slots → va_Run p l e R s m args below meth c H locs cells slots mc ms (F0 m pc ls st) rest (SQ G Post a) (fun q => G.1 ≤ q))
    (kk : ∀ (v : Option Value) (h' : AH), Post v h' → J G p l e R s m args below meth c nL Q (bc - mc) (bs - ms) h' (pc + 3) L (v.toList ++ rest)) : J G p l e R s m args below meth c nL Q bc bs h pc L st := by
  intro H locs ls cells slots hH hS hl b1 b2
  intro T hT X
  obtain ⟨v, st₀, t, T', L1, h0, X', hL, e1, e2, ⟨⟨v', h', hv, hp, hg, hw⟩, hz, hk⟩, st1⟩ := hr H locs ls cells slots hH hS hl.1 ⟨by omega, by omega⟩ T hT X
  cases hv
  rw [h0] at hz hk
  obtain ⟨t2, a1, b3⟩ := kk v h' hp T'.heap (locs ++ L1) ls (cells + mc) (slots + ms) (by rw [e1]; exact hw)
    ⟨Nat.le_trans hS.1 (by rw [e1]; exact hz), fun q h1 h2 => by rw [e1, hk q (Nat.lt_of_lt_of_le h1 hS.1) h2]; exact hS.2.1 q h1 h2, fun q hq => by
      rcases List.mem_append.mp hq with h | h
      · exact hS.2.2 q h
      · exact hL q h⟩ hl (by omega) (by omega) T' rfl X'
  exact ⟨t2, st1 t2 a1, b3⟩
/-- what a call's words say of the callee: once a callee -/
def CalV (y : MethodName) (Cn : String) (cc : ByteArray) (nL : Nat) (ret : Option FieldType) (n : Nat) : Prop := Cond.instanceMethod y ∈ lw_all ∧ Cond.selects Cn y y ∈ lw_all ∧ Cond.initialized Cn ∈ lw_all ∧ Cond.code y cc nL ret ∈ lw_all ∧ (y.cls = Cn ∧ y.cls ≠ "java/lang/invoke/MethodHandle" ∧ y.cls ≠ "java/lang/invoke/VarHandle" ∧ (parseMethodDescriptor y.desc).map (fun d => d.parameters.length) = some n)
def CalS (y : MethodName) (cc : ByteArray) (nL : Nat) (ret : Option FieldType) (n : Nat) : Prop := Cond.static y ∈ lw_all ∧ Cond.initialized y.cls ∈ lw_all ∧ Cond.code y cc nL ret ∈ lw_all ∧ (y.cls ≠ "java/lang/invoke/MethodHandle" ∧ y.cls ≠ "java/lang/invoke/VarHandle" ∧ (parseMethodDescriptor y.desc).map (fun d => d.parameters.length) = some n)
def CalI (y : MethodName) (cc : ByteArray) (nL n : Nat) : Prop := Cond.instanceMethod y ∈ lw_all ∧ Cond.initialized y.cls ∈ lw_all ∧ Cond.code y cc nL none ∈ lw_all ∧ y.name = "<init>" ∧ (y.cls ≠ "java/lang/invoke/MethodHandle" ∧ y.cls ≠ "java/lang/invoke/VarHandle" ∧ (parseMethodDescriptor y.desc).map (fun d => d.parameters.length) = some n)
theorem j_callV (C : Cx G p s m args meth c cc own nL ret) {y : MethodName} {Cn : String} {cc' : ByteArray} {nL' : Nat} {ret' : Option FieldType} {fr lo mc ms n b ci index : Nat} {As st : List Value} {fs : List Value} {T : u_T} {N : Nat} {Post : Option Value → AH → Prop} (hM : MT G l y cc' nL' ret' fr lo mc ms (.ref b :: As) h Post) (hq : Cond.methodLink own index y ∈ lw_all) (hy : CalV y Cn cc' nL' ret' n) (hrecv : h b = some (.inr (ci, fs))) (hci : vwCl[ci]? = some (Cn, T, N)) (hn : As.length = n) (hst : st = As.reverse ++ .ref b :: rest) (hcat : (rest.map fun v => v.category).sum ≤ 8) (hR : fr + 1 ≤ R.frames ∧ 8 + (nL' + 11) + lo ≤ R.locals) (hmc : mc ≤ bc) (hms : ms ≤ bs) (hdg : decode cc pc = .ok (.invokevirtual index, 3))
    (kk : ∀ (v : Option Value) (h' : AH), Post v h' → J G p l e R s m args below meth c nL Q (bc - mc) (bs - ms) h' (pc + 3) L (v.toList ++ rest)) : J G p l e R s m args below meth c nL Q bc bs h pc L st := by
  refine j_run (a := (Value.ref b :: As).toArray) C hmc hms (fun H locs ls cells slots hH hS hsz hf => ?_) kk
  obtain ⟨ws, h1, h2, h3⟩ := id hH.1
  obtain ⟨q0, hq0⟩ := h1 b _ hrecv
  exact va_runV ⟨C.1, C.2.1, C.2.2.1, C.2.2.2.1, C.2.2.2.2.1⟩ hM (cwV n C.2.2.2.2.1 (lw_V hq hy.1 hy.2.1 hy.2.2.1 hy.2.2.2.1) rfl rfl rfl hy.2.2.2.2 hR) ⟨SP.blind C.2.2.2.2.2.2.1, va_recv C.2.2.2.2.2.1.1 h2 hci hq0, fun U hU hW => ⟨rfl, C.gw hS hU hW, by rw [hU]; exact hH⟩⟩ rfl hn hsz hst (lv_room hcat) hdg hf
theorem j_callS (C : Cx G p s m args meth c cc own nL ret) {y : MethodName} {cc' : ByteArray} {nL' : Nat} {ret' : Option FieldType} {fr lo mc ms n index : Nat} {As st : List Value} {Post : Option Value → AH → Prop} (hM : MT G l y cc' nL' ret' fr lo mc ms As h Post) (hq : Cond.methodLink own index y ∈ lw_all) (hy : CalS y cc' nL' ret' n) (hn : As.length = n) (hst : st = As.reverse ++ rest) (hcat : (rest.map fun v => v.category).sum ≤ 8) (hR : fr + 1 ≤ R.frames ∧ 8 + (nL' + 11) + lo ≤ R.locals) (hmc : mc ≤ bc) (hms : ms ≤ bs) (hdg : decode cc pc = .ok (.invokestatic index, 3))
    (kk : ∀ (v : Option Value) (h' : AH), Post v h' → J G p l e R s m args below meth c nL Q (bc - mc) (bs - ms) h' (pc + 3) L (v.toList ++ rest)) : J G p l e R s m args below meth c nL Q bc bs h pc L st := by
  refine j_run (a := As.toArray) C hmc hms (fun H locs ls cells slots hH hS hsz hf => ?_) kk
  exact va_runS ⟨C.1, C.2.1, C.2.2.1, C.2.2.2.1, C.2.2.2.2.1⟩ hM (va_cwS n C.2.2.2.2.1 (lw_S hq hy.1 hy.2.1 hy.2.2.1) rfl rfl rfl hy.2.2.2 hR) ⟨SP.blind C.2.2.2.2.2.2.1, fun U hU hW => ⟨rfl, C.gw hS hU hW, by rw [hU]; exact hH⟩⟩ rfl hn hsz hst (lv_room hcat) hdg hf
theorem j_callI (C : Cx G p s m args meth c cc own nL ret) {y : MethodName} {cc' : ByteArray} {nL' : Nat} {fr lo mc ms n b index : Nat} {As st : List Value} {Post : Option Value → AH → Prop} (hM : MT G l y cc' nL' none fr lo mc ms (.ref b :: As) h Post) (hq : Cond.methodLink own index y ∈ lw_all) (hy : CalI y cc' nL' n) (hn : As.length = n) (hst : st = As.reverse ++ .ref b :: rest) (hcat : (rest.map fun v => v.category).sum ≤ 8) (hR : fr + 1 ≤ R.frames ∧ 8 + (nL' + 11) + lo ≤ R.locals) (hmc : mc ≤ bc) (hms : ms ≤ bs) (hdg : decode cc pc = .ok (.invokespecial index, 3))
    (kk : ∀ (v : Option Value) (h' : AH), Post v h' → J G p l e R s m args below meth c nL Q (bc - mc) (bs - ms) h' (pc + 3) L (v.toList ++ rest)) : J G p l e R s m args below meth c nL Q bc bs h pc L st := by
  refine j_run (a := (Value.ref b :: As).toArray) C hmc hms (fun H locs ls cells slots hH hS hsz hf => ?_) kk
  exact va_runI ⟨C.1, C.2.1, C.2.2.1, C.2.2.2.1, C.2.2.2.2.1⟩ hM (cwI n C.2.2.2.2.1 (lw_meth hy.2.2.1) rfl rfl rfl (C.2.2.2.2.1 _ hy.2.1) (C.2.2.2.2.1 _ hq) (C.2.2.2.2.1 _ hy.1) hy.2.2.2.1 hy.2.2.2.2 hR) ⟨SP.blind C.2.2.2.2.2.2.1, fun U hU hW => ⟨rfl, C.gw hS hU hW, by rw [hU]; exact hH⟩⟩ rfl hn hsz hst (lv_room hcat) hdg hf
theorem j_objInit (C : Cx G p s m args meth c cc own nL ret) {index a : Nat} (hq : Cond.methodLink own index Lib.objectInit ∈ lw_all) (hi : Cond.instanceMethod Lib.objectInit ∈ lw_all) (hcd : Cond.code Lib.objectInit ⟨#[0xb1]⟩ 1 none ∈ lw_all) (hfr : 1 ≤ R.frames) (hlo : (rest.map fun v => v.category).sum + 12 ≤ R.locals) (hdg : decode cc pc = .ok (.invokespecial index, 3)) (kk : J G p l e R s m args below meth c nL Q bc bs h (pc + 3) L rest) : J G p l e R s m args below meth c nL Q bc bs h pc L (.ref a :: rest) := by
  intro H locs ls cells slots hH hS hl b1 b2
  refine W.objInit C.1 C.2.1 C.2.2.2.1 (C.2.2.2.2.1 _ hq) (C.2.2.2.2.1 _ hi) (C.2.2.2.2.1 _ hcd) rfl (by rw [C.2.2.1]; exact hl.1) rfl hdg hfr (by show 2 * 0 + _ + 12 ≤ _; omega) ?_
  exact W.eq (g2 := F0 m (pc + 3) ls rest) rfl (kk H locs ls cells slots hH hS hl b1 b2)
theorem J.loca {st : List Value} {L2 : List (Nat × Value)} (hl : L = L2) (k : J G p l e R s m args below meth c nL Q bc bs h pc L2 st) : J G p l e R s m args below meth c nL Q bc bs h pc L st := hl ▸ k
end JJ
/-- a value with a name -/
def nm {α : Type} (v : α) (t : α → Prop) : Prop := t v
theorem nm_intro {α : Type} {v : α} {t : α → Prop} (h : nm v t) : ∃ x : α, x = v ∧ t x := ⟨v, rfl, h⟩
/-- a join: what goes on behind it, named -/
def jn {α : Type} (K : α) (t : α → Prop) : Prop := t K
theorem jn_intro {α : Type} {K : α} {t : α → Prop} {M : α → Prop} (hk : M K) (h : jn K t) : ∃ K' : α, M K' ∧ t K' := ⟨K, hk, h⟩
theorem sw_out {x : Int32} {lo hi : Int} (h1 : -2147483648 ≤ lo) (h2 : hi ≤ 2147483647) (h : ∀ k : Nat, (k : Int) ≤ hi - lo → x ≠ Int32.ofInt (lo + k)) : x.toInt < lo ∨ hi < x.toInt := by
  by_cases a : x.toInt < lo
  · exact Or.inl a
  · by_cases b : hi < x.toInt
    · exact Or.inr b
    · exfalso
      refine h (x.toInt - lo).toNat (by omega) ?_
      rw [Int.toNat_of_nonneg (by omega), show lo + (x.toInt - lo) = x.toInt by omega, Int32.ofInt_toInt]
