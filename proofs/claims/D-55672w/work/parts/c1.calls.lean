/-! GENERAL ROWS: calls of any kind, copies, casts, throws -/
set_option maxRecDepth 100000
section GC
variable {G : GT} {p : Program} {l : Launch} {e : Env} {R : Room} {s : State} {m : MethodId} {args : Array Value} {below : List Frame} {meth : Method} {c : Code} {nL : Nat} {Q : State → Prop} {bc bs : Nat} {h : AH} {pc : Nat} {L : List (Nat × Value)} {rest : List Value} {cc : ByteArray} {own : String} {ret : Option FieldType}
theorem jg_callV (C : Cx G p s m args meth c cc own nL ret) {y : MethodName} {Cn : String} {cc' : ByteArray} {nL' : Nat} {ret' : Option FieldType} {fr lo mc ms n b ci index : Nat} {As st : List Value} {T : u_T} {N : Nat} {Post : Option Value → AH → Prop} (hM : MT G l y cc' nL' ret' fr lo mc ms (.ref b :: As) h Post) (hq : Cond.methodLink own index y ∈ lw_all) (hy : CalV y Cn cc' nL' ret' n) (hci : vwCl[ci]? = some (Cn, T, N)) (hrecv : aC G h b ci) (hn : As.length = n) (hst : st = As.reverse ++ .ref b :: rest) (hcat : (rest.map fun v => v.category).sum ≤ 8) (hR : fr + 1 ≤ R.frames ∧ 8 + (nL' + 11) + lo ≤ R.locals) (hmc : mc ≤ bc) (hms : ms ≤ bs) (hdg : decode cc pc = .ok (.invokevirtual index, 3))
    (kk : ∀ (v : Option Value) (h' : AH), Post v h' → J G p l e R s m args below meth c nL Q (bc - mc) (bs - ms) h' (pc + 3) L (v.toList ++ rest)) : J G p l e R s m args below meth c nL Q bc bs h pc L st := by
  refine j_run (a := (Value.ref b :: As).toArray) C hmc hms (fun H locs ls cells slots hH hS hsz hf => ?_) kk
  exact va_runV ⟨C.1, C.2.1, C.2.2.1, C.2.2.2.1, C.2.2.2.2.1⟩ hM (cwV n C.2.2.2.2.1 (lw_V hq hy.1 hy.2.1 hy.2.2.1 hy.2.2.2.1) rfl rfl rfl hy.2.2.2.2 hR) ⟨SP.blind C.2.2.2.2.2.2.1, hrecv.recv C hci hH hS, fun U hU hW => ⟨rfl, C.gw hS hU hW, by rw [hU]; exact hH⟩⟩ rfl hn hsz hst (lv_room hcat) hdg hf
/-- a superclass's method on an object of class Cn -/
def CalU (y : MethodName) (Cn : String) (cc : ByteArray) (nL : Nat) (ret : Option FieldType) (n : Nat) : Prop := Cond.instanceMethod y ∈ lw_all ∧ Cond.selects Cn y y ∈ lw_all ∧ Cond.initialized y.cls ∈ lw_all ∧ Cond.code y cc nL ret ∈ lw_all ∧ Cond.sameMethod y.cls y.cls y.name y.desc ∈ lw_all ∧ (y.cls ≠ "java/lang/invoke/MethodHandle" ∧ y.cls ≠ "java/lang/invoke/VarHandle" ∧ (parseMethodDescriptor y.desc).map (fun d => d.parameters.length) = some n)
theorem jg_callU (C : Cx G p s m args meth c cc own nL ret) {y : MethodName} {Cn : String} {cc' : ByteArray} {nL' : Nat} {ret' : Option FieldType} {fr lo mc ms n b ci index : Nat} {As st : List Value} {T : u_T} {N : Nat} {Post : Option Value → AH → Prop} (hM : MT G l y cc' nL' ret' fr lo mc ms (.ref b :: As) h Post) (hq : Cond.methodLink own index y ∈ lw_all) (hy : CalU y Cn cc' nL' ret' n) (hci : vwCl[ci]? = some (Cn, T, N)) (hrecv : aC G h b ci) (hn : As.length = n) (hst : st = As.reverse ++ .ref b :: rest) (hcat : (rest.map fun v => v.category).sum ≤ 8) (hR : fr + 1 ≤ R.frames ∧ 8 + (nL' + 11) + lo ≤ R.locals) (hmc : mc ≤ bc) (hms : ms ≤ bs) (hdg : decode cc pc = .ok (.invokevirtual index, 3))
    (kk : ∀ (v : Option Value) (h' : AH), Post v h' → J G p l e R s m args below meth c nL Q (bc - mc) (bs - ms) h' (pc + 3) L (v.toList ++ rest)) : J G p l e R s m args below meth c nL Q bc bs h pc L st := by
  refine j_run (a := (Value.ref b :: As).toArray) C hmc hms (fun H locs ls cells slots hH hS hsz hf => ?_) kk
  obtain ⟨y1, y2, y3, y4, y5, y6, y7, y8⟩ := hy
  have hgood : ∀ w ∈ ws_ y cc' nL' ret', ∀ (a' : Array Value) (U : State), s.WarmedH U.vm → w.before a' U = true := pay_in C.2.2.2.2.1 (lw_meth y4)
  have cw : va_CU R s args own Cn y.cls index y y cc' nL' ret' (ws_ y cc' nL' ret') ({ frames := fr, cells := mc, slots := ms, locals := lo }) mc ms n :=
    ⟨⟨rfl, rfl, hR.1, hR.2, hgood, List.mem_cons_self⟩, C.2.2.2.2.1 _ y4, C.2.2.2.2.1 _ y3, ⟨y6, y7⟩, fun sig hs => by
      rw [hs] at y8
      exact (Option.some.inj y8).symm, C.2.2.2.2.1 _ hq, C.2.2.2.2.1 _ y5, va_Decl.of (C.2.2.2.2.1 _ y1) (C.2.2.2.2.1 _ y4), C.2.2.2.2.1 _ y2, C.2.2.2.2.1 _ y1⟩
  exact va_runU ⟨C.1, C.2.1, C.2.2.1, C.2.2.2.1, C.2.2.2.2.1⟩ hM cw ⟨SP.blind C.2.2.2.2.2.2.1, hrecv.recv C hci hH hS, fun U hU hW => ⟨rfl, C.gw hS hU hW, by rw [hU]; exact hH⟩⟩ rfl hn hsz hst (lv_room hcat) hdg hf
/-- super.y -/
def CalSU (own : String) (y : MethodName) (cc : ByteArray) (nL : Nat) (ret : Option FieldType) (n : Nat) : Prop := Cond.instanceMethod y ∈ lw_all ∧ Cond.superclass own y.cls ∈ lw_all ∧ Cond.initialized y.cls ∈ lw_all ∧ Cond.code y cc nL ret ∈ lw_all ∧ Cond.sameMethod y.cls y.cls y.name y.desc ∈ lw_all ∧ (y.name ≠ "<init>" ∧ (parseMethodDescriptor y.desc).map (fun d => d.parameters.length) = some n)
theorem jg_callSU (C : Cx G p s m args meth c cc own nL ret) {y : MethodName} {Cn : String} {cc' : ByteArray} {nL' : Nat} {ret' : Option FieldType} {fr lo mc ms n b ci index : Nat} {As st : List Value} {T : u_T} {N : Nat} {Post : Option Value → AH → Prop} (hM : MT G l y cc' nL' ret' fr lo mc ms (.ref b :: As) h Post) (hq : Cond.methodLink own index y ∈ lw_all) (hy : CalSU own y cc' nL' ret' n) (hci : vwCl[ci]? = some (Cn, T, N)) (hrecv : aC G h b ci) (hn : As.length = n) (hst : st = As.reverse ++ .ref b :: rest) (hcat : (rest.map fun v => v.category).sum ≤ 8) (hR : fr + 1 ≤ R.frames ∧ 8 + (nL' + 11) + lo ≤ R.locals) (hmc : mc ≤ bc) (hms : ms ≤ bs) (hdg : decode cc pc = .ok (.invokespecial index, 3))
    (kk : ∀ (v : Option Value) (h' : AH), Post v h' → J G p l e R s m args below meth c nL Q (bc - mc) (bs - ms) h' (pc + 3) L (v.toList ++ rest)) : J G p l e R s m args below meth c nL Q bc bs h pc L st := by
  refine j_run (a := (Value.ref b :: As).toArray) C hmc hms (fun H locs ls cells slots hH hS hsz hf => ?_) kk
  obtain ⟨y1, y2, y3, y4, y5, y6, y8⟩ := hy
  have hgood : ∀ w ∈ ws_ y cc' nL' ret', ∀ (a' : Array Value) (U : State), s.WarmedH U.vm → w.before a' U = true := pay_in C.2.2.2.2.1 (lw_meth y4)
  have cw : va_CS R s args own index y cc' nL' ret' (ws_ y cc' nL' ret') ({ frames := fr, cells := mc, slots := ms, locals := lo }) mc ms n :=
    ⟨⟨rfl, rfl, hR.1, hR.2, hgood, List.mem_cons_self⟩, C.2.2.2.2.1 _ hq, C.2.2.2.2.1 _ y5, C.2.2.2.2.1 _ y2, C.2.2.2.2.1 _ y1, C.2.2.2.2.1 _ y3, C.2.2.2.2.1 _ y4, y6, fun sig hs => by
      rw [hs] at y8
      exact (Option.some.inj y8).symm⟩
  have hKn := C.2.2.2.2.2.1.1.1 ci _ hci
  exact va_runSU (C := Cn) ⟨hKn.2.1, hKn.2.2⟩ ⟨C.1, C.2.1, C.2.2.1, C.2.2.2.1, C.2.2.2.2.1⟩ hM cw ⟨SP.blind C.2.2.2.2.2.2.1, hrecv.recv C hci hH hS, fun U hU hW => ⟨rfl, C.gw hS hU hW, by rw [hU]; exact hH⟩⟩ rfl hn hsz hst (lv_room hcat) hdg hf
/-- through an interface -/
def CalF (x y : MethodName) (Cn : String) (cc : ByteArray) (nL : Nat) (ret : Option FieldType) (n : Nat) : Prop := Cond.instanceMethod y ∈ lw_all ∧ Cond.selects Cn x y ∈ lw_all ∧ Cond.initialized y.cls ∈ lw_all ∧ Cond.code y cc nL ret ∈ lw_all ∧ (x.cls ≠ "java/lang/invoke/MethodHandle" ∧ x.cls ≠ "java/lang/invoke/VarHandle" ∧ (parseMethodDescriptor x.desc).map (fun d => d.parameters.length) = some n)
theorem jg_callF (C : Cx G p s m args meth c cc own nL ret) {x y : MethodName} {Cn : String} {cc' : ByteArray} {nL' : Nat} {ret' : Option FieldType} {fr lo mc ms n b ci index count : Nat} {As st : List Value} {T : u_T} {N : Nat} {Post : Option Value → AH → Prop} (hM : MT G l y cc' nL' ret' fr lo mc ms (.ref b :: As) h Post) (hq : va_Nw (.methodLink own index x) s) (hF : va_Fw Cn x y s) (hy : CalF x y Cn cc' nL' ret' n) (hci : vwCl[ci]? = some (Cn, T, N)) (hrecv : aC G h b ci) (hn : As.length = n) (hst : st = As.reverse ++ .ref b :: rest) (hcat : (rest.map fun v => v.category).sum ≤ 8) (hR : fr + 1 ≤ R.frames ∧ 8 + (nL' + 11) + lo ≤ R.locals) (hmc : mc ≤ bc) (hms : ms ≤ bs) (hdg : decode cc pc = .ok (.invokeinterface index count, 5))
    (kk : ∀ (v : Option Value) (h' : AH), Post v h' → J G p l e R s m args below meth c nL Q (bc - mc) (bs - ms) h' (pc + 5) L (v.toList ++ rest)) : J G p l e R s m args below meth c nL Q bc bs h pc L st := by
  refine j_run5 (a := (Value.ref b :: As).toArray) C hmc hms (fun H locs ls cells slots hH hS hsz hf => ?_) kk
  obtain ⟨y1, y2, y3, y4, y6, y7, y8⟩ := hy
  have hgood : ∀ w ∈ ws_ y cc' nL' ret', ∀ (a' : Array Value) (U : State), s.WarmedH U.vm → w.before a' U = true := pay_in C.2.2.2.2.1 (lw_meth y4)
  have cw : va_CI R s args own Cn index x y cc' nL' ret' (ws_ y cc' nL' ret') ({ frames := fr, cells := mc, slots := ms, locals := lo }) mc ms n :=
    ⟨⟨rfl, rfl, hR.1, hR.2, hgood, List.mem_cons_self⟩, va_any rfl hq, va_any rfl hF.1, va_any rfl hF.2.1, C.2.2.2.2.1 _ y2, C.2.2.2.2.1 _ y1, va_any rfl hF.2.2.1, va_any rfl hF.2.2.2.1, va_any rfl hF.2.2.2.2, C.2.2.2.2.1 _ y3, C.2.2.2.2.1 _ y4, ⟨y6, y7⟩, fun sig hs => by
      rw [hs] at y8
      exact (Option.some.inj y8).symm⟩
  have hKn := C.2.2.2.2.2.1.1.1 ci _ hci
  exact va_runF (C := Cn) ⟨hKn.2.1, hKn.2.2⟩ ⟨C.1, C.2.1, C.2.2.1, C.2.2.2.1, C.2.2.2.2.1⟩ hM cw ⟨SP.blind C.2.2.2.2.2.2.1, hrecv.recv C hci hH hS, fun U hU hW => ⟨rfl, C.gw hS hU hW, by rw [hU]; exact hH⟩⟩ rfl hn hsz hst (lv_room hcat) hdg hf
/-! casts -/
theorem jg_cast (C : Cx G p s m args meth c cc own nL ret) {a ci index : Nat} {nm : String} {r : vw_C} (hl : Cond.classLink own index nm ∈ lw_all) (hca : va_Nw (.castable r.1 nm) s) (hci : vwCl[ci]? = some r) (hrecv : aC G h a ci) (hdg : decode cc pc = .ok (.checkcast index, 3)) (kk : J G p l e R s m args below meth c nL Q bc bs h (pc + 3) L (.ref a :: rest)) : J G p l e R s m args below meth c nL Q bc bs h pc L (.ref a :: rest) :=
  fun H locs ls cells slots hH hS hl' b1 b2 => va_castY C.1 C.2.1 C.2.2.2.1 (C.2.2.2.2.1 _ hl) hca (hrecv.recv C hci hH hS) hdg (kk H locs ls cells slots hH hS hl' b1 b2)
/-- to the object's own class -/
theorem jg_castS (C : Cx G p s m args meth c cc own nL ret) {a ci index : Nat} {r : vw_C} (hl : Cond.classLink own index r.1 ∈ lw_all) (hci : vwCl[ci]? = some r) (hrecv : aC G h a ci) (hdg : decode cc pc = .ok (.checkcast index, 3)) (kk : J G p l e R s m args below meth c nL Q bc bs h (pc + 3) L (.ref a :: rest)) : J G p l e R s m args below meth c nL Q bc bs h pc L (.ref a :: rest) :=
  fun H locs ls cells slots hH hS hl' b1 b2 => va_castE C.1 C.2.1 C.2.2.2.1 (C.2.2.2.2.1 _ hl) (hrecv.recv C hci hH hS) hdg (kk H locs ls cells slots hH hS hl' b1 b2)
theorem jg_instY (C : Cx G p s m args meth c cc own nL ret) {a ci index : Nat} {r : vw_C} (hl : Cond.classLink own index r.1 ∈ lw_all) (hci : vwCl[ci]? = some r) (hrecv : aC G h a ci) (hdg : decode cc pc = .ok (.instanceof index, 3)) (kk : J G p l e R s m args below meth c nL Q bc bs h (pc + 3) L (.int 1 :: rest)) : J G p l e R s m args below meth c nL Q bc bs h pc L (.ref a :: rest) :=
  fun H locs ls cells slots hH hS hl' b1 b2 => va_instE C.1 C.2.1 C.2.2.2.1 (C.2.2.2.2.1 _ hl) (hrecv.recv C hci hH hS) hdg (kk H locs ls cells slots hH hS hl' b1 b2)
theorem jg_instN (C : Cx G p s m args meth c cc own nL ret) {a index : Nat} {nm Cn : String} (hl : Cond.classLink own index nm ∈ lw_all) (hno : va_Nc Cn nm s) (hr : ∀ (H : Heap) (locs : List Loc), HG G h H → va_S (fun q => G.1 ≤ q) s.heap H locs → ∃ cell : Cell, H[a]? = some cell ∧ cell.vm.isStatics = false ∧ s.vm.findClass Cn = some cell.cls) (hdg : decode cc pc = .ok (.instanceof index, 3)) (kk : J G p l e R s m args below meth c nL Q bc bs h (pc + 3) L (.int 0 :: rest)) : J G p l e R s m args below meth c nL Q bc bs h pc L (.ref a :: rest) :=
  fun H locs ls cells slots hH hS hl' b1 b2 => va_instNo C.1 C.2.1 C.2.2.2.1 (C.2.2.2.2.1 _ hl) hno (hr H locs hH hS) hdg (kk H locs ls cells slots hH hS hl' b1 b2)
theorem jg_castR (C : Cx G p s m args meth c cc own nL ret) {a index : Nat} {nm Cn : String} (hl : Cond.classLink own index nm ∈ lw_all) (hca : va_Nw (.castable Cn nm) s) (hr : ∀ (H : Heap) (locs : List Loc), HG G h H → va_S (fun q => G.1 ≤ q) s.heap H locs → ∃ cell : Cell, H[a]? = some cell ∧ cell.vm.isStatics = false ∧ s.vm.findClass Cn = some cell.cls) (hdg : decode cc pc = .ok (.checkcast index, 3)) (kk : J G p l e R s m args below meth c nL Q bc bs h (pc + 3) L (.ref a :: rest)) : J G p l e R s m args below meth c nL Q bc bs h pc L (.ref a :: rest) :=
  fun H locs ls cells slots hH hS hl' b1 b2 => va_castY C.1 C.2.1 C.2.2.2.1 (C.2.2.2.2.1 _ hl) hca (hr H locs hH hS) hdg (kk H locs ls cells slots hH hS hl' b1 b2)
/-- an array's cast to its own class -/
theorem jg_castB (C : Cx G p s m args meth c cc own nL ret) {a index n : Nat} {x : (Nat → Int32) ⊕ (Nat → Int64) ⊕ (Nat → UInt32) ⊕ (Nat → UInt64) ⊕ (Nat → Option Nat)} (hl : Cond.classLink own index "[B" ∈ lw_all) (ha : h a = some (.inl (G.2.2.1 2, n, x))) (hdg : decode cc pc = .ok (.checkcast index, 3)) (kk : J G p l e R s m args below meth c nL Q bc bs h (pc + 3) L (.ref a :: rest)) : J G p l e R s m args below meth c nL Q bc bs h pc L (.ref a :: rest) := by
  intro H locs ls cells slots hH hS hl' b1 b2
  obtain ⟨ws, w1, w2, w3⟩ := id hH.1
  obtain ⟨q0, hq0⟩ := w1 a _ ha
  exact va_castA C.1 C.2.1 C.2.2.2.1 (C.2.2.2.2.1 _ hl) w2 q0 hq0 ((C.2.2.2.2.2.1.1.2 2 _ rfl).2) hdg (kk H locs ls cells slots hH hS hl' b1 b2)
/-! copies -/
theorem jg_copyb (C : Cx G p s m args meth c cc own nL ret) (hm : FreeG G) {index : Nat} (hq : Cond.methodLink own index arraycopyName ∈ lw_all) {a0 a n0 n1 : Nat} {f g : Nat → Int32} (ha0 : aB G h a0 n0 f) (ha1 : h a = some (.inl (G.2.2.1 2, n1, .inl g)))
    {sp dp n : Int32} (h1 : ¬ sp < 0) (h2 : ¬ dp < 0) (h3 : ¬ n < 0) (h4 : sp.toNatClampNeg + n.toNatClampNeg ≤ n0) (h5 : dp.toNatClampNeg + n.toNatClampNeg ≤ n1) (hfit : ∀ i : Nat, i < n.toNatClampNeg → fits .byte (.int (f (sp.toNatClampNeg + i))) = true) (hframes : 1 ≤ R.frames) (hlocals : (rest.map fun v => v.category).sum + 200 ≤ R.locals) (hdg : decode cc pc = .ok (.invokestatic index, 3))
    (kk : J G p l e R s m args below meth c nL Q bc bs (hup h a (.inl (G.2.2.1 2, n1, .inl (va_cpy f g sp.toNatClampNeg dp.toNatClampNeg n.toNatClampNeg)))) (pc + 3) L rest) : J G p l e R s m args below meth c nL Q bc bs h pc L (.int n :: .int dp :: .ref a :: .int sp :: .ref a0 :: rest) := by
  intro H locs ls cells slots hH hS hl b1 b2
  obtain ⟨ws, w1, w2, w3⟩ := id hH.1
  obtain ⟨q1, hq1⟩ := w1 a _ ha1
  have hlo : (rest.map fun v => v.category).sum + (nativeFrameWords "java/lang/System" "arraycopy" 5 + 11) ≤ R.locals := Nat.le_trans (Nat.add_le_add_left (Nat.le_of_ble_eq_true (by decide +kernel)) _) hlocals
  rcases ha0 with ha0 | ha0
  · obtain ⟨q0, hq0⟩ := w1 a0 _ ha0
    exact va_copyi C.1 C.2.1 (by rw [C.2.2.1, hl.1]) C.2.2.2.1 (C.2.2.2.2.1 _ hq) (C.2.2.2.2.1 _ q293) (C.2.2.2.2.1 _ q292) (C.2.2.2.2.1 _ q103) C.2.2.2.2.2.1.1 w2 w3 hS q0 q1 2 2 hq0 hq1 rfl rfl rfl h1 h2 h3 h4 h5 hfit hframes hlo hdg (fun H1 locs1 hP hD hS1 => kk H1 locs1 ls cells slots ⟨HW.set w1 hq1 hP hD, hm _⟩ hS1 hl b1 b2)
  · exact vk_copyt C.1 C.2.1 (by rw [C.2.2.1, hl.1]) C.2.2.2.1 (C.2.2.2.2.1 _ hq) (C.2.2.2.2.1 _ q293) (C.2.2.2.2.1 _ q292) (C.2.2.2.2.1 _ q103) C.2.2.2.2.2.1.1 w2 w3 hS (ha0 s C.2.2.2.2.2.1) q1 2 hq1 rfl h1 h2 h3 h4 h5 hfit hframes hlo hdg (fun H1 locs1 hP hD hS1 => kk H1 locs1 ls cells slots ⟨HW.set w1 hq1 hP hD, hm _⟩ hS1 hl b1 b2)
/-- copies of references, all of one class of the world -/
theorem jg_copyq (C : Cx G p s m args meth c cc own nL ret) (hm : FreeG G) {index : Nat} (hq : Cond.methodLink own index arraycopyName ∈ lw_all) {a0 a n0 n1 d0 d1 : Nat} {f g : Nat → Option Nat} {E0 E1 Cn : String} (ha0 : h a0 = some (.inl (G.2.2.1 d0, n0, .inr (.inr (.inr (.inr f)))))) (ha1 : h a = some (.inl (G.2.2.1 d1, n1, .inr (.inr (.inr (.inr g)))))) (ht0 : (tyl G.2.2.1)[d0]? = some (G.2.2.1 d0, .object E0)) (ht1 : (tyl G.2.2.1)[d1]? = some (G.2.2.1 d1, .object E1))
    {sp dp n : Int32} (h1 : ¬ sp < 0) (h2 : ¬ dp < 0) (h3 : ¬ n < 0) (h4 : sp.toNatClampNeg + n.toNatClampNeg ≤ n0) (h5 : dp.toNatClampNeg + n.toNatClampNeg ≤ n1) (hel : ∀ (H : Heap) (locs : List Loc), HG G h H → va_S (fun q => G.1 ≤ q) s.heap H locs → ∀ i : Nat, i < n.toNatClampNeg → ∀ y : Nat, f (sp.toNatClampNeg + i) = some y → ∃ cellV : Cell, H[y]? = some cellV ∧ cellV.vm.isStatics = false ∧ s.vm.findClass Cn = some cellV.cls) (hasg : va_Nw (.castable Cn E1) s) (hframes : 1 ≤ R.frames) (hlocals : (rest.map fun v => v.category).sum + 200 ≤ R.locals) (hdg : decode cc pc = .ok (.invokestatic index, 3))
    (kk : J G p l e R s m args below meth c nL Q bc bs (hup h a (.inl (G.2.2.1 d1, n1, .inr (.inr (.inr (.inr (va_cpy f g sp.toNatClampNeg dp.toNatClampNeg n.toNatClampNeg))))))) (pc + 3) L rest) : J G p l e R s m args below meth c nL Q bc bs h pc L (.int n :: .int dp :: .ref a :: .int sp :: .ref a0 :: rest) := by
  intro H locs ls cells slots hH hS hl b1 b2
  obtain ⟨ws, w1, w2, w3⟩ := id hH.1
  obtain ⟨q0, hq0⟩ := w1 a0 _ ha0
  obtain ⟨q1, hq1⟩ := w1 a _ ha1
  have hlo : (rest.map fun v => v.category).sum + (nativeFrameWords "java/lang/System" "arraycopy" 5 + 11) ≤ R.locals := Nat.le_trans (Nat.add_le_add_left (Nat.le_of_ble_eq_true (by decide +kernel)) _) hlocals
  exact va_copyq C.1 C.2.1 (by rw [C.2.2.1, hl.1]) C.2.2.2.1 (C.2.2.2.2.1 _ hq) (C.2.2.2.2.1 _ q293) (C.2.2.2.2.1 _ q292) (C.2.2.2.2.1 _ q103) C.2.2.2.2.2.1.1 w2 w3 hS q0 q1 d0 d1 hq0 hq1 ht0 ht1 h1 h2 h3 h4 h5 (hel H locs hH hS) (fun comp c0 g1 g2 => by
    obtain ⟨c3, t3, e1, e2, e3⟩ := Cond.castable_spec (va_Nw.use (A := args) rfl hasg)
    cases g1.symm.trans e2
    cases g2.symm.trans e1
    exact e3) hframes hlo hdg (fun H1 locs1 hP hD hS1 => kk H1 locs1 ls cells slots ⟨HW.set w1 hq1 hP hD, hm _⟩ hS1 hl b1 b2)
theorem jg_newq (C : Cx G p s m args meth c cc own nL ret) (hm : FreeG G) {E : String} {index d : Nat} (hcl : Cond.classLink own index E ∈ lw_all) (hover : va_AO E s) (hd : ∀ dA, (tyl dA)[d]? = some (dA d, .object E)) {n : Int32} {N' : Nat} (hn : ¬ n < 0) (hN : n.toNatClampNeg = N') (hbytes : N' * 4 ≤ 536870912) {bc' bs' : Nat} (hbc : bc' + 1 ≤ bc) (hbs : bs' + N' ≤ bs) (hdg : decode cc pc = .ok (.anewarray index, 3))
    (kk : ∀ q : Nat, h q = none → G.1 ≤ q → J G p l e R s m args below meth c nL Q bc' bs' (hup h q (.inl (G.2.2.1 d, N', .inr (.inr (.inr (.inr (fun _ => none))))))) (pc + 3) L (.ref q :: rest)) : J G p l e R s m args below meth c nL Q bc bs h pc L (.int n :: rest) := by
  intro H locs ls cells slots hH hS hl b1 b2
  obtain ⟨ws, h1, h2, h3⟩ := id hH.1
  refine va_newq C.1 C.2.1 C.2.2.2.1 (C.2.2.2.2.1 _ hcl) hover C.2.2.2.2.2.1.1 h2 h3 hS (fun q hq => Nat.le_trans C.2.2.2.2.2.1.2.2 hq) hn hN hbytes (by omega) (by omega) hdg (fun q cA H1 hK hP hD hS1 => ?_)
  have hcA : cA = G.2.2.1 d := by
    have z1 := (C.2.2.2.2.2.1.1.2 d _ (hd _)).2
    have z2 := (hK.2 (tyl G.2.2.1).length (cA, .object E) (by simp)).2
    obtain ⟨kA, comp, g1, g2, g3, g4⟩ := z1
    obtain ⟨kA', comp', g1', g2', g3', g4'⟩ := z2
    exact Option.some.inj (g4'.symm.trans g4)
  subst hcA
  obtain ⟨g1, g2, g3⟩ := HW.push h1 hP hD
  exact kk q g2 g3 H1 locs ls _ _ ⟨g1, hm _⟩ hS1 hl (by omega) (by omega)
end GC
