/-! A CALL OF AN ABSTRACT METHOD on an object that stands below the world (an enum's constant) -/
set_option maxRecDepth 100000
def RcvC (G : GT) (kq : Nat) (Cn : String) : Prop := ∀ U : State, G.2.2.2.1 U → ¬ G.1 ≤ kq ∧ ∃ cell : Cell, U.heap[kq]? = some cell ∧ cell.vm.isStatics = false ∧ U.vm.findClass Cn = some cell.cls
section EC
variable {G : GT} {p : Program} {l : Launch} {e : Env} {R : Room} {s : State} {m : MethodId} {args : Array Value} {below : List Frame} {meth : Method} {c : Code} {nL : Nat} {Q : State → Prop} {bc bs : Nat} {h : AH} {pc : Nat} {L : List (Nat × Value)} {rest : List Value} {cc : ByteArray} {own : String} {ret : Option FieldType}
theorem rcvc (C : Cx G p s m args meth c cc own nL ret) {kq : Nat} {Cn : String} (hk : RcvC G kq Cn) {H : Heap} {locs : List Loc} (hS : va_S (fun q => G.1 ≤ q) s.heap H locs) : ∃ cell : Cell, H[kq]? = some cell ∧ cell.vm.isStatics = false ∧ s.vm.findClass Cn = some cell.cls := by
  obtain ⟨h1, cell, h2, h3, h4⟩ := hk s C.2.2.2.2.2.1.2.1
  exact ⟨cell, by rw [hS.2.1 kq (Array.getElem?_eq_some_iff.mp h2).1 h1]; exact h2, h3, h4⟩
theorem j_callVA (C : Cx G p s m args meth c cc own nL ret) {x y : MethodName} {Cn : String} {cc' : ByteArray} {nL' : Nat} {ret' : Option FieldType} {fr lo mc ms n kq index : Nat} {As st : List Value} {Post : Option Value → AH → Prop} (hM : MT G l y cc' nL' ret' fr lo mc ms (.ref kq :: As) h Post) (hq : Cond.methodLink own index x ∈ lw_all) (hd : va_Nw (.declares x) s) (hsm : Cond.sameMethod x.cls x.cls x.name x.desc ∈ lw_all) (hsel : Cond.selects Cn x y ∈ lw_all) (hin : Cond.instanceMethod y ∈ lw_all) (hini : Cond.initialized y.cls ∈ lw_all) (hcd : Cond.code y cc' nL' ret' ∈ lw_all) (hxm : x.cls ≠ "java/lang/invoke/MethodHandle" ∧ x.cls ≠ "java/lang/invoke/VarHandle" ∧ (parseMethodDescriptor x.desc).map (fun d => d.parameters.length) = some n) (hk : RcvC G kq Cn) (hn : As.length = n) (hst : st = As.reverse ++ .ref kq :: rest) (hcat : (rest.map fun v => v.category).sum ≤ 8) (hR : fr + 1 ≤ R.frames ∧ 8 + (nL' + 11) + lo ≤ R.locals) (hmc : mc ≤ bc) (hms : ms ≤ bs) (hdg : decode cc pc = .ok (.invokevirtual index, 3))
    (kk : ∀ (v : Option Value) (h' : AH), Post v h' → J G p l e R s m args below meth c nL Q (bc - mc) (bs - ms) h' (pc + 3) L (v.toList ++ rest)) : J G p l e R s m args below meth c nL Q bc bs h pc L st := by
  refine j_run (a := (Value.ref kq :: As).toArray) C hmc hms (fun H locs ls cells slots hH hS hsz hf => ?_) kk
  have hgood : ∀ w ∈ ws_ y cc' nL' ret', ∀ (a' : Array Value) (U : State), s.WarmedH U.vm → w.before a' U = true := pay_in C.2.2.2.2.1 (lw_meth hcd)
  have hdecl : va_Decl s ⟨x.cls, x.name, x.desc⟩ := by
    obtain ⟨r0, r, g1, g2, g3, g4⟩ := Cond.declares_spec hd
    exact ⟨r0, r, g1, g2, g3, g4⟩
  have cw : va_CU R s args own Cn x.cls index x y cc' nL' ret' (ws_ y cc' nL' ret') ({ frames := fr, cells := mc, slots := ms, locals := lo }) mc ms n :=
    ⟨⟨rfl, rfl, hR.1, hR.2, hgood, List.mem_cons_self⟩, C.2.2.2.2.1 _ hcd, C.2.2.2.2.1 _ hini, ⟨hxm.1, hxm.2.1⟩, fun sig hs => by
      have h2 := hxm.2.2
      rw [hs] at h2
      exact (Option.some.inj h2).symm, C.2.2.2.2.1 _ hq, C.2.2.2.2.1 _ hsm, hdecl, C.2.2.2.2.1 _ hsel, C.2.2.2.2.1 _ hin⟩
  exact va_runU ⟨C.1, C.2.1, C.2.2.1, C.2.2.2.1, C.2.2.2.2.1⟩ hM cw ⟨SP.blind C.2.2.2.2.2.2.1, rcvc C hk hS, fun U hU hW => ⟨rfl, C.gw hS hU hW, by rw [hU]; exact hH⟩⟩ rfl hn hsz hst (lv_room hcat) hdg hf
end EC
