/-! GENERAL ROWS: calls of the town's and of Known's methods out of a general mirror; rows of ints and of rows -/
set_option maxRecDepth 100000
section GT2
variable {G : GT} {p : Program} {l : Launch} {e : Env} {R : Room} {s : State} {m : MethodId} {args : Array Value} {below : List Frame} {meth : Method} {c : Code} {nL : Nat} {Q : State → Prop} {bc bs : Nat} {h : AH} {pc : Nat} {L : List (Nat × Value)} {rest : List Value} {cc : ByteArray} {own : String} {ret : Option FieldType} {ad : Nat → Nat} {T : TS}
theorem jg_callTi (C : Cx G p s m args meth c cc own nL ret) {y : MethodName} {cc' : ByteArray} {nL' fr lo mc ms n o index : Nat} {As st : List Value} {ret' : FieldType} {P : Int32 → TS → Prop} (hM : MT G l y cc' nL' (some ret') fr lo mc ms (.ref (ad 0) :: As) (TH G.2.2.1 h ad T) (fun v h' => ∃ (r : Int32) (S' : TS), v = some (.int r) ∧ h' = TH G.2.2.1 h ad S' ∧ P r S')) (hg : Tg ad) (ho : ad 0 = o) (hTH : TH G.2.2.1 h ad T = h) (hq : Cond.methodLink own index y ∈ lw_all) (hy : CalV y RX2 cc' nL' (some ret') n) (hn : As.length = n) (hst : st = As.reverse ++ .ref o :: rest) (hcat : (rest.map fun v => v.category).sum ≤ 8) (hR : fr + 1 ≤ R.frames ∧ 8 + (nL' + 11) + lo ≤ R.locals) (hmc : mc ≤ bc) (hms : ms ≤ bs) (hdg : decode cc pc = .ok (.invokevirtual index, 3))
    (kk : ∀ (r : Int32) (S' : TS), P r S' → J G p l e R s m args below meth c nL Q (bc - mc) (bs - ms) (TH G.2.2.1 h ad S') (pc + 3) L (.int r :: rest)) : J G p l e R s m args below meth c nL Q bc bs h pc L st := by
  subst ho
  have hr : TH G.2.2.1 h ad T (ad 0) = some (tcell G.2.2.1 ad T 0) := TH_at hg (k := 0) (by decide)
  rw [hTH] at hM hr
  exact j_callV C hM hq hy hr rfl hn hst hcat hR hmc hms hdg (fun v h' hv => by obtain ⟨r, S1, rfl, rfl, hP⟩ := hv; exact kk r S1 hP)
theorem jg_callTv (C : Cx G p s m args meth c cc own nL ret) {y : MethodName} {cc' : ByteArray} {nL' fr lo mc ms n o index : Nat} {As st : List Value} {P : TS → Prop} (hM : MT G l y cc' nL' none fr lo mc ms (.ref (ad 0) :: As) (TH G.2.2.1 h ad T) (fun v h' => ∃ (S' : TS), v = none ∧ h' = TH G.2.2.1 h ad S' ∧ P S')) (hg : Tg ad) (ho : ad 0 = o) (hTH : TH G.2.2.1 h ad T = h) (hq : Cond.methodLink own index y ∈ lw_all) (hy : CalV y RX2 cc' nL' none n) (hn : As.length = n) (hst : st = As.reverse ++ .ref o :: rest) (hcat : (rest.map fun v => v.category).sum ≤ 8) (hR : fr + 1 ≤ R.frames ∧ 8 + (nL' + 11) + lo ≤ R.locals) (hmc : mc ≤ bc) (hms : ms ≤ bs) (hdg : decode cc pc = .ok (.invokevirtual index, 3))
    (kk : ∀ (S' : TS), P S' → J G p l e R s m args below meth c nL Q (bc - mc) (bs - ms) (TH G.2.2.1 h ad S') (pc + 3) L rest) : J G p l e R s m args below meth c nL Q bc bs h pc L st := by
  subst ho
  have hr : TH G.2.2.1 h ad T (ad 0) = some (tcell G.2.2.1 ad T 0) := TH_at hg (k := 0) (by decide)
  rw [hTH] at hM hr
  exact j_callV C hM hq hy hr rfl hn hst hcat hR hmc hms hdg (fun v h' hv => by obtain ⟨S1, rfl, rfl, hP⟩ := hv; exact kk S1 hP)
theorem jg_callKi (C : Cx G p s m args meth c cc own nL ret) {kd : Nat → Nat} {y : MethodName} {cc' : ByteArray} {nL' fr lo mc ms n o index : Nat} {As st : List Value} {ret' : FieldType} {P : Int32 → TS → Prop} (hM : MT G l y cc' nL' (some ret') fr lo mc ms (.ref (kd 0) :: As) (KH G.2.2.1 h kd T) (fun v h' => ∃ (r : Int32) (S' : TS), v = some (.int r) ∧ h' = KH G.2.2.1 h kd S' ∧ P r S')) (hg : Kg kd) (ho : kd 0 = o) (hTH : KH G.2.2.1 h kd T = h) (hq : Cond.methodLink own index y ∈ lw_all) (hy : CalV y RX8 cc' nL' (some ret') n) (hn : As.length = n) (hst : st = As.reverse ++ .ref o :: rest) (hcat : (rest.map fun v => v.category).sum ≤ 8) (hR : fr + 1 ≤ R.frames ∧ 8 + (nL' + 11) + lo ≤ R.locals) (hmc : mc ≤ bc) (hms : ms ≤ bs) (hdg : decode cc pc = .ok (.invokevirtual index, 3))
    (kk : ∀ (r : Int32) (S' : TS), P r S' → J G p l e R s m args below meth c nL Q (bc - mc) (bs - ms) (KH G.2.2.1 h kd S') (pc + 3) L (.int r :: rest)) : J G p l e R s m args below meth c nL Q bc bs h pc L st := by
  subst ho
  have hr := KH_at (dA := G.2.2.1) (h := h) (K := T) hg (k := 0) (by decide)
  rw [hTH] at hM hr
  exact j_callV C hM hq hy hr rfl hn hst hcat hR hmc hms hdg (fun v h' hv => by obtain ⟨r, S1, rfl, rfl, hP⟩ := hv; exact kk r S1 hP)
end GT2
