/-! A METHOD'S BODY RUN IN PLACE: for a class of which no word says that it is initialised -/
set_option maxRecDepth 100000
def MB (G : GT) (l : Launch) (own : String) (cc : ByteArray) (nL : Nat) (ret : Option FieldType) (fr lo mc ms : Nat) (av : List Value) (h : AH) (Post : Option Value → AH → Prop) : Prop :=
  ∀ (p : Program) (e : Env) (s : State) (m : MethodId) (below : List Frame) (meth : Method) (c : Code) (args : Array Value) (Q : State → Prop), args = av.toArray → Q = MQ below (SQ G Post) args s mc ms (fun q => G.1 ≤ q) → Cx G p s m args meth c cc own nL ret → J G p l e ({ frames := fr, cells := mc, slots := ms, locals := lo }) s m args below meth c nL Q mc ms h 0 (lv_args 0 av) []
section BD
variable {G : GT} {p : Program} {l : Launch} {e : Env} {R : Room} {s : State} {m : MethodId} {args : Array Value} {below : List Frame} {meth : Method} {c : Code} {nL : Nat} {Q : State → Prop} {bc bs : Nat} {h : AH} {pc : Nat} {L : List (Nat × Value)} {rest : List Value} {cc : ByteArray} {own : String} {ret : Option FieldType}
theorem j_callVB (C : Cx G p s m args meth c cc own nL ret) {x y : MethodName} {Cn : String} {cc' : ByteArray} {nL' : Nat} {ret' : Option FieldType} {fr lo mc ms n kq index : Nat} {As st : List Value} {Post : Option Value → AH → Prop} (hM : MB G l y.cls cc' nL' ret' fr lo mc ms (.ref kq :: As) h Post) (hq : Cond.methodLink own index x ∈ lw_all) (hd : va_Nw (.declares x) s) (hsm : Cond.sameMethod x.cls x.cls x.name x.desc ∈ lw_all) (hsel : Cond.selects Cn x y ∈ lw_all) (hin : Cond.instanceMethod y ∈ lw_all) (hcd : Cond.code y cc' nL' ret' ∈ lw_all) (hxm : x.cls ≠ "java/lang/invoke/MethodHandle" ∧ x.cls ≠ "java/lang/invoke/VarHandle" ∧ (parseMethodDescriptor x.desc).map (fun d => d.parameters.length) = some n) (hpn : plainName y.cls = true) (hk : RcvC G kq Cn) (hn : As.length = n) (hst : st = As.reverse ++ .ref kq :: rest) (hav : (lg_sl (.ref kq :: As)).length ≤ nL') (hR : fr + 1 ≤ R.frames ∧ (rest.map fun v => v.category).sum + (nL' + 11) + lo ≤ R.locals) (hmc : mc ≤ bc) (hms : ms ≤ bs) (hdg : decode cc pc = .ok (.invokevirtual index, 3))
    (kk : ∀ (v : Option Value) (h' : AH), Post v h' → J G p l e R s m args below meth c nL Q (bc - mc) (bs - ms) h' (pc + 3) L (v.toList ++ rest)) : J G p l e R s m args below meth c nL Q bc bs h pc L st := by
  refine j_run (a := (Value.ref kq :: As).toArray) C hmc hms (fun H locs ls cells slots hH hS hsz hf => ?_) kk
  intro T hT X
  obtain ⟨cellB, hc1, hc2, hc3⟩ := rcvc C hk hS
  obtain ⟨r0, r, hn0, hrm, hstR, hsigR⟩ := Cond.declares_spec hd
  obtain ⟨cn, ck0, r1, hcn, hck0, hni, hf0, hn1⟩ := Cond.sameMethod_found (C.2.2.2.2.1 _ hsm)
  cases hn0.symm.trans hn1
  obtain ⟨mk, methM, hnamed, hmethM, -, habM⟩ := Cond.instanceMethod_spec (C.2.2.2.2.1 _ hin)
  obtain ⟨c2, r2, m2, q1, q2, q3, q4, kP, hkP, hkPi⟩ := Cond.selects_spec (C.2.2.2.2.1 _ hsel)
  cases hc3.symm.trans q1
  cases hf0.symm.trans q2
  cases hnamed.symm.trans q3
  obtain ⟨meth', ck, g1, g2, g3, g4, g5, g6, -⟩ := Cond.code_spec hnamed (C.2.2.2.2.1 _ hcd)
  cases hmethM.symm.trans g1
  have hselP : selectMethod e.platform s.vm cellB.cls r0 = .method mk := by rw [Launch.admits_selectMethod X.admits]; exact q4
  have hlen : As.length = r.sig.parameters.length := by
    have h2 := hxm.2.2
    rw [hsigR] at h2
    rw [hn]; exact (Option.some.inj h2).symm
  obtain ⟨vm₁, X₁, hstep₁⟩ := X.invokevirtualUp C.1 C.2.2.2.1 (C.2.2.2.2.1 _ hq) (C.2.2.2.2.1 _ hsm) ⟨hxm.1, hxm.2.1⟩ hn0 hrm hstR (a := kq) (cell := cellB) (by rw [hT]; exact hc1) (fun z hz => by rw [hz] at hc2; cases hc2) hselP hmethM habM hkP hkPi (g := F0 m pc ls st) rfl (argsL := As) (rest := rest) hlen hst (by rw [C.2.1]; exact hdg)
  have hA := X₁.warmed.alike
  obtain ⟨kx, hkx, hnx⟩ := className_of_methodNamed hnamed
  obtain ⟨Y₀, hin0⟩ := X₁.into (g := F0 m pc ls rest) rfl (by show ls.size = _; rw [hsz, C.2.2.1]) (by rw [C.2.1]; exact hdg) (.ref kq :: As : List Value).toArray (R' := { frames := fr, cells := mc, slots := ms, locals := lo }) (mk := mk) (methk := methM) (ck := ck) ((hA.method? mk).trans hmethM) g2 g6 (fun k3 hk3 => by
      obtain ⟨k', hk', he⟩ := hA.2.2 _ _ hkx
      cases hk'.symm.trans hk3
      exact plain_of_name (by rw [he]; show plainName kx.name = true; rw [hnx]; exact hpn)) hR.1 (by rw [g4]; show 2 * 0 + (rest.map fun v => v.category).sum + _ + _ ≤ _; have := hR.2; dsimp only; omega) (by dsimp only; omega) (by dsimp only; omega)
  have hheap : ((T.setVm vm₁).calling (F0 m pc ls rest) mk (.ref kq :: As : List Value).toArray).heap = H := hT
  have hgw : GW G (T.setVm vm₁) := C.gw hS hT X₁.warmed
  have Ci : Cx G p ((T.setVm vm₁).calling (F0 m pc ls rest) mk (.ref kq :: As : List Value).toArray) mk (.ref kq :: As : List Value).toArray methM ck cc' y.cls nL' ret' :=
    ⟨C.1, g3, g4, by show vm₁.findClass y.cls = _; exact (hA.findClass _ _).trans (findClass_of_methodNamed hnamed), fun w hw => pay_in C.2.2.2.2.1 lw_self w hw _ _ X₁.warmed, hgw.calling C.2.2.2.2.2.2.1, C.2.2.2.2.2.2.1, g5, g6⟩
  obtain ⟨t, st1, o, hrun, hended, ⟨⟨v, h', rfl, hp, hg1, hw1⟩, hF⟩, L1, ⟨-, hWe, hsame⟩, hfree⟩ := hM p e _ mk (.java (F0 m pc ls rest) :: below) methM ck _ _ rfl rfl Ci H [] _ 0 0 hH (by rw [hheap]; exact va_S.rf) (lv_entry (.ref kq :: As) (n := nL') hav) (by simp) (by simp) _ (by exact hT) Y₀
  obtain ⟨T', X', hW', -, ht⟩ := X₁.outOf (g := F0 m pc ls rest) rfl (by rw [C.2.1]; exact hdg) hended hWe hsame
  have e1 : T'.heap = t.heap := by rw [ht]; rfl
  have e2 : T'.vm = t.vm := by rw [ht]; rfl
  refine ⟨v, _, t, T', L1, hheap, X', hfree, e1, e2, ⟨⟨v, h', rfl, hp, hg1, hw1⟩, hF⟩, fun target hgo => hstep₁ _ fun acts => ?_⟩
  have := hin0 acts
  rw [g4, lg_entry_eq] at this
  rw [show (doInvoke e ((T.setVm vm₁).setTop { F0 m pc ls st with stack := rest }) acts mk (.ref kq :: As : List Value).toArray).1 = _ from this]
  rw [g4, lg_entry_eq, ht] at st1
  exact (Steps.weaken (mid := [.java (F0 m pc ls rest)]) st1).trans hgo
end BD
