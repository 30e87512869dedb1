/-! GENERAL ROWS: the constructors of the town, its copy, of Known -/
set_option maxRecDepth 100000
section GN
variable {G : GT} {p : Program} {l : Launch} {e : Env} {R : Room} {s : State} {m : MethodId} {args : Array Value} {below : List Frame} {meth : Method} {c : Code} {nL : Nat} {Q : State → Prop} {bc bs : Nat} {h : AH} {pc : Nat} {L : List (Nat × Value)} {rest : List Value} {cc : ByteArray} {own : String} {ret : Option FieldType}
theorem jg_tcopy (C : Cx G p s m args meth c cc own nL ret) (hG : GOK G) (hT : TabF G) (hm : FreeG G) {index q o : Nat} {ad' : Nat → Nat} {T' : TS} (ha : h q = some (.inr (1, tfz))) (ho : ad' 0 = o) (hcells : ∀ k, k < 18 → h (ad' k) = some (tcell G.2.2.1 ad' T' k)) (hna : ∀ j, j < 18 → ad' j ≠ q) (hq : Cond.methodLink own index yX2_init_2 ∈ lw_all) (hcat : (rest.map fun v => v.category).sum ≤ 8) (hR : 2 ≤ R.frames ∧ 290 ≤ R.locals) (hmc : 17 ≤ bc) (hms : 102 ≤ bs) (hdg : decode cc pc = .ok (.invokespecial index, 3))
    (kk : ∀ ad : Nat → Nat, ad 0 = q → Tg ad → (∀ k, k < 18 → k ≠ 0 → h (ad k) = none ∧ G.1 ≤ ad k) → J G p l e R s m args below meth c nL Q (bc - 17) (bs - 102) (TH G.2.2.1 h ad T') (pc + 3) L rest) : J G p l e R s m args below meth c nL Q bc bs h pc L (.ref o :: .ref q :: rest) := by
  subst ho
  refine j_callI (n := 1) (As := [.ref (ad' 0)]) (rest := rest) C (M_tcopy G l hG hT hm h q ha ad' T' hcells hna) hq ⟨q289, q94, q290, rfl, by decide +kernel⟩ rfl rfl hcat ⟨hR.1, Nat.le_trans (Nat.le_of_ble_eq_true rfl) hR.2⟩ hmc hms hdg (fun v h' hv => ?_)
  obtain ⟨rfl, ad, T, h1, h2, h3, rfl, rfl⟩ := hv
  exact kk ad h1 h2 h3
theorem jg_tinit (C : Cx G p s m args meth c cc own nL ret) (hG : GOK G) (hT : TabF G) (hm : FreeG G) {index q : Nat} {P : TS → Prop} (ha : h q = some (.inr (1, tfz))) (hF : F_tinit P) (hq : Cond.methodLink own index yX2_init ∈ lw_all) (hcat : (rest.map fun v => v.category).sum ≤ 8) (hR : 2 ≤ R.frames ∧ 290 ≤ R.locals) (hmc : 17 ≤ bc) (hms : 102 ≤ bs) (hdg : decode cc pc = .ok (.invokespecial index, 3))
    (kk : ∀ (ad : Nat → Nat) (T : TS), ad 0 = q → Tg ad → (∀ k, k < 18 → k ≠ 0 → h (ad k) = none ∧ G.1 ≤ ad k) → P T → J G p l e R s m args below meth c nL Q (bc - 17) (bs - 102) (TH G.2.2.1 h ad T) (pc + 3) L rest) : J G p l e R s m args below meth c nL Q bc bs h pc L (.ref q :: rest) := by
  refine j_callI (n := 0) (As := []) (rest := rest) C (M_tinit G l hG hT hm h q ha P hF) hq ⟨q147, q94, q148, rfl, by decide +kernel⟩ rfl rfl hcat ⟨hR.1, Nat.le_trans (Nat.le_of_ble_eq_true rfl) hR.2⟩ hmc hms hdg (fun v h' hv => ?_)
  obtain ⟨rfl, ad, T, h1, h2, h3, rfl, h4⟩ := hv
  exact kk ad T h1 h2 h3 h4
theorem jg_knew (C : Cx G p s m args meth c cc own nL ret) (hG : GOK G) (hT : TabF G) (hLm : LamG G) (hm : FreeG G) {index q o : Nat} {ad : Nat → Nat} {T : TS} {P : TS → Prop} (ha : h q = some (.inr (3, kfz))) (hg : Tg ad) (ho : ad 0 = o) (hcells : ∀ k, k < 18 → h (ad k) = some (tcell G.2.2.1 ad T k)) (hF : F_known T P) (hq : Cond.methodLink own index yX8_init ∈ lw_all) (hcat : (rest.map fun v => v.category).sum ≤ 8) (hR : 14 ≤ R.frames ∧ 3700 ≤ R.locals) (hmc : 6 ≤ bc) (hms : 89 ≤ bs) (hdg : decode cc pc = .ok (.invokespecial index, 3))
    (kk : ∀ (kd : Nat → Nat) (K : TS), kd 0 = q → Kg kd → (∀ k, k < 5 → k ≠ 0 → h (kd k) = none ∧ G.1 ≤ kd k) → P K → J G p l e R s m args below meth c nL Q (bc - 6) (bs - 89) (KH G.2.2.1 h kd K) (pc + 3) L rest) : J G p l e R s m args below meth c nL Q bc bs h pc L (.ref o :: .ref q :: rest) := by
  subst ho
  refine j_callI (n := 1) (As := [.ref (ad 0)]) (rest := rest) C (M_knew G l hG hT hLm hm h q ha ad hg T hcells P hF) hq ⟨q679, q119, q680, rfl, by decide +kernel⟩ rfl rfl hcat ⟨hR.1, Nat.le_trans (Nat.le_of_ble_eq_true rfl) hR.2⟩ hmc hms hdg (fun v h' hv => ?_)
  obtain ⟨rfl, kd, K, h1, h2, h3, rfl, h4⟩ := hv
  exact kk kd K h1 h2 h3 h4
end GN
