/-! MasterPrices.check, isBetween; what a refused order leaves behind; rows of Town's methods that may refuse -/
set_option maxRecDepth 100000
theorem cal_check : CalS yX1_check cX1_check 3 none 3 := ⟨q303, q93, q304, by decide +kernel⟩
theorem cal_isBetween : CalS yX1_isBetween cX1_isBetween 3 (some .boolean) 3 := ⟨q407, q93, q408, by decide +kernel⟩
def bet (v lo hi : Int32) : Int32 := if lo ≤ v ∧ v ≤ hi then 1 else 0
set_option maxHeartbeats 1000000 in
theorem M_isBetween (G : GT) (l : Launch) (hG : GOK G) (h : AH) (v lo hi : Int32) : MT G l yX1_isBetween cX1_isBetween 3 (some .boolean) 0 0 0 0 [.int v, .int lo, .int hi] h (fun r h' => h' = h ∧ r = some (.int (bet v lo hi))) := by
  refine MT.mk (own := RX1) (by decide) rfl hG (Nat.le_of_ble_eq_true rfl) ?_
  intro p e s m below meth c args Q hargs hQ C _
  refine J.loca (L2 := [(0, .int v), (1, .int lo), (2, .int hi)]) rfl ?_
  rw [hQ]
  refine j_iload_n C dX1_isBetween_0 rfl 1 rfl ?_
  refine j_iload_n C dX1_isBetween_1 rfl 0 rfl ?_
  refine j_icmp_gt (tgt := 14) C dX1_isBetween_2 (by decide) (fun h1 => ?_) (fun h1 => ?_)
  · refine j_iconst (v := 0) C dX1_isBetween_14 rfl ?_
    exact j_iret C rfl ⟨rfl, by unfold bet; rw [if_neg (fun q => by have := q.1; rw [Int32.le_iff_toInt_le] at this; rw [Int32.lt_iff_toInt_lt] at h1; omega)]⟩ dX1_isBetween_15
  · refine j_iload_n C dX1_isBetween_5 rfl 0 rfl ?_
    refine j_iload_n C dX1_isBetween_6 rfl 2 rfl ?_
    refine j_icmp_gt (tgt := 14) C dX1_isBetween_7 (by decide) (fun h2 => ?_) (fun h2 => ?_)
    · refine j_iconst (v := 0) C dX1_isBetween_14 rfl ?_
      exact j_iret C rfl ⟨rfl, by unfold bet; rw [if_neg (fun q => by have := q.2; rw [Int32.le_iff_toInt_le] at this; rw [Int32.lt_iff_toInt_lt] at h2; omega)]⟩ dX1_isBetween_15
    · refine j_iconst (v := 1) C dX1_isBetween_10 rfl ?_
      refine j_goto (tgt := 15) C dX1_isBetween_11 (by decide) ?_
      exact j_iret C rfl ⟨rfl, by unfold bet; rw [if_pos]; rw [Int32.le_iff_toInt_le, Int32.le_iff_toInt_le]; rw [Int32.lt_iff_toInt_lt] at h1 h2; omega⟩ dX1_isBetween_15
/-- the exception that check throws -/
def RefX (G : GT) (h : AH) (X : Int32 → Int32 → Prop) : Addr → String → AH → Prop := fun q E h' => E = RX5 ∧ h q = none ∧ G.1 ≤ q ∧ ∃ (r d : Int32) (u0 sen : Value), X r d ∧ h' = hup h q (.inr (5, rfs q u0 sen r d none))
set_option maxHeartbeats 1000000 in
theorem M_check (G : GT) (l : Launch) (hG : GOK G) (hT : TabF G) (hX : ExcF G) (hfl : l.stackTraces = false) (hm : FreeG G) (h : AH) (b r d : Int32) (X : Int32 → Int32 → Prop) (hx : b = 0 → X r d) : MX G l yX1_check cX1_check 3 none 6 125 1 9 [.int b, .int r, .int d] h (fun v h' => v = none ∧ h' = h ∧ ¬ b = 0) (RefX G h X) := by
  refine MX.mk (own := RX1) (by decide) rfl hG (Nat.le_of_ble_eq_true rfl) ?_
  intro p e s m below meth c args Q hargs hQ C _ htab
  refine J.loca (L2 := [(0, .int b), (1, .int r), (2, .int d)]) rfl ?_
  rw [hQ]
  refine j_iload_n C dX1_check_0 rfl 0 rfl ?_
  refine j_if_ne (tgt := 14) C dX1_check_1 (by decide) (fun h1 => ?_) (fun h1 => ?_)
  · exact jx_vret C ⟨rfl, rfl, h1⟩ dX1_check_14
  · intro H locs ls cells slots hH hS hl b1 b2
    refine w_new (ci := 5) (fs := rfs0) C rfl in_X5 tyX5 tyX5_ok q287 q305 q106 (fun j hj => by rcases (show j = 0 ∨ j = 1 ∨ j = 2 ∨ j = 3 ∨ j = 4 ∨ j = 5 ∨ j = 6 ∨ j = 7 ∨ j = 8 by omega) with rfl | rfl | rfl | rfl | rfl | rfl | rfl | rfl | rfl <;> rfl) b1 b2 hm hH hS dX1_check_4 (fun q H1 hq hz hmon hH1 hS1 => ?_)
    refine lv_dup C.1 C.2.1 dX1_check_7 rfl ?_
    refine lv_iload_n C.1 C.2.1 dX1_check_8 rfl (lv_at hl 1 rfl) ?_
    refine lv_iload_n C.1 C.2.1 dX1_check_9 rfl (lv_at hl 2 rfl) ?_
    refine w_callIH (As := [.int r, .int d]) (rest := [.ref q]) C (M_refused2 G l hG hT hX hfl hm _ q r d hup_self) q350 cal_refused2 rfl rfl (Nat.le_of_ble_eq_true rfl) ⟨Nat.le_of_ble_eq_true rfl, Nat.le_of_ble_eq_true rfl⟩ (by omega) (by omega) hmon hH1 hS1 hl.1 dX1_check_10 (fun v h' H2 locs2 hp hH2 hS2 => ?_)
    obtain ⟨rfl, u0, sen, rfl⟩ := hp
    rw [hup_hup] at hH2
    suffices hJ : J G p l e ({ frames := 6, cells := 1, slots := 9, locals := 125 } : Room) s m args below meth c 3 (vx_MQ below (SQ G (fun v h' => v = none ∧ h' = h ∧ ¬ b = 0)) (XQ G (RefX G h X)) args s 1 9 (fun q => G.1 ≤ q)) 0 0 (hup h q (.inr (5, rfs q u0 sen r d none))) 13 [(0, .int b), (1, .int r), (2, .int d)] [.ref q] from hJ H2 locs2 ls _ _ hH2 hS2 hl b1 b2
    refine jx_athrow (E := RX5) C hup_self rfl dX1_check_13 ?_
    exact jx_out C (fun x hx => (htab x hx).elim) ⟨rfl, hq, hz, r, d, u0, sen, hx h1, rfl⟩
/-- a town's method that may refuse: its answer by P, the refusal by X -/
def TPX (G : GT) (h : AH) (ad : Nat → Nat) (X : Int32 → Int32 → Prop) : Addr → String → AH → Prop := fun q E h' => E = RX5 ∧ G.1 ≤ q ∧ ∃ (S' : TS) (r d : Int32) (u0 sen : Value), TH G.2.2.1 h ad S' q = none ∧ X r d ∧ h' = hup (TH G.2.2.1 h ad S') q (.inr (5, rfs q u0 sen r d none))
def TXi (G : GT) (l : Launch) (y : MethodName) (cc : ByteArray) (nL : Nat) (ret : FieldType) (fr lo mc ms : Nat) (av : List Value) (h : AH) (ad : Nat → Nat) (T : TS) (P : Int32 → TS → Prop) (X : Int32 → Int32 → Prop) : Prop := MX G l y cc nL (some ret) fr lo mc ms av (TH G.2.2.1 h ad T) (fun v h' => ∃ (r : Int32) (S' : TS), v = some (.int r) ∧ h' = TH G.2.2.1 h ad S' ∧ P r S') (TPX G h ad X)
def TXv (G : GT) (l : Launch) (y : MethodName) (cc : ByteArray) (nL : Nat) (fr lo mc ms : Nat) (av : List Value) (h : AH) (ad : Nat → Nat) (T : TS) (P : TS → Prop) (X : Int32 → Int32 → Prop) : Prop := MX G l y cc nL none fr lo mc ms av (TH G.2.2.1 h ad T) (fun v h' => ∃ (S' : TS), v = none ∧ h' = TH G.2.2.1 h ad S' ∧ P S') (TPX G h ad X)
section TXX
variable {G : GT} {p : Program} {l : Launch} {e : Env} {R : Room} {s : State} {m : MethodId} {args : Array Value} {below : List Frame} {meth : Method} {c : Code} {nL : Nat} {bc bs : Nat} {h : AH} {pc : Nat} {L : List (Nat × Value)} {rest : List Value} {cc : ByteArray} {ret : Option FieldType} {ad : Nat → Nat} {T : TS} {Post : Option Value → AH → Prop} {X : Int32 → Int32 → Prop}
/-- isBetween, from Town -/
theorem jt_between {Q : State → Prop} (C : Cx G p s m args meth c cc RX2 nL ret) (hG : GOK G) (hT : TabF G) {v lo hi : Int32} (hcat : (rest.map fun v => v.category).sum ≤ 8) (hR : 1 ≤ R.frames ∧ 22 ≤ R.locals) (hdg : decode cc pc = .ok (.invokestatic 92, 3)) (kk : J G p l e R s m args below meth c nL Q bc bs h (pc + 3) L (.int (bet v lo hi) :: rest)) : J G p l e R s m args below meth c nL Q bc bs h pc L (.int hi :: .int lo :: .int v :: rest) :=
  j_callSN (As := [.int v, .int lo, .int hi]) C (M_isBetween G l hG h v lo hi) (C.tab hT q406 rfl) cal_isBetween rfl rfl hcat hR (Nat.zero_le _) (Nat.zero_le _) hdg (fun r h' hp => by obtain ⟨rfl, rfl⟩ := hp; exact kk)
/-- check, from Town -/
theorem jt_check (C : Cx G p s m args meth c cc RX2 nL ret) (htab : ∀ x ∈ c.exceptionTable.toList, False) (hG : GOK G) (hT : TabF G) (hX : ExcF G) (hfl : l.stackTraces = false) (hm : FreeG G) {b r d : Int32} (hF : (b = 0 → X r d) ∧ (¬ b = 0 → True)) (hcat : (rest.map fun v => v.category).sum ≤ 8) (hR : 7 ≤ R.frames ∧ 147 ≤ R.locals) (hbc : 1 ≤ bc) (hbs : 9 ≤ bs) (hdg : decode cc pc = .ok (.invokestatic 85, 3)) (kk : ¬ b = 0 → J G p l e R s m args below meth c nL (vx_MQ below (SQ G Post) (XQ G (TPX G h ad X)) args s R.cells R.slots (fun q => G.1 ≤ q)) (bc - 1) (bs - 9) (TH G.2.2.1 h ad T) (pc + 3) L rest) : J G p l e R s m args below meth c nL (vx_MQ below (SQ G Post) (XQ G (TPX G h ad X)) args s R.cells R.slots (fun q => G.1 ≤ q)) bc bs (TH G.2.2.1 h ad T) pc L (.int d :: .int r :: .int b :: rest) :=
  jx_callSN (As := [.int b, .int r, .int d]) C (M_check G l hG hT hX hfl hm _ b r d X hF.1) (C.tab hT q302 rfl) cal_check rfl rfl hcat hR hbc hbs hdg
    (fun q E h' hp => by obtain ⟨rfl, a1, a2, r1, d1, u0, sen, a3, a4⟩ := hp; exact jx_out C (fun x hx => (htab x hx).elim) ⟨rfl, a2, T, r1, d1, u0, sen, a1, a3, a4⟩)
    (fun v h' hp => by obtain ⟨rfl, rfl, a⟩ := hp; exact kk a)
theorem jt_callxi (hg : Tg ad) (C : Cx G p s m args meth c cc RX2 nL ret) (htab : ∀ x ∈ c.exceptionTable.toList, False) {y : MethodName} {cc' : ByteArray} {nL' fr lo mc ms n index : Nat} {As st : List Value} {ret' : FieldType} {P : Int32 → TS → Prop} (hM : TXi G l y cc' nL' ret' fr lo mc ms (.ref (ad 0) :: As) h ad T P X) (hq : Cond.methodLink RX2 index y ∈ lw_all) (hy : CalV y RX2 cc' nL' (some ret') n) (hn : As.length = n) (hst : st = As.reverse ++ .ref (ad 0) :: rest) (hcat : (rest.map fun v => v.category).sum ≤ 8) (hR : fr + 1 ≤ R.frames ∧ 8 + (nL' + 11) + lo ≤ R.locals) (hbc : mc ≤ bc) (hbs : ms ≤ bs) (hdg : decode cc pc = .ok (.invokevirtual index, 3)) (kk : ∀ (r : Int32) (S' : TS), P r S' → J G p l e R s m args below meth c nL (vx_MQ below (SQ G Post) (XQ G (TPX G h ad X)) args s R.cells R.slots (fun q => G.1 ≤ q)) (bc - mc) (bs - ms) (TH G.2.2.1 h ad S') (pc + 3) L (.int r :: rest)) : J G p l e R s m args below meth c nL (vx_MQ below (SQ G Post) (XQ G (TPX G h ad X)) args s R.cells R.slots (fun q => G.1 ≤ q)) bc bs (TH G.2.2.1 h ad T) pc L st :=
  jx_callV C hM hq hy (TH_at hg (k := 0) (by decide)) rfl hn hst hcat hR hbc hbs hdg (fun q E h' hp => jx_out C (fun x hx => (htab x hx).elim) hp) (fun v h' hp => by obtain ⟨r, S1, rfl, rfl, a⟩ := hp; exact kk r S1 a)
theorem jt_callxv (hg : Tg ad) (C : Cx G p s m args meth c cc RX2 nL ret) (htab : ∀ x ∈ c.exceptionTable.toList, False) {y : MethodName} {cc' : ByteArray} {nL' fr lo mc ms n index : Nat} {As st : List Value} {P : TS → Prop} (hM : TXv G l y cc' nL' fr lo mc ms (.ref (ad 0) :: As) h ad T P X) (hq : Cond.methodLink RX2 index y ∈ lw_all) (hy : CalV y RX2 cc' nL' none n) (hn : As.length = n) (hst : st = As.reverse ++ .ref (ad 0) :: rest) (hcat : (rest.map fun v => v.category).sum ≤ 8) (hR : fr + 1 ≤ R.frames ∧ 8 + (nL' + 11) + lo ≤ R.locals) (hbc : mc ≤ bc) (hbs : ms ≤ bs) (hdg : decode cc pc = .ok (.invokevirtual index, 3)) (kk : ∀ (S' : TS), P S' → J G p l e R s m args below meth c nL (vx_MQ below (SQ G Post) (XQ G (TPX G h ad X)) args s R.cells R.slots (fun q => G.1 ≤ q)) (bc - mc) (bs - ms) (TH G.2.2.1 h ad S') (pc + 3) L rest) : J G p l e R s m args below meth c nL (vx_MQ below (SQ G Post) (XQ G (TPX G h ad X)) args s R.cells R.slots (fun q => G.1 ≤ q)) bc bs (TH G.2.2.1 h ad T) pc L st :=
  jx_callV C hM hq hy (TH_at hg (k := 0) (by decide)) rfl hn hst hcat hR hbc hbs hdg (fun q E h' hp => jx_out C (fun x hx => (htab x hx).elim) hp) (fun v h' hp => by obtain ⟨S1, rfl, rfl, a⟩ := hp; exact kk S1 a)
end TXX
