/-! THE TOWN's sums and years (printed by gen/gotown2.py) -/
set_option maxRecDepth 100000
section TA
variable {G : GT} {p : Program} {l : Launch} {e : Env} {R : Room} {s : State} {m : MethodId} {args : Array Value} {below : List Frame} {meth : Method} {c : Code} {nL : Nat} {Q : State → Prop} {bc bs : Nat} {h : AH} {pc : Nat} {L : List (Nat × Value)} {rest : List Value} {cc : ByteArray} {own : String} {ret : Option FieldType} {ad : Nat → Nat} {T : TS}
theorem jt_calliA (hg : Tg ad) (C : Cx G p s m args meth c cc own nL ret) {y : MethodName} {cc' : ByteArray} {nL' fr lo mc ms n index : Nat} {As st : List Value} {ret' : FieldType} {P : Int32 → TS → Prop} (hM : TMiA G l y cc' nL' ret' fr lo mc ms (.ref (ad 0) :: As) h ad T P) (hq : Cond.methodLink own index y ∈ lw_all) (hy : CalV y RX2 cc' nL' (some ret') n) (hn : As.length = n) (hst : st = As.reverse ++ .ref (ad 0) :: rest) (hcat : (rest.map fun v => v.category).sum ≤ 8) (hR : fr + 1 ≤ R.frames ∧ 8 + (nL' + 11) + lo ≤ R.locals) (hmc : mc ≤ bc) (hms : ms ≤ bs) (hdg : decode cc pc = .ok (.invokevirtual index, 3)) (kk : ∀ (r : Int32) (S' : TS), P r S' → J G p l e R s m args below meth c nL Q (bc - mc) (bs - ms) (TH G.2.2.1 h ad S') (pc + 3) L (.int r :: rest)) : J G p l e R s m args below meth c nL Q bc bs (TH G.2.2.1 h ad T) pc L st :=
  j_callV C hM hq hy (TH_at hg (k := 0) (by decide)) rfl hn hst hcat hR hmc hms hdg (fun v h' hv => by obtain ⟨r, S1, rfl, rfl, hP⟩ := hv; exact kk r S1 hP)
end TA
theorem cal_tsumOf : CalV yX2_sumOf RX2 cX2_sumOf 4 (some .int) 1 := ⟨q1781, q1782, q94, q1783, by decide +kernel⟩
def L_tsumOf3_4 (P : Int32 → TS → Prop) : Nat → TS → Int32 → Int32 → Prop
  | 0, _, _, _ => False
  | n + 1, T, z2, z3 => ((T 1) ≤ z3 → P z2 T) ∧ (¬ (T 1) ≤ z3 → (vp_in z3 6) ∧ (L_tsumOf3_4 P n T (z2 + (T (78 + Int32.toNatClampNeg (z3)))) (z3 + 1)))
def F_tsumOf3 (T : TS) (P : Int32 → TS → Prop) : Prop := L_tsumOf3_4  P NF T 0 0
set_option maxHeartbeats 4000000 in
theorem WL_tsumOf3_4 {G : GT} {p : Program} {l : Launch} {e : Env} {s : State} {m : MethodId} {args : Array Value} {below : List Frame} {meth : Method} {c : Code} {h : AH} {ad : Nat → Nat} {Q : State → Prop} (C : Cx G p s m args meth c cX2_sumOf RX2 4 (some .int)) (hG : GOK G) (hg : Tg ad) {P : Int32 → TS → Prop} (hQ : Q = MQ below (SQ G (fun v h' => ∃ (r : Int32) (S' : TS), v = some (.int r) ∧ h' = (TH G.2.2.1 h ad S') ∧ P r S')) args s (({ frames := 0, cells := 0, slots := 0, locals := 0 } : Room) : Room).cells (({ frames := 0, cells := 0, slots := 0, locals := 0 } : Room) : Room).slots (fun q => G.1 ≤ q)) :
    ∀ (n : Nat) (T : TS) (z2 : Int32) (z3 : Int32), L_tsumOf3_4 P n T z2 z3 → J G p l e ({ frames := 0, cells := 0, slots := 0, locals := 0 } : Room) s m args below meth c 4 Q 0 0 (TH G.2.2.1 h ad T) 4 [(0, .ref (ad 0)), (1, .ref (ad 3)), (2, .int z2), (3, .int z3)] [] := by
  intro n
  induction n with
  | zero => intro T z2 z3 hF; exact hF.elim
  | succ n ih =>
    intro T z2 z3 hF
    unfold L_tsumOf3_4 at hF
    refine j_iload_n C dX2_sumOf_4 rfl 3 rfl ?_
    refine j_aload_n C dX2_sumOf_5 rfl 0 rfl ?_
    refine jtG6 C hg dX2_sumOf_6 ?_
    refine j_icmp_ge (tgt := 24) C dX2_sumOf_9 (by decide) (fun hc_1 => ?_) (fun hc_1 => ?_)
    · replace hF := hF.1 hc_1
      refine j_iload_n C dX2_sumOf_24 rfl 2 rfl ?_
      rw [hQ]
      exact j_iret C rfl ⟨_, _, rfl, rfl, hF⟩ dX2_sumOf_25
    · replace hF := hF.2 hc_1
      refine j_iload_n C dX2_sumOf_12 rfl 2 rfl ?_
      refine j_aload_n C dX2_sumOf_13 rfl 1 rfl ?_
      refine j_iload_n C dX2_sumOf_14 rfl 3 rfl ?_
      obtain ⟨hgd, hF⟩ := hF
      refine jtL3 C hg hgd dX2_sumOf_15 ?_
      refine j_iadd C dX2_sumOf_16 ?_
      refine j_istore_n (L2 := [(2, .int (z2 + (T (78 + Int32.toNatClampNeg (z3))))), (0, .ref (ad 0)), (1, .ref (ad 3)), (3, .int z3)]) C dX2_sumOf_17 rfl (by decide) rfl ?_
      refine j_iinc (q := 3) (v := z3 + 1) (L2 := [(3, .int (z3 + 1)), (2, .int (z2 + (T (78 + Int32.toNatClampNeg (z3))))), (0, .ref (ad 0)), (1, .ref (ad 3))]) C dX2_sumOf_18 rfl rfl (by decide) rfl ?_
      refine j_goto (tgt := 4) C dX2_sumOf_21 (by decide) ?_
      exact J.locals [2, 3, 1, 0] (ih _ _ _ hF) rfl
set_option maxHeartbeats 4000000 in
theorem M_tsumOf3 (G : GT) (l : Launch) (hG : GOK G) (h : AH) (ad : Nat → Nat) (hg : Tg ad) (T : TS) (P : Int32 → TS → Prop) (hF : F_tsumOf3 T P) : TMi G l yX2_sumOf cX2_sumOf 4 .int 0 0 [.ref (ad 0), .ref (ad 3)] h ad T P := by
  refine MT.mk (own := RX2) (by decide) rfl hG (Nat.le_of_ble_eq_true rfl) ?_
  intro p e s m below meth c args Q hargs hQ C _
  refine J.loca (L2 := [(0, .ref (ad 0)), (1, .ref (ad 3))]) rfl ?_
  unfold F_tsumOf3 at hF
  refine j_iconst (v := 0) C dX2_sumOf_0 rfl ?_
  refine j_istore_n (L2 := [(2, .int 0), (0, .ref (ad 0)), (1, .ref (ad 3))]) C dX2_sumOf_1 rfl (by decide) rfl ?_
  refine j_iconst (v := 0) C dX2_sumOf_2 rfl ?_
  refine j_istore_n (L2 := [(3, .int 0), (2, .int 0), (0, .ref (ad 0)), (1, .ref (ad 3))]) C dX2_sumOf_3 rfl (by decide) rfl ?_
  refine J.locals [2, 3, 1, 0] (WL_tsumOf3_4 C hG hg hQ NF _ _ _ hF) rfl
def L_tsumOf4_4 (P : Int32 → TS → Prop) : Nat → TS → Int32 → Int32 → Prop
  | 0, _, _, _ => False
  | n + 1, T, z2, z3 => ((T 1) ≤ z3 → P z2 T) ∧ (¬ (T 1) ≤ z3 → (vp_in z3 6) ∧ (L_tsumOf4_4 P n T (z2 + (T (90 + Int32.toNatClampNeg (z3)))) (z3 + 1)))
def F_tsumOf4 (T : TS) (P : Int32 → TS → Prop) : Prop := L_tsumOf4_4  P NF T 0 0
set_option maxHeartbeats 4000000 in
theorem WL_tsumOf4_4 {G : GT} {p : Program} {l : Launch} {e : Env} {s : State} {m : MethodId} {args : Array Value} {below : List Frame} {meth : Method} {c : Code} {h : AH} {ad : Nat → Nat} {Q : State → Prop} (C : Cx G p s m args meth c cX2_sumOf RX2 4 (some .int)) (hG : GOK G) (hg : Tg ad) {P : Int32 → TS → Prop} (hQ : Q = MQ below (SQ G (fun v h' => ∃ (r : Int32) (S' : TS), v = some (.int r) ∧ h' = (TH G.2.2.1 h ad S') ∧ P r S')) args s (({ frames := 0, cells := 0, slots := 0, locals := 0 } : Room) : Room).cells (({ frames := 0, cells := 0, slots := 0, locals := 0 } : Room) : Room).slots (fun q => G.1 ≤ q)) :
    ∀ (n : Nat) (T : TS) (z2 : Int32) (z3 : Int32), L_tsumOf4_4 P n T z2 z3 → J G p l e ({ frames := 0, cells := 0, slots := 0, locals := 0 } : Room) s m args below meth c 4 Q 0 0 (TH G.2.2.1 h ad T) 4 [(0, .ref (ad 0)), (1, .ref (ad 4)), (2, .int z2), (3, .int z3)] [] := by
  intro n
  induction n with
  | zero => intro T z2 z3 hF; exact hF.elim
  | succ n ih =>
    intro T z2 z3 hF
    unfold L_tsumOf4_4 at hF
    refine j_iload_n C dX2_sumOf_4 rfl 3 rfl ?_
    refine j_aload_n C dX2_sumOf_5 rfl 0 rfl ?_
    refine jtG6 C hg dX2_sumOf_6 ?_
    refine j_icmp_ge (tgt := 24) C dX2_sumOf_9 (by decide) (fun hc_1 => ?_) (fun hc_1 => ?_)
    · replace hF := hF.1 hc_1
      refine j_iload_n C dX2_sumOf_24 rfl 2 rfl ?_
      rw [hQ]
      exact j_iret C rfl ⟨_, _, rfl, rfl, hF⟩ dX2_sumOf_25
    · replace hF := hF.2 hc_1
      refine j_iload_n C dX2_sumOf_12 rfl 2 rfl ?_
      refine j_aload_n C dX2_sumOf_13 rfl 1 rfl ?_
      refine j_iload_n C dX2_sumOf_14 rfl 3 rfl ?_
      obtain ⟨hgd, hF⟩ := hF
      refine jtL4 C hg hgd dX2_sumOf_15 ?_
      refine j_iadd C dX2_sumOf_16 ?_
      refine j_istore_n (L2 := [(2, .int (z2 + (T (90 + Int32.toNatClampNeg (z3))))), (0, .ref (ad 0)), (1, .ref (ad 4)), (3, .int z3)]) C dX2_sumOf_17 rfl (by decide) rfl ?_
      refine j_iinc (q := 3) (v := z3 + 1) (L2 := [(3, .int (z3 + 1)), (2, .int (z2 + (T (90 + Int32.toNatClampNeg (z3))))), (0, .ref (ad 0)), (1, .ref (ad 4))]) C dX2_sumOf_18 rfl rfl (by decide) rfl ?_
      refine j_goto (tgt := 4) C dX2_sumOf_21 (by decide) ?_
      exact J.locals [2, 3, 1, 0] (ih _ _ _ hF) rfl
set_option maxHeartbeats 4000000 in
theorem M_tsumOf4 (G : GT) (l : Launch) (hG : GOK G) (h : AH) (ad : Nat → Nat) (hg : Tg ad) (T : TS) (P : Int32 → TS → Prop) (hF : F_tsumOf4 T P) : TMi G l yX2_sumOf cX2_sumOf 4 .int 0 0 [.ref (ad 0), .ref (ad 4)] h ad T P := by
  refine MT.mk (own := RX2) (by decide) rfl hG (Nat.le_of_ble_eq_true rfl) ?_
  intro p e s m below meth c args Q hargs hQ C _
  refine J.loca (L2 := [(0, .ref (ad 0)), (1, .ref (ad 4))]) rfl ?_
  unfold F_tsumOf4 at hF
  refine j_iconst (v := 0) C dX2_sumOf_0 rfl ?_
  refine j_istore_n (L2 := [(2, .int 0), (0, .ref (ad 0)), (1, .ref (ad 4))]) C dX2_sumOf_1 rfl (by decide) rfl ?_
  refine j_iconst (v := 0) C dX2_sumOf_2 rfl ?_
  refine j_istore_n (L2 := [(3, .int 0), (2, .int 0), (0, .ref (ad 0)), (1, .ref (ad 4))]) C dX2_sumOf_3 rfl (by decide) rfl ?_
  refine J.locals [2, 3, 1, 0] (WL_tsumOf4_4 C hG hg hQ NF _ _ _ hF) rfl
theorem cal_tgoesBy : CalV yX2_goesBy RX2 cX2_goesBy 4 (some .int) 0 := ⟨q484, q485, q94, q486, by decide +kernel⟩
def L_tgoesBy_7 (K74 : TS → Prop) (P : Int32 → TS → Prop) (f1 : Int32) : Nat → TS → Int32 → Prop
  | 0, _, _ => False
  | n + 1, T, z2 => ((T 0) ≤ z2 → K74 T) ∧ (¬ (T 0) ≤ z2 → (vp_in z2 6) ∧ (((T (84 + Int32.toNatClampNeg (z2))) = (-1) → L_tgoesBy_7 K74 P f1 n T (z2 + 1)) ∧ (¬ (T (84 + Int32.toNatClampNeg (z2))) = (-1) → (vp_in z2 6) ∧ ((vp_in (T (84 + Int32.toNatClampNeg (z2))) 6) ∧ ((vp_in (T (84 + Int32.toNatClampNeg (z2))) 6) ∧ (nm (upd T (42 + 6 * Int32.toNatClampNeg (z2) + Int32.toNatClampNeg (T (84 + Int32.toNatClampNeg (z2)))) ((T (42 + 6 * Int32.toNatClampNeg (z2) + Int32.toNatClampNeg (T (84 + Int32.toNatClampNeg (z2))))) + 1)) (fun T_5 => (vp_in z2 6) ∧ ((vp_in z2 6) ∧ ((vp_in (T (84 + Int32.toNatClampNeg (z2))) 6) ∧ ((vp_in (T (84 + Int32.toNatClampNeg (z2))) 6) ∧ (nm (upd T_5 (6 + 6 * Int32.toNatClampNeg (z2) + Int32.toNatClampNeg (T (84 + Int32.toNatClampNeg (z2)))) (if 0 < ((T_5 (6 + 6 * Int32.toNatClampNeg (z2) + Int32.toNatClampNeg (T (84 + Int32.toNatClampNeg (z2))))) - 1) then ((T_5 (6 + 6 * Int32.toNatClampNeg (z2) + Int32.toNatClampNeg (T (84 + Int32.toNatClampNeg (z2))))) - 1) else 0)) (fun T_6 => (vp_in z2 6) ∧ (nm (upd T_6 (84 + Int32.toNatClampNeg (z2)) (-1)) (fun T_7 => L_tgoesBy_7 K74 P f1 n T_7 (z2 + 1)))))))))))))))
def L_tgoesBy_76 (P : Int32 → TS → Prop) (f1 : Int32) : Nat → TS → Int32 → Prop
  | 0, _, _ => False
  | n + 1, T, z2 => ((T 1) ≤ z2 → nm (upd T 2 ((T 2) + 1)) (fun T_10 => P f1 T_10)) ∧ (¬ (T 1) ≤ z2 → (vp_in z2 6) ∧ ((vp_in z2 6) ∧ (nm (upd T (78 + Int32.toNatClampNeg (z2)) ((T (78 + Int32.toNatClampNeg (z2))) / 2)) (fun T_11 => L_tgoesBy_76 P f1 n T_11 (z2 + 1)))))
def F_tgoesBy (T : TS) (P : Int32 → TS → Prop) : Prop := F_tcostOfPairs T (fun r_2 T_1 => L_tgoesBy_7 (fun T_8 => L_tgoesBy_76  P r_2 NF T_8 0) P r_2 NF T_1 0)
set_option maxHeartbeats 4000000 in
theorem WL_tgoesBy_7 {G : GT} {p : Program} {l : Launch} {e : Env} {s : State} {m : MethodId} {args : Array Value} {below : List Frame} {meth : Method} {c : Code} {h : AH} {ad : Nat → Nat} {Q : State → Prop} (C : Cx G p s m args meth c cX2_goesBy RX2 4 (some .int)) (hG : GOK G) (hg : Tg ad) (hm : FreeG G) {P : Int32 → TS → Prop} (hQ : Q = MQ below (SQ G (fun v h' => ∃ (r : Int32) (S' : TS), v = some (.int r) ∧ h' = (TH G.2.2.1 h ad S') ∧ P r S')) args s (({ frames := 6, cells := 1, slots := 1, locals := 3110 } : Room) : Room).cells (({ frames := 6, cells := 1, slots := 1, locals := 3110 } : Room) : Room).slots (fun q => G.1 ≤ q)) {K74 : TS → Prop} {f1 : Int32} (hK74 : ∀ (S0 : TS), K74 S0 → J G p l e ({ frames := 6, cells := 1, slots := 1, locals := 3110 } : Room) s m args below meth c 4 Q 0 0 (TH G.2.2.1 h ad S0) 74 [(0, .ref (ad 0)), (1, .int f1)] []) :
    ∀ (n : Nat) (T : TS) (z2 : Int32), L_tgoesBy_7 K74 P f1 n T z2 → J G p l e ({ frames := 6, cells := 1, slots := 1, locals := 3110 } : Room) s m args below meth c 4 Q 0 0 (TH G.2.2.1 h ad T) 7 [(0, .ref (ad 0)), (1, .int f1), (2, .int z2)] [] := by
  intro n
  induction n with
  | zero => intro T z2 hF; exact hF.elim
  | succ n ih =>
    intro T z2 hF
    unfold L_tgoesBy_7 at hF
    refine j_iload_n C dX2_goesBy_7 rfl 2 rfl ?_
    refine j_aload_n C dX2_goesBy_8 rfl 0 rfl ?_
    refine jtG5 C hg dX2_goesBy_9 ?_
    refine j_icmp_ge (tgt := 74) C dX2_goesBy_12 (by decide) (fun hc_3 => ?_) (fun hc_3 => ?_)
    · replace hF := hF.1 hc_3
      exact J.locals [0, 1] (hK74 _ hF) rfl
    · replace hF := hF.2 hc_3
      refine j_aload_n C dX2_goesBy_15 rfl 0 rfl ?_
      refine jtG4 C hg dX2_goesBy_16 ?_
      refine j_iload_n C dX2_goesBy_19 rfl 2 rfl ?_
      obtain ⟨hgd, hF⟩ := hF
      refine jtL5 C hg hgd dX2_goesBy_20 ?_
      refine j_istore_n (L2 := [(3, .int (T (84 + Int32.toNatClampNeg (z2)))), (0, .ref (ad 0)), (1, .int f1), (2, .int z2)]) C dX2_goesBy_21 rfl (by decide) rfl ?_
      refine j_iload_n C dX2_goesBy_22 rfl 0 rfl ?_
      refine j_iconst (v := (-1)) C dX2_goesBy_23 rfl ?_
      refine j_icmp_eq (tgt := 68) C dX2_goesBy_24 (by decide) (fun hc_4 => ?_) (fun hc_4 => ?_)
      · replace hF := hF.1 hc_4
        refine j_iinc (q := 3) (v := z2 + 1) (L2 := [(2, .int (z2 + 1)), (3, .int (T (84 + Int32.toNatClampNeg (z2)))), (0, .ref (ad 0)), (1, .int f1)]) C dX2_goesBy_68 rfl rfl (by decide) rfl ?_
        refine j_goto (tgt := 7) C dX2_goesBy_71 (by decide) ?_
        exact J.locals [2, 3, 0] (ih _ _ hF) rfl
      · replace hF := hF.2 hc_4
        refine j_aload_n C dX2_goesBy_27 rfl 1 rfl ?_
        refine jtG1 C hg dX2_goesBy_28 ?_
        refine j_iload_n C dX2_goesBy_31 rfl 3 rfl ?_
        obtain ⟨hgd, hF⟩ := hF
        have hw_4 := in_lt6 hgd
        refine jtO2 C hg hgd dX2_goesBy_32 ?_
        refine j_iload_n C dX2_goesBy_33 rfl 0 rfl ?_
        refine j_dup2 C dX2_goesBy_34 rfl rfl ?_
        obtain ⟨hgd, hF⟩ := hF
        refine jtLs C hg hw_4 hgd dX2_goesBy_35 ?_
        refine j_iconst (v := 1) C dX2_goesBy_36 rfl ?_
        refine j_iadd C dX2_goesBy_37 ?_
        obtain ⟨hgd, hF⟩ := hF
        refine jtSs C hg hm hw_4 hgd dX2_goesBy_38 ?_
        obtain ⟨T_5, eT_5, hF⟩ := nm_intro hF
        refine t_J eT_5 ?_
        refine j_aload_n C dX2_goesBy_39 rfl 1 rfl ?_
        refine jtG0 C hg dX2_goesBy_40 ?_
        refine j_iload_n C dX2_goesBy_43 rfl 3 rfl ?_
        obtain ⟨hgd, hF⟩ := hF
        have hw_5 := in_lt6 hgd
        refine jtO1 C hg hgd dX2_goesBy_44 ?_
        refine j_iload_n C dX2_goesBy_45 rfl 0 rfl ?_
        refine j_iconst (v := 0) C dX2_goesBy_46 rfl ?_
        refine j_aload_n C dX2_goesBy_47 rfl 1 rfl ?_
        refine jtG0 C hg dX2_goesBy_48 ?_
        refine j_iload_n C dX2_goesBy_51 rfl 3 rfl ?_
        obtain ⟨hgd, hF⟩ := hF
        have hw_6 := in_lt6 hgd
        refine jtO1 C hg hgd dX2_goesBy_52 ?_
        refine j_iload_n C dX2_goesBy_53 rfl 0 rfl ?_
        obtain ⟨hgd, hF⟩ := hF
        refine jtLc C hg hw_6 hgd dX2_goesBy_54 ?_
        refine j_iconst (v := 1) C dX2_goesBy_55 rfl ?_
        refine j_isub C dX2_goesBy_56 ?_
        refine j_mmax C (Nat.le_of_ble_eq_true rfl) (Nat.le_of_ble_eq_true rfl) q502 (Nat.le_of_ble_eq_true rfl) q503 q107 q504 dX2_goesBy_57 ?_
        obtain ⟨hgd, hF⟩ := hF
        refine jtSc C hg hm hw_5 hgd dX2_goesBy_60 ?_
        obtain ⟨T_6, eT_6, hF⟩ := nm_intro hF
        refine t_J eT_6 ?_
        refine j_aload_n C dX2_goesBy_61 rfl 1 rfl ?_
        refine jtG4 C hg dX2_goesBy_62 ?_
        refine j_iload_n C dX2_goesBy_65 rfl 3 rfl ?_
        refine j_iconst (v := (-1)) C dX2_goesBy_66 rfl ?_
        obtain ⟨hgd, hF⟩ := hF
        refine jtS5 C hg hm hgd dX2_goesBy_67 ?_
        obtain ⟨T_7, eT_7, hF⟩ := nm_intro hF
        refine t_J eT_7 ?_
        refine j_iinc (q := 3) (v := z2 + 1) (L2 := [(2, .int (z2 + 1)), (3, .int (T (84 + Int32.toNatClampNeg (z2)))), (0, .ref (ad 0)), (1, .int f1)]) C dX2_goesBy_68 rfl rfl (by decide) rfl ?_
        refine j_goto (tgt := 7) C dX2_goesBy_71 (by decide) ?_
        exact J.locals [2, 3, 0] (ih _ _ hF) rfl
set_option maxHeartbeats 4000000 in
theorem WL_tgoesBy_76 {G : GT} {p : Program} {l : Launch} {e : Env} {s : State} {m : MethodId} {args : Array Value} {below : List Frame} {meth : Method} {c : Code} {h : AH} {ad : Nat → Nat} {Q : State → Prop} (C : Cx G p s m args meth c cX2_goesBy RX2 4 (some .int)) (hG : GOK G) (hg : Tg ad) (hm : FreeG G) {P : Int32 → TS → Prop} (hQ : Q = MQ below (SQ G (fun v h' => ∃ (r : Int32) (S' : TS), v = some (.int r) ∧ h' = (TH G.2.2.1 h ad S') ∧ P r S')) args s (({ frames := 6, cells := 1, slots := 1, locals := 3110 } : Room) : Room).cells (({ frames := 6, cells := 1, slots := 1, locals := 3110 } : Room) : Room).slots (fun q => G.1 ≤ q)) {f1 : Int32} :
    ∀ (n : Nat) (T : TS) (z2 : Int32), L_tgoesBy_76 P f1 n T z2 → J G p l e ({ frames := 6, cells := 1, slots := 1, locals := 3110 } : Room) s m args below meth c 4 Q 0 0 (TH G.2.2.1 h ad T) 76 [(0, .ref (ad 0)), (1, .int f1), (2, .int z2)] [] := by
  intro n
  induction n with
  | zero => intro T z2 hF; exact hF.elim
  | succ n ih =>
    intro T z2 hF
    unfold L_tgoesBy_76 at hF
    refine j_iload_n C dX2_goesBy_76 rfl 2 rfl ?_
    refine j_aload_n C dX2_goesBy_77 rfl 0 rfl ?_
    refine jtG6 C hg dX2_goesBy_78 ?_
    refine j_icmp_ge (tgt := 100) C dX2_goesBy_81 (by decide) (fun hc_9 => ?_) (fun hc_9 => ?_)
    · replace hF := hF.1 hc_9
      refine j_aload_n C dX2_goesBy_100 rfl 0 rfl ?_
      refine j_dup C dX2_goesBy_101 rfl ?_
      refine jtG8 C hg dX2_goesBy_102 ?_
      refine j_iconst (v := 1) C dX2_goesBy_105 rfl ?_
      refine j_iadd C dX2_goesBy_106 ?_
      refine jtP8 C hg hm dX2_goesBy_107 ?_
      obtain ⟨T_10, eT_10, hF⟩ := nm_intro hF
      refine t_J eT_10 ?_
      refine j_iload_n C dX2_goesBy_110 rfl 1 rfl ?_
      rw [hQ]
      exact j_iret C rfl ⟨_, _, rfl, rfl, hF⟩ dX2_goesBy_111
    · replace hF := hF.2 hc_9
      refine j_aload_n C dX2_goesBy_84 rfl 0 rfl ?_
      refine jtG2 C hg dX2_goesBy_85 ?_
      refine j_iload_n C dX2_goesBy_88 rfl 2 rfl ?_
      refine j_dup2 C dX2_goesBy_89 rfl rfl ?_
      obtain ⟨hgd, hF⟩ := hF
      refine jtL3 C hg hgd dX2_goesBy_90 ?_
      refine j_iconst (v := 2) C dX2_goesBy_91 rfl ?_
      refine j_idiv C dX2_goesBy_92 (by decide) ?_
      obtain ⟨hgd, hF⟩ := hF
      refine jtS3 C hg hm hgd dX2_goesBy_93 ?_
      obtain ⟨T_11, eT_11, hF⟩ := nm_intro hF
      refine t_J eT_11 ?_
      refine j_iinc (q := 2) (v := z2 + 1) (L2 := [(2, .int (z2 + 1)), (0, .ref (ad 0)), (1, .int f1)]) C dX2_goesBy_94 rfl rfl (by decide) rfl ?_
      refine j_goto (tgt := 76) C dX2_goesBy_97 (by decide) ?_
      exact J.locals [1, 2, 0] (ih _ _ hF) rfl
set_option maxHeartbeats 4000000 in
theorem M_tgoesBy (G : GT) (l : Launch) (hG : GOK G) (hTab : TabF G) (hLm : LamG G) (hm : FreeG G) (h : AH) (ad : Nat → Nat) (hg : Tg ad) (T : TS) (P : Int32 → TS → Prop) (hF : F_tgoesBy T P) : TMiA G l yX2_goesBy cX2_goesBy 4 .int 6 3110 1 1 [.ref (ad 0)] h ad T P := by
  refine MT.mk (own := RX2) (by decide) rfl hG (Nat.le_of_ble_eq_true rfl) ?_
  intro p e s m below meth c args Q hargs hQ C _
  refine J.loca (L2 := [(0, .ref (ad 0))]) rfl ?_
  unfold F_tgoesBy at hF
  refine j_aload_n C dX2_goesBy_0 rfl 0 rfl ?_
  refine jt_calliA hg (As := []) (rest := []) C (M_tcostOfPairs G l hG hTab hLm hm h ad hg T _ hF) q487 cal_tcostOfPairs rfl rfl (Nat.le_of_ble_eq_true rfl) ⟨Nat.le_of_ble_eq_true rfl, Nat.le_of_ble_eq_true rfl⟩ (Nat.le_of_ble_eq_true rfl) (Nat.le_of_ble_eq_true rfl) dX2_goesBy_1 (fun r_2 T_1 hF => ?_)
  refine j_istore_n (L2 := [(1, .int r_2), (0, .ref (ad 0))]) C dX2_goesBy_4 rfl (by decide) rfl ?_
  refine j_iconst (v := 0) C dX2_goesBy_5 rfl ?_
  refine j_istore_n (L2 := [(2, .int 0), (1, .int r_2), (0, .ref (ad 0))]) C dX2_goesBy_6 rfl (by decide) rfl ?_
  refine J.locals [2, 1, 0] (WL_tgoesBy_7 C hG hg hm hQ ?_ NF _ _ hF) rfl
  · intro T_8 hF
    refine j_iconst (v := 0) C dX2_goesBy_74 rfl ?_
    refine j_istore_n (L2 := [(2, .int 0), (0, .ref (ad 0)), (1, .int r_2)]) C dX2_goesBy_75 rfl (by decide) rfl ?_
    refine J.locals [1, 2, 0] (WL_tgoesBy_76 C hG hg hm hQ NF _ _ hF) rfl
