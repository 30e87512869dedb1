/-! Town.ranked -/
set_option maxRecDepth 100000
abbrev FWT : Type := TS → Int32 → (Int32 → TS → Prop) → Prop
def WorthRow (G : GT) (l : Launch) (ad : Nat → Nat) (kq : Addr) (FW : FWT) : Prop :=
  ∀ {p : Program} {e : Env} {R : Room} {s : State} {m : MethodId} {args : Array Value} {below : List Frame} {meth : Method} {c : Code} {nL : Nat} {Q : State → Prop} {bc bs bc' bs' : Nat} {h : AH} {pc : Nat} {L : List (Nat × Value)} {rest : List Value} {cc : ByteArray} {ret : Option FieldType} {T : TS} {i : Int32} {P : Int32 → TS → Prop} (C : Cx G p s m args meth c cc RX2 nL ret), FW T i P → 7 ≤ R.frames → (rest.map fun v => v.category).sum ≤ 8 → 3300 ≤ R.locals → bc' + 1 ≤ bc → bs' + 2 ≤ bs → decode cc pc = .ok (.invokevirtual 158, 3) →
    (∀ (r : Int32) (S' : TS), P r S' → J G p l e R s m args below meth c nL Q bc' bs' (TH G.2.2.1 h ad S') (pc + 3) L (.int r :: rest)) → J G p l e R s m args below meth c nL Q bc bs (TH G.2.2.1 h ad T) pc L (.int i :: .ref (ad 0) :: .ref kq :: rest)
def yWorth : MethodName := ({ cls := "MasterPrices$Kind", name := "worth", desc := "(LMasterPrices$Town;I)I" } : Jvm.MethodName)
theorem worthRow1 {G : GT} {l : Launch} {ad : Nat → Nat} {kq : Addr} (hG : GOK G) (hT : TabF G) (hg : Tg ad) (hk : RcvC G kq "MasterPrices$Kind$1") : WorthRow G l ad kq F_worth1 := by
  intro p e R s m args below meth c nL Q bc bs bc' bs' h pc L rest cc ret T i P C hF hfr hcat hlo hbc hbs hdg kk
  refine j_callVB (n := 2) C (x := yWorth) (y := yX14_worth) (As := [.ref (ad 0), .int i]) (rest := rest) (M_worth1 G l hG hT h ad hg T kq i P hF) q1404 (C.tab hT q1405 rfl) q1406 q1407 q1408 q1409 ⟨by decide, by decide, by decide +kernel⟩ (by decide) hk rfl rfl (Nat.le_of_ble_eq_true rfl) ⟨by omega, by omega⟩ (Nat.zero_le _) (Nat.zero_le _) hdg (fun v h' hv => ?_)
  obtain ⟨r, S, rfl, rfl, hP⟩ := hv
  exact J.weaken (kk r S hP) (fun _ _ z => z) (by omega) (by omega)
theorem worthRow2 {G : GT} {l : Launch} {ad : Nat → Nat} {kq : Addr} (hG : GOK G) (hT : TabF G) (hLm : LamG G) (hm : FreeG G) (hg : Tg ad) (hk : RcvC G kq "MasterPrices$Kind$2") : WorthRow G l ad kq F_worth2 := by
  intro p e R s m args below meth c nL Q bc bs bc' bs' h pc L rest cc ret T i P C hF hfr hcat hlo hbc hbs hdg kk
  refine j_callVB (n := 2) C (x := yWorth) (y := yX18_worth) (As := [.ref (ad 0), .int i]) (rest := rest) (M_worth2 G l hG hT hLm hm h ad hg T kq i P hF) q1404 (C.tab hT q1405 rfl) q1406 q1410 q1411 q1412 ⟨by decide, by decide, by decide +kernel⟩ (by decide) hk rfl rfl (Nat.le_of_ble_eq_true rfl) ⟨by omega, by omega⟩ (by omega) (by omega) hdg (fun v h' hv => ?_)
  obtain ⟨r, S, rfl, rfl, hP⟩ := hv
  exact J.weaken (kk r S hP) (fun _ _ z => z) (by omega) (by omega)
theorem worthRow3 {G : GT} {l : Launch} {ad : Nat → Nat} {kq : Addr} (hG : GOK G) (hT : TabF G) (hg : Tg ad) (hk : RcvC G kq "MasterPrices$Kind$3") : WorthRow G l ad kq F_worth3 := by
  intro p e R s m args below meth c nL Q bc bs bc' bs' h pc L rest cc ret T i P C hF hfr hcat hlo hbc hbs hdg kk
  refine j_callVB (n := 2) C (x := yWorth) (y := yX13_worth) (As := [.ref (ad 0), .int i]) (rest := rest) (M_worth3 G l hG hT h ad hg T kq i P hF) q1404 (C.tab hT q1405 rfl) q1406 q1414 q1415 q1416 ⟨by decide, by decide, by decide +kernel⟩ (by decide) hk rfl rfl (Nat.le_of_ble_eq_true rfl) ⟨by omega, by omega⟩ (Nat.zero_le _) (Nat.zero_le _) hdg (fun v h' hv => ?_)
  obtain ⟨r, S, rfl, rfl, hP⟩ := hv
  exact J.weaken (kk r S hP) (fun _ _ z => z) (by omega) (by omega)
def L_rank_16 (FW : FWT) (K : TS → Int32 → Prop) (k : Int32) : Nat → TS → Int32 → Int32 → Prop
  | 0, _, _, _ => False
  | n + 1, T, z4, z5 => (T 1 ≤ z5 → K T z4) ∧ (¬ T 1 ≤ z5 → FW T z5 (fun r1 S1 => FW S1 k (fun r2 S2 => (0 < r1 - r2 → L_rank_16 FW K k n S2 (z4 + 1) (z5 + 1)) ∧ (¬ 0 < r1 - r2 → (r1 - r2 = 0 → (k ≤ z5 → L_rank_16 FW K k n S2 (z4 + 0) (z5 + 1)) ∧ (¬ k ≤ z5 → L_rank_16 FW K k n S2 (z4 + 1) (z5 + 1))) ∧ (¬ r1 - r2 = 0 → L_rank_16 FW K k n S2 (z4 + 0) (z5 + 1))))))
def L_rank_2 (FW : FWT) (P : Int32 → TS → Prop) (pl : Int32) : Nat → TS → Int32 → Prop
  | 0, _, _ => False
  | n + 1, T, z3 => (T 1 ≤ z3 → P (-1) T) ∧ (¬ T 1 ≤ z3 → L_rank_16 FW (fun S z4 => (z4 = pl → P z3 S) ∧ (¬ z4 = pl → L_rank_2 FW P pl n S (z3 + 1))) z3 7 T 0 0)
def F_tranked (FW : FWT) (T : TS) (pl : Int32) (P : Int32 → TS → Prop) : Prop := L_rank_2 FW P pl 7 T 0
section RK
variable {G : GT} {p : Program} {l : Launch} {e : Env} {s : State} {m : MethodId} {args : Array Value} {below : List Frame} {meth : Method} {c : Code} {Q : State → Prop} {h : AH} {ad : Nat → Nat} {kq : Addr} {FW : FWT}
set_option maxHeartbeats 4000000 in
theorem W_rank_16 (C : Cx G p s m args meth c cX2_ranked RX2 7 (some .int)) (hg : Tg ad) (hrow : WorthRow G l ad kq FW) {K : TS → Int32 → Prop} {k pl : Int32} {b0 s0 : Nat} (hK : ∀ (S : TS) (z4 : Int32), K S z4 → J G p l e ({ frames := 8, cells := 110, slots := 220, locals := 3400 } : Room) s m args below meth c 7 Q b0 s0 (TH G.2.2.1 h ad S) 73 [(0, .ref (ad 0)), (1, .ref kq), (2, .int pl), (3, .int k), (4, .int z4)] []) :
    ∀ (n : Nat) (T : TS) (z4 z5 : Int32), L_rank_16 FW K k n T z4 z5 → J G p l e ({ frames := 8, cells := 110, slots := 220, locals := 3400 } : Room) s m args below meth c 7 Q (b0 + 2 * n) (s0 + 4 * n) (TH G.2.2.1 h ad T) 16 [(0, .ref (ad 0)), (1, .ref kq), (2, .int pl), (3, .int k), (4, .int z4), (5, .int z5)] [] := by
  intro n
  induction n with
  | zero => intro T z4 z5 hF; exact hF.elim
  | succ n ih =>
    intro T z4 z5 hF
    unfold L_rank_16 at hF
    refine j_iload C dX2_ranked_16 5 rfl ?_
    refine j_aload_n C dX2_ranked_18 rfl 0 rfl ?_
    refine jtG6 C hg dX2_ranked_19 ?_
    refine j_icmp_ge (tgt := 73) C dX2_ranked_22 (by decide) (fun hc => ?_) (fun hc => ?_)
    · exact J.weaken (J.locals [0, 1, 2, 3, 4] (hK _ _ (hF.1 hc)) rfl) (fun _ _ z => z) (by omega) (by omega)
    · replace hF := hF.2 hc
      refine j_aload_n C dX2_ranked_25 rfl 1 rfl ?_
      refine j_aload_n C dX2_ranked_26 rfl 0 rfl ?_
      refine j_iload C dX2_ranked_27 5 rfl ?_
      refine hrow (bc' := b0 + 2 * n + 1) (bs' := s0 + 4 * n + 2) C hF (Nat.le_of_ble_eq_true rfl) (Nat.le_of_ble_eq_true rfl) (Nat.le_of_ble_eq_true rfl) (by omega) (by omega) dX2_ranked_29 (fun r1 S1 hF => ?_)
      refine j_aload_n C dX2_ranked_32 rfl 1 rfl ?_
      refine j_aload_n C dX2_ranked_33 rfl 0 rfl ?_
      refine j_iload_n C dX2_ranked_34 rfl 3 rfl ?_
      refine hrow (bc' := b0 + 2 * n) (bs' := s0 + 4 * n) C hF (Nat.le_of_ble_eq_true rfl) (Nat.le_of_ble_eq_true rfl) (Nat.le_of_ble_eq_true rfl) (by omega) (by omega) dX2_ranked_35 (fun r2 S2 hF => ?_)
      refine j_isub C dX2_ranked_38 ?_
      refine j_istore (L2 := [(6, .int (r1 - r2)), (0, .ref (ad 0)), (1, .ref kq), (2, .int pl), (3, .int k), (4, .int z4), (5, .int z5)]) C dX2_ranked_39 (by decide) rfl ?_
      refine j_iload C dX2_ranked_41 5 rfl ?_
      refine j_iload C dX2_ranked_43 0 rfl ?_
      have fin : ∀ d : Int32, L_rank_16 FW K k n S2 (z4 + d) (z5 + 1) → J G p l e ({ frames := 8, cells := 110, slots := 220, locals := 3400 } : Room) s m args below meth c 7 Q (b0 + 2 * n) (s0 + 4 * n) (TH G.2.2.1 h ad S2) 64 [(6, .int (r1 - r2)), (0, .ref (ad 0)), (1, .ref kq), (2, .int pl), (3, .int k), (4, .int z4), (5, .int z5)] [.int d, .int z4] := by
        intro d hF
        refine j_iadd C dX2_ranked_64 ?_
        refine j_istore (L2 := [(4, .int (z4 + d)), (6, .int (r1 - r2)), (0, .ref (ad 0)), (1, .ref kq), (2, .int pl), (3, .int k), (5, .int z5)]) C dX2_ranked_65 (by decide) rfl ?_
        refine j_iinc (q := 6) (v := z5 + 1) (L2 := [(5, .int (z5 + 1)), (4, .int (z4 + d)), (6, .int (r1 - r2)), (0, .ref (ad 0)), (1, .ref kq), (2, .int pl), (3, .int k)]) C dX2_ranked_67 rfl rfl (by decide) rfl ?_
        refine j_goto (tgt := 16) C dX2_ranked_70 (by decide) ?_
        exact J.locals [3, 4, 5, 6, 1, 0] (ih _ _ _ hF) rfl
      refine j_if_gt (tgt := 59) C dX2_ranked_45 (by decide) (fun h1 => ?_) (fun h1 => ?_)
      · refine j_iconst (v := 1) C dX2_ranked_59 rfl ?_
        refine j_goto (tgt := 64) C dX2_ranked_60 (by decide) ?_
        exact fin 1 (hF.1 h1)
      · replace hF := hF.2 h1
        refine j_iload C dX2_ranked_48 0 rfl ?_
        refine j_if_ne (tgt := 63) C dX2_ranked_50 (by decide) (fun h2 => ?_) (fun h2 => ?_)
        · refine j_iconst (v := 0) C dX2_ranked_63 rfl ?_
          exact fin 0 (hF.2 h2)
        · replace hF := hF.1 h2
          refine j_iload C dX2_ranked_53 6 rfl ?_
          refine j_iload_n C dX2_ranked_55 rfl 4 rfl ?_
          refine j_icmp_ge (tgt := 63) C dX2_ranked_56 (by decide) (fun h3 => ?_) (fun h3 => ?_)
          · refine j_iconst (v := 0) C dX2_ranked_63 rfl ?_
            exact fin 0 (hF.1 h3)
          · refine j_iconst (v := 1) C dX2_ranked_59 rfl ?_
            refine j_goto (tgt := 64) C dX2_ranked_60 (by decide) ?_
            exact fin 1 (hF.2 h3)
set_option maxHeartbeats 4000000 in
theorem W_rank_2 (C : Cx G p s m args meth c cX2_ranked RX2 7 (some .int)) (hg : Tg ad) (hrow : WorthRow G l ad kq FW) {P : Int32 → TS → Prop} {pl : Int32} (hQ : Q = MQ below (SQ G (fun v h' => ∃ (r : Int32) (S' : TS), v = some (.int r) ∧ h' = TH G.2.2.1 h ad S' ∧ P r S')) args s 110 220 (fun q => G.1 ≤ q)) :
    ∀ (n : Nat) (T : TS) (z3 : Int32), L_rank_2 FW P pl n T z3 → J G p l e ({ frames := 8, cells := 110, slots := 220, locals := 3400 } : Room) s m args below meth c 7 Q (14 * n) (28 * n) (TH G.2.2.1 h ad T) 2 [(0, .ref (ad 0)), (1, .ref kq), (2, .int pl), (3, .int z3)] [] := by
  intro n
  induction n with
  | zero => intro T z3 hF; exact hF.elim
  | succ n ih =>
    intro T z3 hF
    unfold L_rank_2 at hF
    refine j_iload_n C dX2_ranked_2 rfl 3 rfl ?_
    refine j_aload_n C dX2_ranked_3 rfl 0 rfl ?_
    refine jtG6 C hg dX2_ranked_4 ?_
    refine j_icmp_ge (tgt := 87) C dX2_ranked_7 (by decide) (fun hc => ?_) (fun hc => ?_)
    · refine j_iconst (v := -1) C dX2_ranked_87 rfl ?_
      refine J.weaken (bc' := 0) (bs' := 0) ?_ (fun _ _ z => z) (Nat.zero_le _) (Nat.zero_le _)
      rw [hQ]
      exact j_iret C rfl ⟨_, _, rfl, rfl, hF.1 hc⟩ dX2_ranked_88
    · replace hF := hF.2 hc
      refine j_iconst (v := 0) C dX2_ranked_10 rfl ?_
      refine j_istore (L2 := [(4, .int 0), (0, .ref (ad 0)), (1, .ref kq), (2, .int pl), (3, .int z3)]) C dX2_ranked_11 (by decide) rfl ?_
      refine j_iconst (v := 0) C dX2_ranked_13 rfl ?_
      refine j_istore (L2 := [(5, .int 0), (4, .int 0), (0, .ref (ad 0)), (1, .ref kq), (2, .int pl), (3, .int z3)]) C dX2_ranked_14 (by decide) rfl ?_
      refine J.weaken (bc' := 14 * n + 2 * 7) (bs' := 28 * n + 4 * 7) ?_ (fun _ _ z => z) (by omega) (by omega)
      refine J.locals [2, 3, 4, 5, 1, 0] (W_rank_16 C hg hrow (b0 := 14 * n) (s0 := 28 * n) (pl := pl) (fun S z4 hF => ?_) 7 _ _ _ hF) rfl
      refine j_iload C dX2_ranked_73 4 rfl ?_
      refine j_iload_n C dX2_ranked_75 rfl 2 rfl ?_
      refine j_icmp_ne (tgt := 81) C dX2_ranked_76 (by decide) (fun h1 => ?_) (fun h1 => ?_)
      · refine j_iinc (q := 3) (v := z3 + 1) (L2 := [(3, .int (z3 + 1)), (0, .ref (ad 0)), (1, .ref kq), (2, .int pl), (4, .int z4)]) C dX2_ranked_81 rfl rfl (by decide) rfl ?_
        refine j_goto (tgt := 2) C dX2_ranked_84 (by decide) ?_
        exact J.locals [1, 2, 3, 0] (ih _ _ (hF.2 h1)) rfl
      · refine j_iload_n C dX2_ranked_79 rfl 3 rfl ?_
        refine J.weaken (bc' := 0) (bs' := 0) ?_ (fun _ _ z => z) (Nat.zero_le _) (Nat.zero_le _)
        rw [hQ]
        exact j_iret C rfl ⟨_, _, rfl, rfl, hF.1 h1⟩ dX2_ranked_80
end RK
theorem cal_tranked : CalV yX2_ranked RX2 cX2_ranked 7 (some .int) 2 := ⟨q1401, q1402, q94, q1403, by decide +kernel⟩
theorem M_tranked (G : GT) (l : Launch) (hG : GOK G) (h : AH) (ad : Nat → Nat) (hg : Tg ad) (kq : Addr) (FW : FWT) (hrow : WorthRow G l ad kq FW) (T : TS) (pl : Int32) (P : Int32 → TS → Prop) (hF : F_tranked FW T pl P) : TMiA G l yX2_ranked cX2_ranked 7 .int 8 3400 110 220 [.ref (ad 0), .ref kq, .int pl] h ad T P := by
  refine MT.mk (own := RX2) (by decide) rfl hG (Nat.le_of_ble_eq_true rfl) ?_
  intro p e s m below meth c args Q hargs hQ C _
  refine J.loca (L2 := [(0, .ref (ad 0)), (1, .ref kq), (2, .int pl)]) rfl ?_
  refine j_iconst (v := 0) C dX2_ranked_0 rfl ?_
  refine j_istore_n (L2 := [(3, .int 0), (0, .ref (ad 0)), (1, .ref kq), (2, .int pl)]) C dX2_ranked_1 rfl (by decide) rfl ?_
  refine J.weaken (bc' := 14 * 7) (bs' := 28 * 7) ?_ (fun _ _ z => z) (by omega) (by omega)
  exact J.locals [1, 2, 3, 0] (W_rank_2 C hg hrow hQ 7 _ _ hF) rfl
