/-! Town.isBalanced (its loop printed by gen/gobal.py) -/
set_option maxRecDepth 100000
theorem cal_knew : CalI yX8_init cX8_init 3 1 := ⟨q679, q119, q680, rfl, by decide +kernel⟩
def L_tisBalanced_28 (P : Int32 → TS → Prop) : Nat → TS → Int32 → Int32 → Int32 → Prop
  | 0, _, _, _, _ => False
  | n + 1, T, z1, z2, z3 => ((T 0) ≤ z3 → (narrow .boolean (.int z2) = .int z2) ∧ P z2 T) ∧ (¬ (T 0) ≤ z3 → (vp_in z3 6) ∧ (jn (α := TS → Int32 → Prop) (fun T_3 t_4 => ((T (84 + Int32.toNatClampNeg (z3))) = (-1) → L_tisBalanced_28 P n T_3 (z1 ||| 0) (z2 &&& t_4) (z3 + 1)) ∧ (¬ (T (84 + Int32.toNatClampNeg (z3))) = (-1) → L_tisBalanced_28 P n T_3 (z1 ||| (1 <<< ((T (84 + Int32.toNatClampNeg (z3))) &&& 31))) (z2 &&& t_4) (z3 + 1))) (fun K_2 => jn (α := TS → Prop) (fun T_7 => K_2 T_7 1) (fun K_6 => ((T (84 + Int32.toNatClampNeg (z3))) = (-1) → K_6 T) ∧ (¬ (T (84 + Int32.toNatClampNeg (z3))) = (-1) → jn (α := TS → Prop) (fun T_10 => K_2 T_10 0) (fun K_9 => (((z1 >>> ((T (84 + Int32.toNatClampNeg (z3))) &&& 31)) &&& 1) = 0 → F_tcanBe T z3 (T (84 + Int32.toNatClampNeg (z3))) (fun r_13 T_12 => (r_13 = 0 → K_9 T_12) ∧ (¬ r_13 = 0 → K_6 T_12))) ∧ (¬ ((z1 >>> ((T (84 + Int32.toNatClampNeg (z3))) &&& 31)) &&& 1) = 0 → K_9 T)))))))
set_option maxHeartbeats 4000000 in
theorem WL_tisBalanced_28 {G : GT} {p : Program} {l : Launch} {e : Env} {s : State} {m : MethodId} {args : Array Value} {below : List Frame} {meth : Method} {c : Code} {h : AH} {ad : Nat → Nat} {Q : State → Prop} (C : Cx G p s m args meth c cX2_isBalanced RX2 5 (some .boolean)) (hG : GOK G) (hg : Tg ad) {P : Int32 → TS → Prop} (hQ : Q = MQ below (SQ G (fun v h' => ∃ (r : Int32) (S' : TS), v = some (.int r) ∧ h' = (TH G.2.2.1 h ad S') ∧ P r S')) args s (({ frames := 14, cells := 34, slots := 260, locals := 3700 } : Room) : Room).cells (({ frames := 14, cells := 34, slots := 260, locals := 3700 } : Room) : Room).slots (fun q => G.1 ≤ q)) :
    ∀ (n : Nat) (T : TS) (z1 : Int32) (z2 : Int32) (z3 : Int32), L_tisBalanced_28 P n T z1 z2 z3 → J G p l e ({ frames := 14, cells := 34, slots := 260, locals := 3700 } : Room) s m args below meth c 5 Q 0 0 (TH G.2.2.1 h ad T) 28 [(0, .ref (ad 0)), (1, .int z1), (2, .int z2), (3, .int z3)] [] := by
  intro n
  induction n with
  | zero => intro T z1 z2 z3 hF; exact hF.elim
  | succ n ih =>
    intro T z1 z2 z3 hF
    unfold L_tisBalanced_28 at hF
    refine j_iload_n C dX2_isBalanced_28 rfl 3 rfl ?_
    refine j_aload_n C dX2_isBalanced_29 rfl 0 rfl ?_
    refine jtG5 C hg dX2_isBalanced_30 ?_
    refine j_icmp_ge (tgt := 100) C dX2_isBalanced_33 (by decide) (fun hc_1 => ?_) (fun hc_1 => ?_)
    · replace hF := hF.1 hc_1
      refine j_iload_n C dX2_isBalanced_100 rfl 2 rfl ?_
      rw [hQ]
      exact j_iret C hF.1 ⟨_, _, rfl, rfl, hF.2⟩ dX2_isBalanced_101
    · replace hF := hF.2 hc_1
      refine j_aload_n C dX2_isBalanced_36 rfl 0 rfl ?_
      refine jtG4 C hg dX2_isBalanced_37 ?_
      refine j_iload_n C dX2_isBalanced_40 rfl 3 rfl ?_
      obtain ⟨hgd, hF⟩ := hF
      refine jtL5 C hg hgd dX2_isBalanced_41 ?_
      refine j_istore (L2 := [(4, .int (T (84 + Int32.toNatClampNeg (z3)))), (0, .ref (ad 0)), (1, .int z1), (2, .int z2), (3, .int z3)]) C dX2_isBalanced_42 (by decide) rfl ?_
      refine j_iload_n C dX2_isBalanced_44 rfl 3 rfl ?_
      refine j_iload C dX2_isBalanced_45 0 rfl ?_
      refine j_iconst (v := (-1)) C dX2_isBalanced_47 rfl ?_
      obtain ⟨K_2, hK_2, hF⟩ := jn_intro (M := fun (K : TS → Int32 → Prop) => ∀ (T_3 : TS) (t_4 : Int32), K T_3 t_4 → J G p l e ({ frames := 14, cells := 34, slots := 260, locals := 3700 } : Room) s m args below meth c 5 Q 0 0 (TH G.2.2.1 h ad T_3) 75 [(0, .ref (ad 0)), (1, .int z1), (3, .int z3), (4, .int (T (84 + Int32.toNatClampNeg (z3))))] [.int t_4, .int z2]) (hk := by
          intro T_3 t_4 hF
          refine j_iand C dX2_isBalanced_75 ?_
          refine j_istore_n (L2 := [(2, .int (z2 &&& t_4)), (0, .ref (ad 0)), (1, .int z1), (3, .int z3), (4, .int (T (84 + Int32.toNatClampNeg (z3))))]) C dX2_isBalanced_76 rfl (by decide) rfl ?_
          refine j_iload_n C dX2_isBalanced_77 rfl 2 rfl ?_
          refine j_iload C dX2_isBalanced_78 4 rfl ?_
          refine j_iconst (v := (-1)) C dX2_isBalanced_80 rfl ?_
          refine j_icmp_ne (tgt := 88) C dX2_isBalanced_81 (by decide) (fun hc_5 => ?_) (fun hc_5 => ?_)
          · replace hF := hF.2 hc_5
            refine j_iconst (v := 1) C dX2_isBalanced_88 rfl ?_
            refine j_iload C dX2_isBalanced_89 4 rfl ?_
            refine j_ishl C dX2_isBalanced_91 ?_
            refine j_ior C dX2_isBalanced_92 ?_
            refine j_istore_n (L2 := [(1, .int (z1 ||| (1 <<< ((T (84 + Int32.toNatClampNeg (z3))) &&& 31)))), (2, .int (z2 &&& t_4)), (0, .ref (ad 0)), (3, .int z3), (4, .int (T (84 + Int32.toNatClampNeg (z3))))]) C dX2_isBalanced_93 rfl (by decide) rfl ?_
            refine j_iinc (q := 3) (v := z3 + 1) (L2 := [(3, .int (z3 + 1)), (1, .int (z1 ||| (1 <<< ((T (84 + Int32.toNatClampNeg (z3))) &&& 31)))), (2, .int (z2 &&& t_4)), (0, .ref (ad 0)), (4, .int (T (84 + Int32.toNatClampNeg (z3))))]) C dX2_isBalanced_94 rfl rfl (by decide) rfl ?_
            refine j_goto (tgt := 28) C dX2_isBalanced_97 (by decide) ?_
            exact J.locals [3, 1, 2, 0] (ih _ _ _ _ hF) rfl
          · replace hF := hF.1 hc_5
            refine j_iconst (v := 0) C dX2_isBalanced_84 rfl ?_
            refine j_goto (tgt := 92) C dX2_isBalanced_85 (by decide) ?_
            refine j_ior C dX2_isBalanced_92 ?_
            refine j_istore_n (L2 := [(1, .int (z1 ||| 0)), (2, .int (z2 &&& t_4)), (0, .ref (ad 0)), (3, .int z3), (4, .int (T (84 + Int32.toNatClampNeg (z3))))]) C dX2_isBalanced_93 rfl (by decide) rfl ?_
            refine j_iinc (q := 3) (v := z3 + 1) (L2 := [(3, .int (z3 + 1)), (1, .int (z1 ||| 0)), (2, .int (z2 &&& t_4)), (0, .ref (ad 0)), (4, .int (T (84 + Int32.toNatClampNeg (z3))))]) C dX2_isBalanced_94 rfl rfl (by decide) rfl ?_
            refine j_goto (tgt := 28) C dX2_isBalanced_97 (by decide) ?_
            exact J.locals [3, 1, 2, 0] (ih _ _ _ _ hF) rfl) hF
      obtain ⟨K_6, hK_6, hF⟩ := jn_intro (M := fun (K : TS → Prop) => ∀ (T_7 : TS), K T_7 → J G p l e ({ frames := 14, cells := 34, slots := 260, locals := 3700 } : Room) s m args below meth c 5 Q 0 0 (TH G.2.2.1 h ad T_7) 70 [(0, .ref (ad 0)), (1, .int z1), (3, .int z3), (4, .int (T (84 + Int32.toNatClampNeg (z3))))] [.int z2]) (hk := by
          intro T_7 hF
          refine j_iconst (v := 1) C dX2_isBalanced_70 rfl ?_
          refine j_goto (tgt := 75) C dX2_isBalanced_71 (by decide) ?_
          exact J.locals [0, 1, 2, 3] (hK_2 _ _ hF) rfl) hF
      refine j_icmp_eq (tgt := 70) C dX2_isBalanced_48 (by decide) (fun hc_8 => ?_) (fun hc_8 => ?_)
      · replace hF := hF.1 hc_8
        exact J.locals [1, 2, 4, 0] (hK_6 _ hF) rfl
      · replace hF := hF.2 hc_8
        refine j_iload_n C dX2_isBalanced_51 rfl 2 rfl ?_
        refine j_iload C dX2_isBalanced_52 0 rfl ?_
        refine j_ishr C dX2_isBalanced_54 ?_
        refine j_iconst (v := 1) C dX2_isBalanced_55 rfl ?_
        refine j_iand C dX2_isBalanced_56 ?_
        obtain ⟨K_9, hK_9, hF⟩ := jn_intro (M := fun (K : TS → Prop) => ∀ (T_10 : TS), K T_10 → J G p l e ({ frames := 14, cells := 34, slots := 260, locals := 3700 } : Room) s m args below meth c 5 Q 0 0 (TH G.2.2.1 h ad T_10) 74 [(0, .ref (ad 0)), (1, .int z1), (3, .int z3), (4, .int (T (84 + Int32.toNatClampNeg (z3))))] [.int z2]) (hk := by
            intro T_10 hF
            refine j_iconst (v := 0) C dX2_isBalanced_74 rfl ?_
            exact J.locals [0, 1, 2, 3] (hK_2 _ _ hF) rfl) hF
        refine j_if_ne (tgt := 74) C dX2_isBalanced_57 (by decide) (fun hc_11 => ?_) (fun hc_11 => ?_)
        · replace hF := hF.2 hc_11
          exact J.locals [1, 2, 4, 0] (hK_9 _ hF) rfl
        · replace hF := hF.1 hc_11
          refine j_aload_n C dX2_isBalanced_60 rfl 1 rfl ?_
          refine j_iload_n C dX2_isBalanced_61 rfl 4 rfl ?_
          refine j_iload C dX2_isBalanced_62 0 rfl ?_
          refine jt_calli hg (As := [.int z3, .int (T (84 + Int32.toNatClampNeg (z3)))]) (rest := [.int z2]) C (M_tcanBe G l hG h ad hg T z3 (T (84 + Int32.toNatClampNeg (z3))) _ hF) q441 cal_tcanBe rfl rfl (Nat.le_of_ble_eq_true rfl) ⟨Nat.le_of_ble_eq_true rfl, Nat.le_of_ble_eq_true rfl⟩ dX2_isBalanced_64 (fun r_13 T_12 hF => ?_)
          refine j_if_eq (tgt := 74) C dX2_isBalanced_67 (by decide) (fun hc_14 => ?_) (fun hc_14 => ?_)
          · replace hF := hF.1 hc_14
            exact J.locals [1, 2, 4, 0] (hK_9 _ hF) rfl
          · replace hF := hF.2 hc_14
            exact J.locals [1, 2, 4, 0] (hK_6 _ hF) rfl
def F_tisBal (T : TS) (b0 : Int32) (P : Int32 → TS → Prop) : Prop := L_tisBalanced_28  P NF T 0 b0 0
def F_tisBalanced (T : TS) (P : Int32 → TS → Prop) : Prop := F_tleast T (fun r T1 => T1 = T ∧ F_known T (fun K => (r = K 79 → F_tisBal T 1 P) ∧ (¬ r = K 79 → F_tisBal T 0 P)))
theorem cal_tisBalanced : CalV yX2_isBalanced RX2 cX2_isBalanced 5 (some .boolean) 0 := ⟨q945, q946, q94, q947, by decide +kernel⟩
set_option maxHeartbeats 4000000 in
theorem W_tisBal {G : GT} {p : Program} {l : Launch} {e : Env} {s : State} {m : MethodId} {args : Array Value} {below : List Frame} {meth : Method} {c : Code} {h : AH} {ad : Nat → Nat} {Q : State → Prop} (C : Cx G p s m args meth c cX2_isBalanced RX2 5 (some .boolean)) (hG : GOK G) (hg : Tg ad) {P : Int32 → TS → Prop} (hQ : Q = MQ below (SQ G (fun v h' => ∃ (r : Int32) (S' : TS), v = some (.int r) ∧ h' = (TH G.2.2.1 h ad S') ∧ P r S')) args s (({ frames := 14, cells := 34, slots := 260, locals := 3700 } : Room) : Room).cells (({ frames := 14, cells := 34, slots := 260, locals := 3700 } : Room) : Room).slots (fun q => G.1 ≤ q)) (T : TS) (b0 : Int32) (hF : F_tisBal T b0 P) : J G p l e ({ frames := 14, cells := 34, slots := 260, locals := 3700 } : Room) s m args below meth c 5 Q 0 0 (TH G.2.2.1 h ad T) 25 [(0, .ref (ad 0)), (1, .int 0)] [.int b0] := by
    unfold F_tisBal at hF
    refine j_istore_n (L2 := [(2, .int b0), (0, .ref (ad 0)), (1, .int 0)]) C dX2_isBalanced_25 rfl (by decide) rfl ?_
    refine j_iconst (v := 0) C dX2_isBalanced_26 rfl ?_
    refine j_istore_n (L2 := [(3, .int 0), (2, .int b0), (0, .ref (ad 0)), (1, .int 0)]) C dX2_isBalanced_27 rfl (by decide) rfl ?_
    refine J.locals [2, 3, 1, 0] (WL_tisBalanced_28 C hG hg hQ NF _ _ _ _ hF) rfl
set_option maxHeartbeats 4000000 in
theorem M_tisBalanced (G : GT) (l : Launch) (hG : GOK G) (hT : TabF G) (hLm : LamG G) (hm : FreeG G) (h : AH) (ad : Nat → Nat) (hg : Tg ad) (T : TS) (P : Int32 → TS → Prop) (hF : F_tisBalanced T P) : TMiA G l yX2_isBalanced cX2_isBalanced 5 .boolean 14 3700 34 260 [.ref (ad 0)] h ad T P := by
  refine MT.mk (own := RX2) (by decide) rfl hG (Nat.le_of_ble_eq_true rfl) ?_
  intro p e s m below meth c args Q hargs hQ C _
  refine J.loca (L2 := [(0, .ref (ad 0))]) rfl ?_
  unfold F_tisBalanced at hF
  refine j_iconst (v := 0) C dX2_isBalanced_0 rfl ?_
  refine j_istore_n (L2 := [(1, .int 0), (0, .ref (ad 0))]) C dX2_isBalanced_1 rfl (by decide) rfl ?_
  refine j_aload_n C dX2_isBalanced_2 rfl 1 rfl ?_
  refine jt_calliA hg (As := []) (rest := []) C (M_tleast G l hG hT hLm hm h ad hg T _ hF) q948 cal_tleast rfl rfl (Nat.le_of_ble_eq_true rfl) ⟨Nat.le_of_ble_eq_true rfl, Nat.le_of_ble_eq_true rfl⟩ (Nat.le_of_ble_eq_true rfl) (Nat.le_of_ble_eq_true rfl) dX2_isBalanced_3 (fun r S hF => ?_)
  obtain ⟨hS, hF⟩ := hF
  rw [hS]
  refine j_new C hm (ci := 3) (Cn := RX8) (T := TX8) (N := 7) (bc' := 6) (bs' := 92) rfl in_X8 tyX8 tyX8_ok q955 q677 q119 kfz (fun j hj => by
    rcases (show j = 0 ∨ j = 1 ∨ j = 2 ∨ j = 3 ∨ j = 4 ∨ j = 5 ∨ j = 6 by omega) with rfl | rfl | rfl | rfl | rfl | rfl | rfl <;> rfl) (Nat.le_of_ble_eq_true rfl) (Nat.le_of_ble_eq_true rfl) dX2_isBalanced_6 (fun q hq hz => ?_)
  refine j_dup C dX2_isBalanced_9 rfl ?_
  refine j_aload_n C dX2_isBalanced_10 rfl 1 rfl ?_
  have hne : ∀ k, k < 18 → ad k ≠ q := fun k hk e => by have := TH_at (dA := G.2.2.1) (h := h) hg (T := T) hk; rw [e, hq] at this; cases this
  refine j_callI C (As := [.ref (ad 0)]) (rest := [.ref q, .int r]) (M_knew G l hG hT hLm hm _ q hup_self ad hg T (fun k hk => by rw [hup_ne (hne k hk)]; exact TH_at hg hk) _ hF) q956 cal_knew rfl rfl (Nat.le_of_ble_eq_true rfl) ⟨Nat.le_of_ble_eq_true rfl, Nat.le_of_ble_eq_true rfl⟩ (Nat.le_of_ble_eq_true rfl) (Nat.le_of_ble_eq_true rfl) dX2_isBalanced_11 (fun v h' hv => ?_)
  obtain ⟨rfl, kd, K, rfl, hkg, hkf, rfl, hF⟩ := hv
  refine j_getN C (KH_at hkg (k := 0) (by decide)) rfl in_X8 4 (by decide) (C.tab hT q727 rfl) rfl rfl dX2_isBalanced_14 ?_
  have drop : ∀ (b : Nat) (x : va_E), TH G.2.2.1 h ad T b = some x → KH G.2.2.1 (hup (TH G.2.2.1 h ad T) (kd 0) (.inr (3, kfz))) kd K b = some x := by
    intro b x hx
    rw [KH_out (fun k hk e => ?_), hup_ne (fun e => by rw [e, hq] at hx; cases hx)]
    · exact hx
    · by_cases hk0 : k = 0
      · subst hk0; rw [← e, hq] at hx; cases hx
      · have := (hup_none (hkf k hk hk0).1).2
        rw [e, hx] at this; cases this
  refine j_icmp_ne (tgt := 24) C dX2_isBalanced_17 (by decide) (fun hc => ?_) (fun hc => ?_)
  · refine j_iconst (v := 0) C dX2_isBalanced_24 rfl ?_
    refine J.weaken ?_ drop (Nat.zero_le _) (Nat.zero_le _)
    exact J.locals [1, 0] (W_tisBal C hG hg hQ T 0 (hF.2 hc)) rfl
  · refine j_iconst (v := 1) C dX2_isBalanced_20 rfl ?_
    refine j_goto (tgt := 25) C dX2_isBalanced_21 (by decide) ?_
    refine J.weaken ?_ drop (Nat.zero_le _) (Nat.zero_le _)
    exact J.locals [1, 0] (W_tisBal C hG hg hQ T 1 (hF.1 hc)) rfl
