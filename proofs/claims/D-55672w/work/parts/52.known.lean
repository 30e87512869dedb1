/-! Known.counts, its lambda, isThere (printed by gen/goknown.py) -/
set_option maxRecDepth 100000
theorem cal_kcounts : CalV yX8_counts RX8 cX8_counts 5 none 2 := ⟨q690, qs14, q119, q691, by decide +kernel⟩
def L_kcounts_74 (P : TS → Prop) (f2 : Int32) : Nat → TS → Int32 → Prop
  | 0, _, _ => False
  | n + 1, K, z3 => (36 ≤ z3 → P K) ∧ (¬ 36 ≤ z3 → jn (α := TS → Int32 → Prop) (fun K_10 t_11 => (t_11 = 0 → (vp_in z3 36) ∧ ((vp_in z3 36) ∧ (nm (upd K_10 (42 + Int32.toNatClampNeg (z3)) (if f2 < (K_10 (42 + Int32.toNatClampNeg (z3))) then f2 else (K_10 (42 + Int32.toNatClampNeg (z3))))) (fun K_13 => L_kcounts_74 P f2 n K_13 (z3 + 1))))) ∧ (¬ t_11 = 0 → (vp_in z3 36) ∧ ((vp_in z3 36) ∧ (nm (upd K_10 (6 + Int32.toNatClampNeg (z3)) (if f2 < (K_10 (6 + Int32.toNatClampNeg (z3))) then f2 else (K_10 (6 + Int32.toNatClampNeg (z3))))) (fun K_14 => L_kcounts_74 P f2 n K_14 (z3 + 1)))))) (fun K_9 => jn (α := TS → Prop) (fun K_16 => K_9 K_16 0) (fun K_15 => ((K 78) ≤ (z3 / 6) → K_15 K) ∧ (¬ (K 78) ≤ (z3 / 6) → (vp_in (z3 / 6) 6) ∧ (((K (82 + Int32.toNatClampNeg (z3 / 6))) = (z3 - z3 / 6 * 6) → K_9 K 1) ∧ (¬ (K (82 + Int32.toNatClampNeg (z3 / 6))) = (z3 - z3 / 6 * 6) → K_15 K))))))
def F_kcounts (K : TS) (x2 : Int32) (P : TS → Prop) : Prop := nm (upd K 80 ((K 80) + 1)) (fun K_1 => jn (α := TS → Int32 → Prop) (fun K_3 t_4 => nm (upd K_3 81 t_4) (fun K_5 => jn (α := TS → Prop) (fun K_7 => L_kcounts_74  P x2 NF K_7 0) (fun K_6 => ((K_5 79) ≤ x2 → K_6 K_5) ∧ (¬ (K_5 79) ≤ x2 → nm (upd K_5 79 x2) (fun K_20 => nm (cpyK K_20) (fun K_21 => K_6 K_21)))))) (fun K_2 => ((K_1 79) ≤ x2 → (x2 = (K_1 79) → K_2 K_1 ((K_1 81) + 1)) ∧ (¬ x2 = (K_1 79) → K_2 K_1 (K_1 81))) ∧ (¬ (K_1 79) ≤ x2 → K_2 K_1 1)))
set_option maxHeartbeats 4000000 in
theorem WL_kcounts_74 {G : GT} {p : Program} {l : Launch} {e : Env} {s : State} {m : MethodId} {args : Array Value} {below : List Frame} {meth : Method} {c : Code} {h : AH} {kd : Nat → Nat} {Q : State → Prop} (C : Cx G p s m args meth c cX8_counts RX8 5 none) (hG : GOK G) (hg : Kg kd) (hm : FreeG G) {P : TS → Prop} (hQ : Q = MQ below (SQ G (fun v h' => ∃ (S' : TS), v = none ∧ h' = (KH G.2.2.1 h kd S') ∧ P S')) args s (({ frames := 1, cells := 0, slots := 0, locals := 220 } : Room) : Room).cells (({ frames := 1, cells := 0, slots := 0, locals := 220 } : Room) : Room).slots (fun q => G.1 ≤ q)) {f2 : Int32} :
    ∀ (n : Nat) (K : TS) (z3 : Int32), L_kcounts_74 P f2 n K z3 → J G p l e ({ frames := 1, cells := 0, slots := 0, locals := 220 } : Room) s m args below meth c 5 Q 0 0 (KH G.2.2.1 h kd K) 74 [(0, .ref (kd 0)), (1, .ref (kd 4)), (2, .int f2), (3, .int z3)] [] := by
  intro n
  induction n with
  | zero => intro K z3 hF; exact hF.elim
  | succ n ih =>
    intro K z3 hF
    unfold L_kcounts_74 at hF
    refine j_iload_n C dX8_counts_74 rfl 3 rfl ?_
    refine j_bipush (v := 36) C dX8_counts_75 rfl ?_
    refine j_icmp_ge (tgt := 157) C dX8_counts_77 (by decide) (fun hc_8 => ?_) (fun hc_8 => ?_)
    · replace hF := hF.1 hc_8
      rw [hQ]
      exact j_vret C ⟨_, rfl, rfl, hF⟩ dX8_counts_157
    · replace hF := hF.2 hc_8
      refine j_iload_n C dX8_counts_80 rfl 3 rfl ?_
      refine j_bipush (v := 6) C dX8_counts_81 rfl ?_
      refine j_idiv C dX8_counts_83 (by decide) ?_
      refine j_aload_n C dX8_counts_84 rfl 0 rfl ?_
      refine jkG3 C hg dX8_counts_85 ?_
      obtain ⟨K_9, hK_9, hF⟩ := jn_intro (M := fun (K : TS → Int32 → Prop) => ∀ (K_10 : TS) (t_11 : Int32), K K_10 t_11 → J G p l e ({ frames := 1, cells := 0, slots := 0, locals := 220 } : Room) s m args below meth c 5 Q 0 0 (KH G.2.2.1 h kd K_10) 109 [(0, .ref (kd 0)), (1, .ref (kd 4)), (2, .int f2), (3, .int z3)] [.int t_11]) (hk := by
          intro K_10 t_11 hF
          refine j_istore (L2 := [(4, .int t_11), (0, .ref (kd 0)), (1, .ref (kd 4)), (2, .int f2), (3, .int z3)]) C dX8_counts_109 (by decide) rfl ?_
          refine j_iload C dX8_counts_111 0 rfl ?_
          refine j_if_eq (tgt := 135) C dX8_counts_113 (by decide) (fun hc_12 => ?_) (fun hc_12 => ?_)
          · replace hF := hF.1 hc_12
            refine j_aload_n C dX8_counts_135 rfl 1 rfl ?_
            refine jkG2 C hg dX8_counts_136 ?_
            refine j_iload_n C dX8_counts_139 rfl 4 rfl ?_
            refine j_aload_n C dX8_counts_140 rfl 1 rfl ?_
            refine jkG2 C hg dX8_counts_141 ?_
            refine j_iload_n C dX8_counts_144 rfl 4 rfl ?_
            obtain ⟨hgd, hF⟩ := hF
            refine jkL3 C hg hgd dX8_counts_145 ?_
            refine j_iload_n C dX8_counts_146 rfl 3 rfl ?_
            refine j_mmin C (Nat.le_of_ble_eq_true rfl) (Nat.le_of_ble_eq_true rfl) q693 (Nat.le_of_ble_eq_true rfl) q648 q107 q649 dX8_counts_147 ?_
            obtain ⟨hgd, hF⟩ := hF
            refine jkS3 C hg hm hgd dX8_counts_150 ?_
            obtain ⟨K_13, eK_13, hF⟩ := nm_intro hF
            refine k_J eK_13 ?_
            refine j_iinc (q := 4) (v := z3 + 1) (L2 := [(3, .int (z3 + 1)), (4, .int t_11), (0, .ref (kd 0)), (1, .ref (kd 4)), (2, .int f2)]) C dX8_counts_151 rfl rfl (by decide) rfl ?_
            refine j_goto (tgt := 74) C dX8_counts_154 (by decide) ?_
            exact J.locals [2, 3, 4, 0] (ih _ _ hF) rfl
          · replace hF := hF.2 hc_12
            refine j_aload_n C dX8_counts_116 rfl 1 rfl ?_
            refine jkG1 C hg dX8_counts_117 ?_
            refine j_iload_n C dX8_counts_120 rfl 4 rfl ?_
            refine j_aload_n C dX8_counts_121 rfl 1 rfl ?_
            refine jkG1 C hg dX8_counts_122 ?_
            refine j_iload_n C dX8_counts_125 rfl 4 rfl ?_
            obtain ⟨hgd, hF⟩ := hF
            refine jkL2 C hg hgd dX8_counts_126 ?_
            refine j_iload_n C dX8_counts_127 rfl 3 rfl ?_
            refine j_mmin C (Nat.le_of_ble_eq_true rfl) (Nat.le_of_ble_eq_true rfl) q693 (Nat.le_of_ble_eq_true rfl) q648 q107 q649 dX8_counts_128 ?_
            obtain ⟨hgd, hF⟩ := hF
            refine jkS2 C hg hm hgd dX8_counts_131 ?_
            obtain ⟨K_14, eK_14, hF⟩ := nm_intro hF
            refine k_J eK_14 ?_
            refine j_goto (tgt := 151) C dX8_counts_132 (by decide) ?_
            refine j_iinc (q := 4) (v := z3 + 1) (L2 := [(3, .int (z3 + 1)), (4, .int t_11), (0, .ref (kd 0)), (1, .ref (kd 4)), (2, .int f2)]) C dX8_counts_151 rfl rfl (by decide) rfl ?_
            refine j_goto (tgt := 74) C dX8_counts_154 (by decide) ?_
            exact J.locals [2, 3, 4, 0] (ih _ _ hF) rfl) hF
      obtain ⟨K_15, hK_15, hF⟩ := jn_intro (M := fun (K : TS → Prop) => ∀ (K_16 : TS), K K_16 → J G p l e ({ frames := 1, cells := 0, slots := 0, locals := 220 } : Room) s m args below meth c 5 Q 0 0 (KH G.2.2.1 h kd K_16) 108 [(0, .ref (kd 0)), (1, .ref (kd 4)), (2, .int f2), (3, .int z3)] []) (hk := by
          intro K_16 hF
          refine j_iconst (v := 0) C dX8_counts_108 rfl ?_
          exact J.locals [0, 1, 2, 3] (hK_9 _ _ hF) rfl) hF
      refine j_icmp_ge (tgt := 108) C dX8_counts_88 (by decide) (fun hc_17 => ?_) (fun hc_17 => ?_)
      · replace hF := hF.1 hc_17
        exact J.locals [0, 1, 2, 3] (hK_15 _ hF) rfl
      · replace hF := hF.2 hc_17
        refine j_aload_n C dX8_counts_91 rfl 1 rfl ?_
        refine j_iload_n C dX8_counts_92 rfl 3 rfl ?_
        refine j_bipush (v := 6) C dX8_counts_93 rfl ?_
        refine j_idiv C dX8_counts_95 (by decide) ?_
        obtain ⟨hgd, hF⟩ := hF
        refine jkL4 C hg hgd dX8_counts_96 ?_
        refine j_iload_n C dX8_counts_97 rfl 3 rfl ?_
        refine j_bipush (v := 6) C dX8_counts_98 rfl ?_
        refine j_irem C dX8_counts_100 (by decide) ?_
        refine j_icmp_ne (tgt := 108) C dX8_counts_101 (by decide) (fun hc_18 => ?_) (fun hc_18 => ?_)
        · replace hF := hF.2 hc_18
          exact J.locals [0, 1, 2, 3] (hK_15 _ hF) rfl
        · replace hF := hF.1 hc_18
          refine j_iconst (v := 1) C dX8_counts_104 rfl ?_
          refine j_goto (tgt := 109) C dX8_counts_105 (by decide) ?_
          exact J.locals [0, 1, 2, 3] (hK_9 _ _ hF) rfl
set_option maxHeartbeats 4000000 in
theorem M_kcounts (G : GT) (l : Launch) (hG : GOK G) (h : AH) (kd : Nat → Nat) (hg : Kg kd) (hm : FreeG G) (K : TS) (x2 : Int32) (P : TS → Prop) (hF : F_kcounts K x2 P) : KMv G l yX8_counts cX8_counts 5 1 220 [.ref (kd 0), .ref (kd 4), .int x2] h kd K P := by
  refine MT.mk (own := RX8) (by decide) rfl hG (Nat.le_of_ble_eq_true rfl) ?_
  intro p e s m below meth c args Q hargs hQ C _
  refine J.loca (L2 := [(0, .ref (kd 0)), (1, .ref (kd 4)), (2, .int x2)]) rfl ?_
  unfold F_kcounts at hF
  refine j_aload_n C dX8_counts_0 rfl 0 rfl ?_
  refine j_dup C dX8_counts_1 rfl ?_
  refine jkG5 C hg dX8_counts_2 ?_
  refine j_iconst (v := 1) C dX8_counts_5 rfl ?_
  refine j_iadd C dX8_counts_6 ?_
  refine jkP5 C hg hm dX8_counts_7 ?_
  obtain ⟨K_1, eK_1, hF⟩ := nm_intro hF
  refine k_J eK_1 ?_
  refine j_aload_n C dX8_counts_10 rfl 0 rfl ?_
  refine j_iload_n C dX8_counts_11 rfl 2 rfl ?_
  refine j_aload_n C dX8_counts_12 rfl 0 rfl ?_
  refine jkG4 C hg dX8_counts_13 ?_
  obtain ⟨K_2, hK_2, hF⟩ := jn_intro (M := fun (K : TS → Int32 → Prop) => ∀ (K_3 : TS) (t_4 : Int32), K K_3 t_4 → J G p l e ({ frames := 1, cells := 0, slots := 0, locals := 220 } : Room) s m args below meth c 5 Q 0 0 (KH G.2.2.1 h kd K_3) 44 [(0, .ref (kd 0)), (1, .ref (kd 4)), (2, .int x2)] [.int t_4, .ref (kd 0)]) (hk := by
      intro K_3 t_4 hF
      refine jkP6 C hg hm dX8_counts_44 ?_
      obtain ⟨K_5, eK_5, hF⟩ := nm_intro hF
      refine k_J eK_5 ?_
      refine j_iload_n C dX8_counts_47 rfl 2 rfl ?_
      refine j_aload_n C dX8_counts_48 rfl 0 rfl ?_
      refine jkG4 C hg dX8_counts_49 ?_
      obtain ⟨K_6, hK_6, hF⟩ := jn_intro (M := fun (K : TS → Prop) => ∀ (K_7 : TS), K K_7 → J G p l e ({ frames := 1, cells := 0, slots := 0, locals := 220 } : Room) s m args below meth c 5 Q 0 0 (KH G.2.2.1 h kd K_7) 72 [(0, .ref (kd 0)), (1, .ref (kd 4)), (2, .int x2)] []) (hk := by
          intro K_7 hF
          refine j_iconst (v := 0) C dX8_counts_72 rfl ?_
          refine j_istore_n (L2 := [(3, .int 0), (0, .ref (kd 0)), (1, .ref (kd 4)), (2, .int x2)]) C dX8_counts_73 rfl (by decide) rfl ?_
          refine J.locals [1, 2, 3, 0] (WL_kcounts_74 C hG hg hm hQ NF _ _ hF) rfl) hF
      refine j_icmp_ge (tgt := 72) C dX8_counts_52 (by decide) (fun hc_19 => ?_) (fun hc_19 => ?_)
      · replace hF := hF.1 hc_19
        exact J.locals [0, 1, 2] (hK_6 _ hF) rfl
      · replace hF := hF.2 hc_19
        refine j_aload_n C dX8_counts_55 rfl 0 rfl ?_
        refine j_iload_n C dX8_counts_56 rfl 2 rfl ?_
        refine jkP4 C hg hm dX8_counts_57 ?_
        obtain ⟨K_20, eK_20, hF⟩ := nm_intro hF
        refine k_J eK_20 ?_
        refine j_aload_n C dX8_counts_60 rfl 1 rfl ?_
        refine j_iconst (v := 0) C dX8_counts_61 rfl ?_
        refine j_aload_n C dX8_counts_62 rfl 0 rfl ?_
        refine jkG0 C hg dX8_counts_63 ?_
        refine j_iconst (v := 0) C dX8_counts_66 rfl ?_
        refine j_bipush (v := 6) C dX8_counts_67 rfl ?_
        refine jkCopy C hg hm (Nat.le_of_ble_eq_true rfl) (Nat.le_of_ble_eq_true rfl) dX8_counts_69 ?_
        obtain ⟨K_21, eK_21, hF⟩ := nm_intro hF
        refine k_J eK_21 ?_
        exact J.locals [0, 1, 2] (hK_6 _ hF) rfl) hF
  refine j_icmp_ge (tgt := 23) C dX8_counts_16 (by decide) (fun hc_22 => ?_) (fun hc_22 => ?_)
  · replace hF := hF.1 hc_22
    refine j_iload_n C dX8_counts_23 rfl 2 rfl ?_
    refine j_aload_n C dX8_counts_24 rfl 0 rfl ?_
    refine jkG4 C hg dX8_counts_25 ?_
    refine j_icmp_ne (tgt := 40) C dX8_counts_28 (by decide) (fun hc_23 => ?_) (fun hc_23 => ?_)
    · replace hF := hF.2 hc_23
      refine j_aload_n C dX8_counts_40 rfl 0 rfl ?_
      refine jkG6 C hg dX8_counts_41 ?_
      exact J.locals [0, 1, 2] (hK_2 _ _ hF) rfl
    · replace hF := hF.1 hc_23
      refine j_aload_n C dX8_counts_31 rfl 0 rfl ?_
      refine jkG6 C hg dX8_counts_32 ?_
      refine j_iconst (v := 1) C dX8_counts_35 rfl ?_
      refine j_iadd C dX8_counts_36 ?_
      refine j_goto (tgt := 44) C dX8_counts_37 (by decide) ?_
      exact J.locals [0, 1, 2] (hK_2 _ _ hF) rfl
  · replace hF := hF.2 hc_22
    refine j_iconst (v := 1) C dX8_counts_19 rfl ?_
    refine j_goto (tgt := 44) C dX8_counts_20 (by decide) ?_
    exact J.locals [0, 1, 2] (hK_2 _ _ hF) rfl
theorem cal_klambda_new_0 : CalV yX8_lambda_new_0 RX8 cX8_lambda_new_0 3 none 2 := ⟨q686, qs13, q119, q687, by decide +kernel⟩
def F_klambda_new_0 (K : TS) (x2 : Int32) (P : TS → Prop) : Prop := F_kcounts K x2 (fun K_1 => P K_1)
set_option maxHeartbeats 4000000 in
theorem M_klambda_new_0 (G : GT) (l : Launch) (hG : GOK G) (h : AH) (kd : Nat → Nat) (hg : Kg kd) (hm : FreeG G) (K : TS) (x2 : Int32) (P : TS → Prop) (hF : F_klambda_new_0 K x2 P) : KMv G l yX8_lambda_new_0 cX8_lambda_new_0 3 2 244 [.ref (kd 0), .ref (kd 4), .int x2] h kd K P := by
  refine MT.mk (own := RX8) (by decide) rfl hG (Nat.le_of_ble_eq_true rfl) ?_
  intro p e s m below meth c args Q hargs hQ C _
  refine J.loca (L2 := [(0, .ref (kd 0)), (1, .ref (kd 4)), (2, .int x2)]) rfl ?_
  unfold F_klambda_new_0 at hF
  refine j_aload_n C dX8_lambda_new_0_0 rfl 0 rfl ?_
  refine j_aload_n C dX8_lambda_new_0_1 rfl 1 rfl ?_
  refine j_iload_n C dX8_lambda_new_0_2 rfl 2 rfl ?_
  refine jk_callv hg (As := [.ref (kd 4), .int x2]) (rest := []) C (M_kcounts G l hG h kd hg hm K x2 _ hF) q688 cal_kcounts rfl rfl (Nat.le_of_ble_eq_true rfl) ⟨Nat.le_of_ble_eq_true rfl, Nat.le_of_ble_eq_true rfl⟩ dX8_lambda_new_0_3 (fun K_1 hF => ?_)
  rw [hQ]
  exact j_vret C ⟨_, rfl, rfl, hF⟩ dX8_lambda_new_0_6
theorem cal_kisThere : CalV yX8_isThere RX8 cX8_isThere 1 (some .boolean) 0 := ⟨q893, q894, q119, q895, by decide +kernel⟩
def F_kisThere (K : TS) (P : Int32 → TS → Prop) : Prop := ((K 80) ≤ 0 → P 0 K) ∧ (¬ (K 80) ≤ 0 → P 1 K)
set_option maxHeartbeats 4000000 in
theorem M_kisThere (G : GT) (l : Launch) (hG : GOK G) (h : AH) (kd : Nat → Nat) (hg : Kg kd) (K : TS) (P : Int32 → TS → Prop) (hF : F_kisThere K P) : KMi G l yX8_isThere cX8_isThere 1 .boolean 0 0 [.ref (kd 0)] h kd K P := by
  refine MT.mk (own := RX8) (by decide) rfl hG (Nat.le_of_ble_eq_true rfl) ?_
  intro p e s m below meth c args Q hargs hQ C _
  refine J.loca (L2 := [(0, .ref (kd 0))]) rfl ?_
  unfold F_kisThere at hF
  refine j_aload_n C dX8_isThere_0 rfl 0 rfl ?_
  refine jkG5 C hg dX8_isThere_1 ?_
  refine j_if_le (tgt := 11) C dX8_isThere_4 (by decide) (fun hc_1 => ?_) (fun hc_1 => ?_)
  · replace hF := hF.1 hc_1
    refine j_iconst (v := 0) C dX8_isThere_11 rfl ?_
    rw [hQ]
    exact j_iret C rfl ⟨_, _, rfl, rfl, hF⟩ dX8_isThere_12
  · replace hF := hF.2 hc_1
    refine j_iconst (v := 1) C dX8_isThere_7 rfl ?_
    refine j_goto (tgt := 12) C dX8_isThere_8 (by decide) ?_
    rw [hQ]
    exact j_iret C rfl ⟨_, _, rfl, rfl, hF⟩ dX8_isThere_12
