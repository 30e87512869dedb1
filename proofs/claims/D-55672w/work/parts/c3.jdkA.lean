/-! JDK: Integer, Arrays, checks (printed by gen/gojdk.py) -/
set_option maxRecDepth 100000
def F_gJ12_checkLength (G : GT) (S : GZ) (x0 : Int32) (x1 : Int32) (P : AH → Prop) : Prop := (x0 ≤ x1 → P S.1) ∧ (¬ x0 ≤ x1 → False)
set_option maxHeartbeats 4000000 in
theorem M_gJ12_checkLength (G : GT) (l : Launch) (hG : GOK G) (hTab : TabF G) (hm : FreeG G) (S : GZ) (x0 : Int32) (x1 : Int32) (P : AH → Prop) (hF : F_gJ12_checkLength G S x0 x1 P) : MT G l yJ12_checkLength cJ12_checkLength 2 none 0 0 S.2.1 S.2.2 [.int x0, .int x1] S.1 (fun v h' => v = none ∧ P h') := by
  refine MT.mk (own := RJ12) (by decide) rfl hG (Nat.le_of_ble_eq_true rfl) ?_
  intro p e s m below meth c args Q hargs hQ C hname
  refine J.loca (L2 := [(0, .int x0), (1, .int x1)]) rfl ?_
  unfold F_gJ12_checkLength at hF
  refine j_iload_n C dJ12_checkLength_0 rfl 1 rfl ?_
  refine j_iload_n C dJ12_checkLength_1 rfl 0 rfl ?_
  refine j_icmp_ge (tgt := 37) C dJ12_checkLength_2 (by decide) (fun hc_1 => ?_) (fun hc_1 => ?_)
  · replace hF := hF.1 hc_1
    rw [hQ]
    exact j_vret C ⟨rfl, hF⟩ dJ12_checkLength_37
  · replace hF := hF.2 hc_1
    exact hF.elim
def F_gJ12_copyOf_2 (G : GT) (S : GZ) (x0 : Nat) (x1 : Int32) (x2 : Nat) (P : Nat → AH → Prop) : Prop := ∃ q_10 : Nat, MiF G q_10 ∧ (jn (α := GZ → Nat → Prop) (fun S_12 t_13 => ∃ n_14 : Nat, aL G S_12.1 x0 n_14 ∧ (∃ (n_15 n_16 : Nat) (f_17 g_18 : Nat → Option Nat), S_12.1 x0 = some (.inl (G.2.2.1 7, n_15, .inr (.inr (.inr (.inr f_17))))) ∧ S_12.1 t_13 = some (.inl (G.2.2.1 7, n_16, .inr (.inr (.inr (.inr g_18))))) ∧ ¬ (0 : Int32) < 0 ∧ ¬ (0 : Int32) < 0 ∧ ¬ ((if x1 < (Int32.ofNat n_14) then x1 else (Int32.ofNat n_14)) : Int32) < 0 ∧ Int32.toNatClampNeg 0 + Int32.toNatClampNeg (if x1 < (Int32.ofNat n_14) then x1 else (Int32.ofNat n_14)) ≤ n_15 ∧ Int32.toNatClampNeg 0 + Int32.toNatClampNeg (if x1 < (Int32.ofNat n_14) then x1 else (Int32.ofNat n_14)) ≤ n_16 ∧ (∀ i : Nat, i < Int32.toNatClampNeg (if x1 < (Int32.ofNat n_14) then x1 else (Int32.ofNat n_14)) → ∀ y : Nat, f_17 (Int32.toNatClampNeg 0 + i) = some y → gEl G S_12.1 y) ∧ (nm (α := GZ) (hup S_12.1 t_13 (.inl (G.2.2.1 7, n_16, .inr (.inr (.inr (.inr (va_cpy f_17 g_18 (Int32.toNatClampNeg 0) (Int32.toNatClampNeg 0) (Int32.toNatClampNeg (if x1 < (Int32.ofNat n_14) then x1 else (Int32.ofNat n_14))))))))), S_12.2.1, S_12.2.2) (fun S_19 => P t_13 S_19.1)))) (fun K_11 => ((some x2) = (some q_10) → ¬ (x1 : Int32) < 0 ∧ 1 ≤ S.2.1 ∧ Int32.toNatClampNeg x1 ≤ S.2.2 ∧ Int32.toNatClampNeg x1 * 4 ≤ 536870912 ∧ ∀ q_21 : Nat, S.1 q_21 = none → G.1 ≤ q_21 → (nm (α := GZ) (hup S.1 q_21 (.inl (G.2.2.1 7, Int32.toNatClampNeg x1, .inr (.inr (.inr (.inr (fun _ => none)))))), S.2.1 - 1, S.2.2 - Int32.toNatClampNeg x1) (fun S_22 => K_11 S_22 q_21))) ∧ (¬ (some x2) = (some q_10) → False)))
set_option maxHeartbeats 4000000 in
theorem M_gJ12_copyOf_2 (G : GT) (l : Launch) (hG : GOK G) (hTab : TabF G) (hm : FreeG G) (S : GZ) (x0 : Nat) (x1 : Int32) (x2 : Nat) (P : Nat → AH → Prop) (hF : F_gJ12_copyOf_2 G S x0 x1 x2 P) : MT G l yJ12_copyOf_2 cJ12_copyOf_2 4 (some (Jvm.ClassFile.FieldType.array (Jvm.ClassFile.FieldType.object "java/lang/Object"))) 1 220 S.2.1 S.2.2 [.ref x0, .int x1, .ref x2] S.1 (fun v h' => ∃ r : Nat, v = some (.ref r) ∧ P r h') := by
  refine MT.mk (own := RJ12) (by decide) rfl hG (Nat.le_of_ble_eq_true rfl) ?_
  intro p e s m below meth c args Q hargs hQ C hname
  refine J.loca (L2 := [(0, .ref x0), (1, .int x1), (2, .ref x2)]) rfl ?_
  unfold F_gJ12_copyOf_2 at hF
  refine j_aload_n C dJ12_copyOf_2_0 rfl 2 rfl ?_
  obtain ⟨q_10, hgd, hF⟩ := hF
  refine jg_ldcM C q645 hgd dJ12_copyOf_2_1 ?_
  obtain ⟨K_11, hK_11, hF⟩ := jn_intro (M := fun (K : GZ → Nat → Prop) => ∀ (S_12 : GZ) (t_13 : Nat), K S_12 t_13 → J G p l e ({ frames := 1, cells := S.2.1, slots := S.2.2, locals := 220 } : Room) s m args below meth c 4 Q S_12.2.1 S_12.2.2 S_12.1 24 [(0, .ref x0), (1, .int x1)] [.ref t_13]) (hk := by
      intro S_12 t_13 hF
      refine j_astore_n (L2 := [(3, .ref t_13), (0, .ref x0), (1, .int x1)]) C dJ12_copyOf_2_24 rfl (by decide) rfl ?_
      refine j_aload_n C dJ12_copyOf_2_25 rfl 1 rfl ?_
      refine j_iconst (v := 0) C dJ12_copyOf_2_26 rfl ?_
      refine j_aload_n C dJ12_copyOf_2_27 rfl 0 rfl ?_
      refine j_iconst (v := 0) C dJ12_copyOf_2_28 rfl ?_
      refine j_aload_n C dJ12_copyOf_2_29 rfl 1 rfl ?_
      obtain ⟨n_14, hgd, hF⟩ := hF
      refine jg_alen C hgd dJ12_copyOf_2_30 ?_
      refine j_iload_n C dJ12_copyOf_2_31 rfl 2 rfl ?_
      refine j_mmin C (Nat.le_of_ble_eq_true rfl) (Nat.le_of_ble_eq_true rfl) q647 (Nat.le_of_ble_eq_true rfl) q648 q107 q649 dJ12_copyOf_2_32 ?_
      obtain ⟨n_15, n_16, f_17, g_18, hg1, hg2, hg3, hg4, hg5, hg6, hg7, hg8, hF⟩ := hF
      refine jg_copyo C hTab hm q650 hg1 hg2 hg3 hg4 hg5 hg6 hg7 hg8 (Nat.le_of_ble_eq_true rfl) (Nat.le_of_ble_eq_true rfl) dJ12_copyOf_2_35 ?_
      obtain ⟨S_19, eS_19, hF⟩ := nm_intro hF
      refine g_J eS_19 ?_
      refine j_aload_n C dJ12_copyOf_2_38 rfl 0 rfl ?_
      rw [hQ]
      exact j_aret C (Or.inr ⟨_, rfl⟩) (Or.inr ⟨_, rfl⟩) ⟨_, rfl, hF⟩ dJ12_copyOf_2_39) hF
  refine jg_acmp_ne (x := (some x2)) (y := (some q_10)) (tgt := 13) C dJ12_copyOf_2_3 (by decide) (fun hc_20 => ?_) (fun hc_20 => ?_)
  · replace hF := hF.2 hc_20
    refine j_aload_n C dJ12_copyOf_2_13 rfl 2 rfl ?_
    exact hF.elim
  · replace hF := hF.1 hc_20
    refine j_iload_n C dJ12_copyOf_2_6 rfl 1 rfl ?_
    obtain ⟨hg1, hg2, hg3, hg4, hF⟩ := hF
    refine jg_newq C hm (d := 7) q646 (C.tab hTab q210 rfl) (fun _ => rfl) hg1 rfl hg4 (bc' := S.2.1 - 1) (bs' := S.2.2 - Int32.toNatClampNeg x1) (by omega) (by omega) dJ12_copyOf_2_7 (fun q_21 hq1 hq2 => ?_)
    replace hF := hF q_21 hq1 hq2
    obtain ⟨S_22, eS_22, hF⟩ := nm_intro hF
    refine g_J eS_22 ?_
    refine j_goto (tgt := 24) C dJ12_copyOf_2_10 (by decide) ?_
    exact J.locals [0, 1] (hK_11 _ _ hF) rfl
def F_gJ12_copyOf (G : GT) (S : GZ) (x0 : Nat) (x1 : Int32) (P : Nat → AH → Prop) : Prop := ∃ (n_9 : Nat) (f_10 : Nat → Option Nat) (q_11 : Nat), MiF G q_11 ∧ S.1 x0 = some (.inl (G.2.2.1 7, n_9, .inr (.inr (.inr (.inr f_10))))) ∧ (∃ c_12 s_13 : Nat, c_12 ≤ S.2.1 ∧ s_13 ≤ S.2.2 ∧ F_gJ12_copyOf_2 G (S.1, c_12, s_13) x0 x1 q_11 (fun r_14 h_15 => nm (α := GZ) (h_15, S.2.1 - c_12, S.2.2 - s_13) (fun S_16 => P r_14 S_16.1)))
set_option maxHeartbeats 4000000 in
theorem M_gJ12_copyOf (G : GT) (l : Launch) (hG : GOK G) (hTab : TabF G) (hm : FreeG G) (S : GZ) (x0 : Nat) (x1 : Int32) (P : Nat → AH → Prop) (hF : F_gJ12_copyOf G S x0 x1 P) : MT G l yJ12_copyOf cJ12_copyOf 2 (some (Jvm.ClassFile.FieldType.array (Jvm.ClassFile.FieldType.object "java/lang/Object"))) 2 253 S.2.1 S.2.2 [.ref x0, .int x1] S.1 (fun v h' => ∃ r : Nat, v = some (.ref r) ∧ P r h') := by
  refine MT.mk (own := RJ12) (by decide) rfl hG (Nat.le_of_ble_eq_true rfl) ?_
  intro p e s m below meth c args Q hargs hQ C hname
  refine J.loca (L2 := [(0, .ref x0), (1, .int x1)]) rfl ?_
  unfold F_gJ12_copyOf at hF
  refine j_aload_n C dJ12_copyOf_0 rfl 0 rfl ?_
  refine j_iload_n C dJ12_copyOf_1 rfl 1 rfl ?_
  refine j_aload_n C dJ12_copyOf_2 rfl 0 rfl ?_
  obtain ⟨n_9, f_10, q_11, hg1, hg2, hF⟩ := hF
  refine jg_getC C hTab q608 hg1 hg2 (Nat.le_of_ble_eq_true rfl) (Nat.le_of_ble_eq_true rfl) dJ12_copyOf_3 ?_
  obtain ⟨c_12, s_13, hc1, hc2, hF⟩ := hF
  refine j_callS (n := 3) (As := [.ref x0, .int x1, .ref q_11]) (rest := []) C (M_gJ12_copyOf_2 G l hG hTab hm (S.1, c_12, s_13) x0 x1 q_11 _ hF) q642 ⟨q643, q111, q644, by decide +kernel⟩ rfl rfl (Nat.le_of_ble_eq_true rfl) ⟨Nat.le_of_ble_eq_true rfl, Nat.le_of_ble_eq_true rfl⟩ hc1 hc2 dJ12_copyOf_6 (kk_r fun r_14 h_15 hF => ?_)
  obtain ⟨S_16, eS_16, hF⟩ := nm_intro hF
  refine g_J eS_16 ?_
  rw [hQ]
  exact j_aret C (Or.inr ⟨_, rfl⟩) (Or.inr ⟨_, rfl⟩) ⟨_, rfl, hF⟩ dJ12_copyOf_9
def F_gJ12_copyOfRangeByte (G : GT) (S : GZ) (x0 : Nat) (x1 : Int32) (x2 : Int32) (P : Nat → AH → Prop) : Prop := ∃ c_14 s_15 : Nat, c_14 ≤ S.2.1 ∧ s_15 ≤ S.2.2 ∧ F_gJ12_checkLength G (S.1, c_14, s_15) x1 x2 (fun h_17 => nm (α := GZ) (h_17, S.2.1 - c_14, S.2.2 - s_15) (fun S_18 => ¬ ((x2 - x1) : Int32) < 0 ∧ 1 ≤ S_18.2.1 ∧ Int32.toNatClampNeg (x2 - x1) ≤ S_18.2.2 ∧ Int32.toNatClampNeg (x2 - x1) * componentBytes .byte ≤ 536870912 ∧ ∀ q_19 : Nat, S_18.1 q_19 = none → G.1 ≤ q_19 → (nm (α := GZ) (hup S_18.1 q_19 (.inl (G.2.2.1 2, Int32.toNatClampNeg (x2 - x1), .inl (fun _ => 0))), S_18.2.1 - 1, S_18.2.2 - Int32.toNatClampNeg (x2 - x1)) (fun S_20 => ∃ n_21 : Nat, aL G S_20.1 x0 n_21 ∧ (∃ (n_22 n_23 : Nat) (f_24 g_25 : Nat → Int32), aB G S_20.1 x0 n_22 f_24 ∧ S_20.1 q_19 = some (.inl (G.2.2.1 2, n_23, .inl g_25)) ∧ ¬ (x1 : Int32) < 0 ∧ ¬ (0 : Int32) < 0 ∧ ¬ ((if (x2 - x1) < ((Int32.ofNat n_21) - x1) then (x2 - x1) else ((Int32.ofNat n_21) - x1)) : Int32) < 0 ∧ Int32.toNatClampNeg x1 + Int32.toNatClampNeg (if (x2 - x1) < ((Int32.ofNat n_21) - x1) then (x2 - x1) else ((Int32.ofNat n_21) - x1)) ≤ n_22 ∧ Int32.toNatClampNeg 0 + Int32.toNatClampNeg (if (x2 - x1) < ((Int32.ofNat n_21) - x1) then (x2 - x1) else ((Int32.ofNat n_21) - x1)) ≤ n_23 ∧ (∀ i : Nat, i < Int32.toNatClampNeg (if (x2 - x1) < ((Int32.ofNat n_21) - x1) then (x2 - x1) else ((Int32.ofNat n_21) - x1)) → fits .byte (.int (f_24 (Int32.toNatClampNeg x1 + i))) = true) ∧ (nm (α := GZ) (hup S_20.1 q_19 (.inl (G.2.2.1 2, n_23, .inl (va_cpy f_24 g_25 (Int32.toNatClampNeg x1) (Int32.toNatClampNeg 0) (Int32.toNatClampNeg (if (x2 - x1) < ((Int32.ofNat n_21) - x1) then (x2 - x1) else ((Int32.ofNat n_21) - x1)))))), S_20.2.1, S_20.2.2) (fun S_26 => P q_19 S_26.1)))))))
set_option maxHeartbeats 4000000 in
theorem M_gJ12_copyOfRangeByte (G : GT) (l : Launch) (hG : GOK G) (hTab : TabF G) (hm : FreeG G) (S : GZ) (x0 : Nat) (x1 : Int32) (x2 : Int32) (P : Nat → AH → Prop) (hF : F_gJ12_copyOfRangeByte G S x0 x1 x2 P) : MT G l yJ12_copyOfRangeByte cJ12_copyOfRangeByte 5 (some (Jvm.ClassFile.FieldType.array Jvm.ClassFile.FieldType.byte)) 1 220 S.2.1 S.2.2 [.ref x0, .int x1, .int x2] S.1 (fun v h' => ∃ r : Nat, v = some (.ref r) ∧ P r h') := by
  refine MT.mk (own := RJ12) (by decide) rfl hG (Nat.le_of_ble_eq_true rfl) ?_
  intro p e s m below meth c args Q hargs hQ C hname
  refine J.loca (L2 := [(0, .ref x0), (1, .int x1), (2, .int x2)]) rfl ?_
  unfold F_gJ12_copyOfRangeByte at hF
  refine j_iload_n C dJ12_copyOfRangeByte_0 rfl 1 rfl ?_
  refine j_iload_n C dJ12_copyOfRangeByte_1 rfl 2 rfl ?_
  obtain ⟨c_14, s_15, hc1, hc2, hF⟩ := hF
  refine j_callS (n := 2) (As := [.int x1, .int x2]) (rest := []) C (M_gJ12_checkLength G l hG hTab hm (S.1, c_14, s_15) x1 x2 _ hF) q1476 ⟨q1477, q111, q1478, by decide +kernel⟩ rfl rfl (Nat.le_of_ble_eq_true rfl) ⟨Nat.le_of_ble_eq_true rfl, Nat.le_of_ble_eq_true rfl⟩ hc1 hc2 dJ12_copyOfRangeByte_2 (kk_v fun h_17 hF => ?_)
  obtain ⟨S_18, eS_18, hF⟩ := nm_intro hF
  refine g_J eS_18 ?_
  refine j_iload_n C dJ12_copyOfRangeByte_5 rfl 2 rfl ?_
  refine j_iload_n C dJ12_copyOfRangeByte_6 rfl 1 rfl ?_
  refine j_isub C dJ12_copyOfRangeByte_7 ?_
  refine j_istore_n (L2 := [(3, .int (x2 - x1)), (0, .ref x0), (1, .int x1), (2, .int x2)]) C dJ12_copyOfRangeByte_8 rfl (by decide) rfl ?_
  refine j_iload_n C dJ12_copyOfRangeByte_9 rfl 0 rfl ?_
  obtain ⟨hg1, hg2, hg3, hg4, hF⟩ := hF
  refine j_newa C hm 2 (ty := .byte) rfl (fun _ z => nomatch z) (fun _ => rfl) q253 (Int32.toNatClampNeg (x2 - x1), .inl (fun _ => 0)) (fun _ => rfl) hg1 rfl hg4 (bc' := S_18.2.1 - 1) (bs' := S_18.2.2 - Int32.toNatClampNeg (x2 - x1)) (by omega) (by omega) dJ12_copyOfRangeByte_10 (fun q_19 hq1 hq2 => ?_)
  replace hF := hF q_19 hq1 hq2
  obtain ⟨S_20, eS_20, hF⟩ := nm_intro hF
  refine g_J eS_20 ?_
  refine j_astore (L2 := [(4, .ref q_19), (3, .int (x2 - x1)), (0, .ref x0), (1, .int x1), (2, .int x2)]) C dJ12_copyOfRangeByte_12 (by decide) rfl ?_
  refine j_aload_n C dJ12_copyOfRangeByte_14 rfl 2 rfl ?_
  refine j_iload_n C dJ12_copyOfRangeByte_15 rfl 3 rfl ?_
  refine j_aload C dJ12_copyOfRangeByte_16 0 rfl ?_
  refine j_iconst (v := 0) C dJ12_copyOfRangeByte_18 rfl ?_
  refine j_aload_n C dJ12_copyOfRangeByte_19 rfl 2 rfl ?_
  obtain ⟨n_21, hgd, hF⟩ := hF
  refine jg_alen C hgd dJ12_copyOfRangeByte_20 ?_
  refine j_iload_n C dJ12_copyOfRangeByte_21 rfl 3 rfl ?_
  refine j_isub C dJ12_copyOfRangeByte_22 ?_
  refine j_iload_n C dJ12_copyOfRangeByte_23 rfl 1 rfl ?_
  refine j_mmin C (Nat.le_of_ble_eq_true rfl) (Nat.le_of_ble_eq_true rfl) q647 (Nat.le_of_ble_eq_true rfl) q648 q107 q649 dJ12_copyOfRangeByte_24 ?_
  obtain ⟨n_22, n_23, f_24, g_25, hg1, hg2, hg3, hg4, hg5, hg6, hg7, hg8, hF⟩ := hF
  refine jg_copyb C hm q650 hg1 hg2 hg3 hg4 hg5 hg6 hg7 hg8 (Nat.le_of_ble_eq_true rfl) (Nat.le_of_ble_eq_true rfl) dJ12_copyOfRangeByte_27 ?_
  obtain ⟨S_26, eS_26, hF⟩ := nm_intro hF
  refine g_J eS_26 ?_
  refine j_aload C dJ12_copyOfRangeByte_30 0 rfl ?_
  rw [hQ]
  exact j_aret C (Or.inr ⟨_, rfl⟩) (Or.inr ⟨_, rfl⟩) ⟨_, rfl, hF⟩ dJ12_copyOfRangeByte_32
def F_gJ12_copyOfRange (G : GT) (S : GZ) (x0 : Nat) (x1 : Int32) (x2 : Int32) (P : Nat → AH → Prop) : Prop := jn (α := GZ → Prop) (fun S_14 => ∃ c_15 s_16 : Nat, c_15 ≤ S_14.2.1 ∧ s_16 ≤ S_14.2.2 ∧ F_gJ12_copyOfRangeByte G (S_14.1, c_15, s_16) x0 x1 x2 (fun r_17 h_18 => nm (α := GZ) (h_18, S_14.2.1 - c_15, S_14.2.2 - s_16) (fun S_19 => P r_17 S_19.1))) (fun K_13 => (x1 = 0 → ∃ n_21 : Nat, aL G S.1 x0 n_21 ∧ ((x2 = (Int32.ofNat n_21) → ∃ (n_23 : Nat) (f_24 : Nat → Int32), S.1 x0 = some (.inl (G.2.2.1 2, n_23, .inl f_24)) ∧ (∀ i : Nat, i < n_23 → fits .byte (.int (f_24 i)) = true) ∧ 1 ≤ S.2.1 ∧ n_23 ≤ S.2.2 ∧ ∀ q_25 : Nat, S.1 q_25 = none → G.1 ≤ q_25 → (nm (α := GZ) (hup S.1 q_25 (.inl (G.2.2.1 2, n_23, .inl f_24)), S.2.1 - 1, S.2.2 - n_23) (fun S_26 => ∃ (n_27 : Nat) (f_28 : Nat → Int32), S_26.1 q_25 = some (.inl (G.2.2.1 2, n_27, .inl f_28)) ∧ (P q_25 S_26.1)))) ∧ (¬ x2 = (Int32.ofNat n_21) → K_13 S))) ∧ (¬ x1 = 0 → K_13 S))
set_option maxHeartbeats 4000000 in
theorem M_gJ12_copyOfRange (G : GT) (l : Launch) (hG : GOK G) (hTab : TabF G) (hm : FreeG G) (S : GZ) (x0 : Nat) (x1 : Int32) (x2 : Int32) (P : Nat → AH → Prop) (hF : F_gJ12_copyOfRange G S x0 x1 x2 P) : MT G l yJ12_copyOfRange cJ12_copyOfRange 3 (some (Jvm.ClassFile.FieldType.array Jvm.ClassFile.FieldType.byte)) 2 254 S.2.1 S.2.2 [.ref x0, .int x1, .int x2] S.1 (fun v h' => ∃ r : Nat, v = some (.ref r) ∧ P r h') := by
  refine MT.mk (own := RJ12) (by decide) rfl hG (Nat.le_of_ble_eq_true rfl) ?_
  intro p e s m below meth c args Q hargs hQ C hname
  refine J.loca (L2 := [(0, .ref x0), (1, .int x1), (2, .int x2)]) rfl ?_
  unfold F_gJ12_copyOfRange at hF
  refine j_iload_n C dJ12_copyOfRange_0 rfl 1 rfl ?_
  obtain ⟨K_13, hK_13, hF⟩ := jn_intro (M := fun (K : GZ → Prop) => ∀ (S_14 : GZ), K S_14 → J G p l e ({ frames := 2, cells := S.2.1, slots := S.2.2, locals := 254 } : Room) s m args below meth c 3 Q S_14.2.1 S_14.2.2 S_14.1 10 [(0, .ref x0), (1, .int x1), (2, .int x2)] []) (hk := by
      intro S_14 hF
      refine j_aload_n C dJ12_copyOfRange_10 rfl 0 rfl ?_
      refine j_iload_n C dJ12_copyOfRange_11 rfl 1 rfl ?_
      refine j_iload_n C dJ12_copyOfRange_12 rfl 2 rfl ?_
      obtain ⟨c_15, s_16, hc1, hc2, hF⟩ := hF
      refine j_callS (n := 3) (As := [.ref x0, .int x1, .int x2]) (rest := []) C (M_gJ12_copyOfRangeByte G l hG hTab hm (S_14.1, c_15, s_16) x0 x1 x2 _ hF) q1473 ⟨q1474, q111, q1475, by decide +kernel⟩ rfl rfl (Nat.le_of_ble_eq_true rfl) ⟨Nat.le_of_ble_eq_true rfl, Nat.le_of_ble_eq_true rfl⟩ hc1 hc2 dJ12_copyOfRange_13 (kk_r fun r_17 h_18 hF => ?_)
      obtain ⟨S_19, eS_19, hF⟩ := nm_intro hF
      refine g_J eS_19 ?_
      rw [hQ]
      exact j_aret C (Or.inr ⟨_, rfl⟩) (Or.inr ⟨_, rfl⟩) ⟨_, rfl, hF⟩ dJ12_copyOfRange_16) hF
  refine j_if_ne (tgt := 10) C dJ12_copyOfRange_1 (by decide) (fun hc_20 => ?_) (fun hc_20 => ?_)
  · replace hF := hF.2 hc_20
    exact J.locals [0, 1, 2] (hK_13 _ hF) rfl
  · replace hF := hF.1 hc_20
    refine j_iload_n C dJ12_copyOfRange_4 rfl 2 rfl ?_
    refine j_aload_n C dJ12_copyOfRange_5 rfl 0 rfl ?_
    obtain ⟨n_21, hgd, hF⟩ := hF
    refine jg_alen C hgd dJ12_copyOfRange_6 ?_
    refine j_icmp_eq (tgt := 17) C dJ12_copyOfRange_7 (by decide) (fun hc_22 => ?_) (fun hc_22 => ?_)
    · replace hF := hF.1 hc_22
      refine j_aload_n C dJ12_copyOfRange_17 rfl 0 rfl ?_
      obtain ⟨n_23, f_24, hg1, hg2, hg3, hg4, hF⟩ := hF
      refine jg_cloneb C hTab hm q786 hg1 hg2 (Nat.le_of_ble_eq_true rfl) (Nat.le_of_ble_eq_true rfl) (bc' := S.2.1 - 1) (bs' := S.2.2 - n_23) (by omega) (by omega) dJ12_copyOfRange_18 (fun q_25 hq1 hq2 => ?_)
      replace hF := hF q_25 hq1 hq2
      obtain ⟨S_26, eS_26, hF⟩ := nm_intro hF
      refine g_J eS_26 ?_
      obtain ⟨n_27, f_28, hgd, hF⟩ := hF
      refine jg_castB C q792 hgd dJ12_copyOfRange_21 ?_
      rw [hQ]
      exact j_aret C (Or.inr ⟨_, rfl⟩) (Or.inr ⟨_, rfl⟩) ⟨_, rfl, hF⟩ dJ12_copyOfRange_24
    · replace hF := hF.2 hc_22
      exact J.locals [0, 1, 2] (hK_13 _ hF) rfl
def F_gJ12_copyOf_3 (G : GT) (S : GZ) (x0 : Nat) (x1 : Int32) (P : Nat → AH → Prop) : Prop := ∃ n_16 : Nat, aL G S.1 x0 n_16 ∧ ((x1 = (Int32.ofNat n_16) → ∃ (n_26 : Nat) (f_27 : Nat → Int32), S.1 x0 = some (.inl (G.2.2.1 2, n_26, .inl f_27)) ∧ (∀ i : Nat, i < n_26 → fits .byte (.int (f_27 i)) = true) ∧ 1 ≤ S.2.1 ∧ n_26 ≤ S.2.2 ∧ ∀ q_28 : Nat, S.1 q_28 = none → G.1 ≤ q_28 → (nm (α := GZ) (hup S.1 q_28 (.inl (G.2.2.1 2, n_26, .inl f_27)), S.2.1 - 1, S.2.2 - n_26) (fun S_29 => ∃ (n_30 : Nat) (f_31 : Nat → Int32), S_29.1 q_28 = some (.inl (G.2.2.1 2, n_30, .inl f_31)) ∧ (P q_28 S_29.1)))) ∧ (¬ x1 = (Int32.ofNat n_16) → ¬ (x1 : Int32) < 0 ∧ 1 ≤ S.2.1 ∧ Int32.toNatClampNeg x1 ≤ S.2.2 ∧ Int32.toNatClampNeg x1 * componentBytes .byte ≤ 536870912 ∧ ∀ q_18 : Nat, S.1 q_18 = none → G.1 ≤ q_18 → (nm (α := GZ) (hup S.1 q_18 (.inl (G.2.2.1 2, Int32.toNatClampNeg x1, .inl (fun _ => 0))), S.2.1 - 1, S.2.2 - Int32.toNatClampNeg x1) (fun S_19 => ∃ n_20 : Nat, aL G S_19.1 x0 n_20 ∧ (∃ (n_21 n_22 : Nat) (f_23 g_24 : Nat → Int32), aB G S_19.1 x0 n_21 f_23 ∧ S_19.1 q_18 = some (.inl (G.2.2.1 2, n_22, .inl g_24)) ∧ ¬ (0 : Int32) < 0 ∧ ¬ (0 : Int32) < 0 ∧ ¬ ((if x1 < (Int32.ofNat n_20) then x1 else (Int32.ofNat n_20)) : Int32) < 0 ∧ Int32.toNatClampNeg 0 + Int32.toNatClampNeg (if x1 < (Int32.ofNat n_20) then x1 else (Int32.ofNat n_20)) ≤ n_21 ∧ Int32.toNatClampNeg 0 + Int32.toNatClampNeg (if x1 < (Int32.ofNat n_20) then x1 else (Int32.ofNat n_20)) ≤ n_22 ∧ (∀ i : Nat, i < Int32.toNatClampNeg (if x1 < (Int32.ofNat n_20) then x1 else (Int32.ofNat n_20)) → fits .byte (.int (f_23 (Int32.toNatClampNeg 0 + i))) = true) ∧ (nm (α := GZ) (hup S_19.1 q_18 (.inl (G.2.2.1 2, n_22, .inl (va_cpy f_23 g_24 (Int32.toNatClampNeg 0) (Int32.toNatClampNeg 0) (Int32.toNatClampNeg (if x1 < (Int32.ofNat n_20) then x1 else (Int32.ofNat n_20)))))), S_19.2.1, S_19.2.2) (fun S_25 => P q_18 S_25.1)))))))
set_option maxHeartbeats 4000000 in
theorem M_gJ12_copyOf_3 (G : GT) (l : Launch) (hG : GOK G) (hTab : TabF G) (hm : FreeG G) (S : GZ) (x0 : Nat) (x1 : Int32) (P : Nat → AH → Prop) (hF : F_gJ12_copyOf_3 G S x0 x1 P) : MT G l yJ12_copyOf_3 cJ12_copyOf_3 3 (some (Jvm.ClassFile.FieldType.array Jvm.ClassFile.FieldType.byte)) 1 220 S.2.1 S.2.2 [.ref x0, .int x1] S.1 (fun v h' => ∃ r : Nat, v = some (.ref r) ∧ P r h') := by
  refine MT.mk (own := RJ12) (by decide) rfl hG (Nat.le_of_ble_eq_true rfl) ?_
  intro p e s m below meth c args Q hargs hQ C hname
  refine J.loca (L2 := [(0, .ref x0), (1, .int x1)]) rfl ?_
  unfold F_gJ12_copyOf_3 at hF
  refine j_iload_n C dJ12_copyOf_3_0 rfl 1 rfl ?_
  refine j_aload_n C dJ12_copyOf_3_1 rfl 0 rfl ?_
  obtain ⟨n_16, hgd, hF⟩ := hF
  refine jg_alen C hgd dJ12_copyOf_3_2 ?_
  refine j_icmp_ne (tgt := 14) C dJ12_copyOf_3_3 (by decide) (fun hc_17 => ?_) (fun hc_17 => ?_)
  · replace hF := hF.2 hc_17
    refine j_iload_n C dJ12_copyOf_3_14 rfl 1 rfl ?_
    obtain ⟨hg1, hg2, hg3, hg4, hF⟩ := hF
    refine j_newa C hm 2 (ty := .byte) rfl (fun _ z => nomatch z) (fun _ => rfl) q253 (Int32.toNatClampNeg x1, .inl (fun _ => 0)) (fun _ => rfl) hg1 rfl hg4 (bc' := S.2.1 - 1) (bs' := S.2.2 - Int32.toNatClampNeg x1) (by omega) (by omega) dJ12_copyOf_3_15 (fun q_18 hq1 hq2 => ?_)
    replace hF := hF q_18 hq1 hq2
    obtain ⟨S_19, eS_19, hF⟩ := nm_intro hF
    refine g_J eS_19 ?_
    refine j_astore_n (L2 := [(2, .ref q_18), (0, .ref x0), (1, .int x1)]) C dJ12_copyOf_3_17 rfl (by decide) rfl ?_
    refine j_aload_n C dJ12_copyOf_3_18 rfl 1 rfl ?_
    refine j_iconst (v := 0) C dJ12_copyOf_3_19 rfl ?_
    refine j_aload_n C dJ12_copyOf_3_20 rfl 0 rfl ?_
    refine j_iconst (v := 0) C dJ12_copyOf_3_21 rfl ?_
    refine j_aload_n C dJ12_copyOf_3_22 rfl 1 rfl ?_
    obtain ⟨n_20, hgd, hF⟩ := hF
    refine jg_alen C hgd dJ12_copyOf_3_23 ?_
    refine j_iload_n C dJ12_copyOf_3_24 rfl 2 rfl ?_
    refine j_mmin C (Nat.le_of_ble_eq_true rfl) (Nat.le_of_ble_eq_true rfl) q647 (Nat.le_of_ble_eq_true rfl) q648 q107 q649 dJ12_copyOf_3_25 ?_
    obtain ⟨n_21, n_22, f_23, g_24, hg1, hg2, hg3, hg4, hg5, hg6, hg7, hg8, hF⟩ := hF
    refine jg_copyb C hm q650 hg1 hg2 hg3 hg4 hg5 hg6 hg7 hg8 (Nat.le_of_ble_eq_true rfl) (Nat.le_of_ble_eq_true rfl) dJ12_copyOf_3_28 ?_
    obtain ⟨S_25, eS_25, hF⟩ := nm_intro hF
    refine g_J eS_25 ?_
    refine j_aload_n C dJ12_copyOf_3_31 rfl 0 rfl ?_
    rw [hQ]
    exact j_aret C (Or.inr ⟨_, rfl⟩) (Or.inr ⟨_, rfl⟩) ⟨_, rfl, hF⟩ dJ12_copyOf_3_32
  · replace hF := hF.1 hc_17
    refine j_aload_n C dJ12_copyOf_3_6 rfl 0 rfl ?_
    obtain ⟨n_26, f_27, hg1, hg2, hg3, hg4, hF⟩ := hF
    refine jg_cloneb C hTab hm q786 hg1 hg2 (Nat.le_of_ble_eq_true rfl) (Nat.le_of_ble_eq_true rfl) (bc' := S.2.1 - 1) (bs' := S.2.2 - n_26) (by omega) (by omega) dJ12_copyOf_3_7 (fun q_28 hq1 hq2 => ?_)
    replace hF := hF q_28 hq1 hq2
    obtain ⟨S_29, eS_29, hF⟩ := nm_intro hF
    refine g_J eS_29 ?_
    obtain ⟨n_30, f_31, hgd, hF⟩ := hF
    refine jg_castB C q792 hgd dJ12_copyOf_3_10 ?_
    rw [hQ]
    exact j_aret C (Or.inr ⟨_, rfl⟩) (Or.inr ⟨_, rfl⟩) ⟨_, rfl, hF⟩ dJ12_copyOf_3_13
def F_gJ12_rangeCheck (G : GT) (S : GZ) (x0 : Int32) (x1 : Int32) (x2 : Int32) (P : AH → Prop) : Prop := (x1 ≤ x2 → (0 ≤ x1 → (x2 ≤ x0 → P S.1) ∧ (¬ x2 ≤ x0 → False)) ∧ (¬ 0 ≤ x1 → False)) ∧ (¬ x1 ≤ x2 → False)
set_option maxHeartbeats 4000000 in
theorem M_gJ12_rangeCheck (G : GT) (l : Launch) (hG : GOK G) (hTab : TabF G) (hm : FreeG G) (S : GZ) (x0 : Int32) (x1 : Int32) (x2 : Int32) (P : AH → Prop) (hF : F_gJ12_rangeCheck G S x0 x1 x2 P) : MT G l yJ12_rangeCheck cJ12_rangeCheck 3 none 0 0 S.2.1 S.2.2 [.int x0, .int x1, .int x2] S.1 (fun v h' => v = none ∧ P h') := by
  refine MT.mk (own := RJ12) (by decide) rfl hG (Nat.le_of_ble_eq_true rfl) ?_
  intro p e s m below meth c args Q hargs hQ C hname
  refine J.loca (L2 := [(0, .int x0), (1, .int x1), (2, .int x2)]) rfl ?_
  unfold F_gJ12_rangeCheck at hF
  refine j_iload_n C dJ12_rangeCheck_0 rfl 1 rfl ?_
  refine j_iload_n C dJ12_rangeCheck_1 rfl 2 rfl ?_
  refine j_icmp_le (tgt := 46) C dJ12_rangeCheck_2 (by decide) (fun hc_1 => ?_) (fun hc_1 => ?_)
  · replace hF := hF.1 hc_1
    refine j_iload_n C dJ12_rangeCheck_46 rfl 1 rfl ?_
    refine j_if_ge (tgt := 59) C dJ12_rangeCheck_47 (by decide) (fun hc_2 => ?_) (fun hc_2 => ?_)
    · replace hF := hF.1 hc_2
      refine j_iload_n C dJ12_rangeCheck_59 rfl 2 rfl ?_
      refine j_iload_n C dJ12_rangeCheck_60 rfl 0 rfl ?_
      refine j_icmp_le (tgt := 73) C dJ12_rangeCheck_61 (by decide) (fun hc_3 => ?_) (fun hc_3 => ?_)
      · replace hF := hF.1 hc_3
        rw [hQ]
        exact j_vret C ⟨rfl, hF⟩ dJ12_rangeCheck_73
      · replace hF := hF.2 hc_3
        exact hF.elim
    · replace hF := hF.2 hc_2
      exact hF.elim
  · replace hF := hF.2 hc_1
    exact hF.elim
def L_gJ12_fill_10 (G : GT) (P : AH → Prop) (f0 : Nat) (f2 : Int32) (f3 : Int32) : Nat → GZ → Int32 → Prop
  | 0, _, _ => False
  | n + 1, S, z4 => (f2 ≤ z4 → P S.1) ∧ (¬ f2 ≤ z4 → ∃ (n_17 : Nat) (f_18 : Nat → Int32), S.1 f0 = some (.inl (G.2.2.1 2, n_17, .inl f_18)) ∧ vp_in z4 n_17 ∧ (nm (α := GZ) (hup S.1 f0 (.inl (G.2.2.1 2, n_17, .inl (upd f_18 (Int32.toNatClampNeg z4) (vp_nar .byte f3)))), S.2.1, S.2.2) (fun S_19 => L_gJ12_fill_10 G P f0 f2 f3 n S_19 (z4 + 1))))
def F_gJ12_fill (G : GT) (S : GZ) (x0 : Nat) (x1 : Int32) (x2 : Int32) (x3 : Int32) (P : AH → Prop) : Prop := ∃ n_10 : Nat, aL G S.1 x0 n_10 ∧ (∃ c_11 s_12 : Nat, c_11 ≤ S.2.1 ∧ s_12 ≤ S.2.2 ∧ F_gJ12_rangeCheck G (S.1, c_11, s_12) (Int32.ofNat n_10) x1 x2 (fun h_14 => nm (α := GZ) (h_14, S.2.1 - c_11, S.2.2 - s_12) (fun S_15 => L_gJ12_fill_10 G P x0 x2 x3 NF S_15 x1)))
set_option maxHeartbeats 4000000 in
theorem WL_gJ12_fill_10 {G : GT} {p : Program} {l : Launch} {e : Env} {s : State} {m : MethodId} {args : Array Value} {below : List Frame} {meth : Method} {c : Code} {Q : State → Prop} {c0 s0 : Nat} (C : Cx G p s m args meth c cJ12_fill RJ12 5 none) (hG : GOK G) (hTab : TabF G) (hm : FreeG G) (hname : meth.name = yJ12_fill.name) {P : AH → Prop} (hQ : Q = MQ below (SQ G (fun v h' => v = none ∧ P h')) args s (({ frames := 1, cells := c0, slots := s0, locals := 32 } : Room) : Room).cells (({ frames := 1, cells := c0, slots := s0, locals := 32 } : Room) : Room).slots (fun q => G.1 ≤ q)) {f0 : Nat} {f2 : Int32} {f3 : Int32} :
    ∀ (n : Nat) (S : GZ) (z4 : Int32), L_gJ12_fill_10 G P f0 f2 f3 n S z4 → J G p l e ({ frames := 1, cells := c0, slots := s0, locals := 32 } : Room) s m args below meth c 5 Q S.2.1 S.2.2 S.1 10 [(0, .ref f0), (2, .int f2), (3, .int f3), (4, .int z4)] [] := by
  intro n
  induction n with
  | zero => intro S z4 hF; exact hF.elim
  | succ n ih =>
    intro S z4 hF
    unfold L_gJ12_fill_10 at hF
    refine j_iload C dJ12_fill_10 3 rfl ?_
    refine j_iload_n C dJ12_fill_12 rfl 1 rfl ?_
    refine j_icmp_ge (tgt := 27) C dJ12_fill_13 (by decide) (fun hc_16 => ?_) (fun hc_16 => ?_)
    · replace hF := hF.1 hc_16
      rw [hQ]
      exact j_vret C ⟨rfl, hF⟩ dJ12_fill_27
    · replace hF := hF.2 hc_16
      refine j_aload_n C dJ12_fill_16 rfl 0 rfl ?_
      refine j_iload C dJ12_fill_17 3 rfl ?_
      refine j_iload_n C dJ12_fill_19 rfl 2 rfl ?_
      obtain ⟨n_17, f_18, hg1, hg2, hF⟩ := hF
      refine j_bast C hm hg1 hg2 dJ12_fill_20 ?_
      obtain ⟨S_19, eS_19, hF⟩ := nm_intro hF
      refine g_J eS_19 ?_
      refine j_iinc (q := 3) (v := z4 + 1) (L2 := [(4, .int (z4 + 1)), (0, .ref f0), (2, .int f2), (3, .int f3)]) C dJ12_fill_21 rfl rfl (by decide) rfl ?_
      refine j_goto (tgt := 10) C dJ12_fill_24 (by decide) ?_
      exact J.locals [1, 2, 3, 0] (ih _ _ hF) rfl
set_option maxHeartbeats 4000000 in
theorem M_gJ12_fill (G : GT) (l : Launch) (hG : GOK G) (hTab : TabF G) (hm : FreeG G) (S : GZ) (x0 : Nat) (x1 : Int32) (x2 : Int32) (x3 : Int32) (P : AH → Prop) (hF : F_gJ12_fill G S x0 x1 x2 x3 P) : MT G l yJ12_fill cJ12_fill 5 none 1 32 S.2.1 S.2.2 [.ref x0, .int x1, .int x2, .int x3] S.1 (fun v h' => v = none ∧ P h') := by
  refine MT.mk (own := RJ12) (by decide) rfl hG (Nat.le_of_ble_eq_true rfl) ?_
  intro p e s m below meth c args Q hargs hQ C hname
  refine J.loca (L2 := [(0, .ref x0), (1, .int x1), (2, .int x2), (3, .int x3)]) rfl ?_
  unfold F_gJ12_fill at hF
  refine j_aload_n C dJ12_fill_0 rfl 0 rfl ?_
  obtain ⟨n_10, hgd, hF⟩ := hF
  refine jg_alen C hgd dJ12_fill_1 ?_
  refine j_iload_n C dJ12_fill_2 rfl 1 rfl ?_
  refine j_iload_n C dJ12_fill_3 rfl 2 rfl ?_
  obtain ⟨c_11, s_12, hc1, hc2, hF⟩ := hF
  refine j_callS (n := 3) (As := [.int (Int32.ofNat n_10), .int x1, .int x2]) (rest := []) C (M_gJ12_rangeCheck G l hG hTab hm (S.1, c_11, s_12) (Int32.ofNat n_10) x1 x2 _ hF) q1553 ⟨q1554, q111, q1555, by decide +kernel⟩ rfl rfl (Nat.le_of_ble_eq_true rfl) ⟨Nat.le_of_ble_eq_true rfl, Nat.le_of_ble_eq_true rfl⟩ hc1 hc2 dJ12_fill_4 (kk_v fun h_14 hF => ?_)
  obtain ⟨S_15, eS_15, hF⟩ := nm_intro hF
  refine g_J eS_15 ?_
  refine j_iload_n C dJ12_fill_7 rfl 1 rfl ?_
  refine j_istore (L2 := [(4, .int x1), (0, .ref x0), (1, .int x1), (2, .int x2), (3, .int x3)]) C dJ12_fill_8 (by decide) rfl ?_
  refine J.locals [1, 3, 4, 0] (WL_gJ12_fill_10 C hG hTab hm hname hQ NF _ _ hF) rfl
def F_gJ19_init (G : GT) (S : GZ) (x0 : Nat) (P : AH → Prop) : Prop := P S.1
set_option maxHeartbeats 4000000 in
theorem M_gJ19_init (G : GT) (l : Launch) (hG : GOK G) (hTab : TabF G) (hm : FreeG G) (S : GZ) (x0 : Nat) (P : AH → Prop) (hF : F_gJ19_init G S x0 P) : MT G l yJ19_init cJ19_init 1 none 1 30 S.2.1 S.2.2 [.ref x0] S.1 (fun v h' => v = none ∧ P h') := by
  refine MT.mk (own := RJ19) (by decide) rfl hG (Nat.le_of_ble_eq_true rfl) ?_
  intro p e s m below meth c args Q hargs hQ C hname
  refine J.loca (L2 := [(0, .ref x0)]) rfl ?_
  unfold F_gJ19_init at hF
  refine j_aload_n C dJ19_init_0 rfl 0 rfl ?_
  refine j_objInit C q1313 q142 q143 (Nat.le_of_ble_eq_true rfl) (Nat.le_of_ble_eq_true rfl) dJ19_init_1 ?_
  rw [hQ]
  exact j_vret C ⟨rfl, hF⟩ dJ19_init_4
def L_gJ20_getChars_22 (G : GT) (K72 : GZ → Int32 → Int32 → Prop) (P : Int32 → AH → Prop) (f2 : Nat) (f6 : Int32) : Nat → GZ → Int32 → Int32 → Prop
  | 0, _, _, _ => False
  | n + 1, S, z0, z5 => ((-100) < z0 → K72 S z0 z5) ∧ (¬ (-100) < z0 → ∃ v_37 : Nat, StV G "java/lang/Integer" "DigitOnes" "[B" (.ref v_37) ∧ (∃ (n_38 : Nat) (f_39 : Nat → Int32) (v_40 : Int32), aB G S.1 v_37 n_38 f_39 ∧ vp_in (((z0 / 100) * 100) - z0) n_38 ∧ f_39 (Int32.toNatClampNeg (((z0 / 100) * 100) - z0)) = v_40 ∧ (∃ (n_41 : Nat) (f_42 : Nat → Int32), S.1 f2 = some (.inl (G.2.2.1 2, n_41, .inl f_42)) ∧ vp_in (z5 + (-1)) n_41 ∧ (nm (α := GZ) (hup S.1 f2 (.inl (G.2.2.1 2, n_41, .inl (upd f_42 (Int32.toNatClampNeg (z5 + (-1))) (vp_nar .byte v_40)))), S.2.1, S.2.2) (fun S_43 => ∃ v_44 : Nat, StV G "java/lang/Integer" "DigitTens" "[B" (.ref v_44) ∧ (∃ (n_45 : Nat) (f_46 : Nat → Int32) (v_47 : Int32), aB G S_43.1 v_44 n_45 f_46 ∧ vp_in (((z0 / 100) * 100) - z0) n_45 ∧ f_46 (Int32.toNatClampNeg (((z0 / 100) * 100) - z0)) = v_47 ∧ (∃ (n_48 : Nat) (f_49 : Nat → Int32), S_43.1 f2 = some (.inl (G.2.2.1 2, n_48, .inl f_49)) ∧ vp_in ((z5 + (-1)) + (-1)) n_48 ∧ (nm (α := GZ) (hup S_43.1 f2 (.inl (G.2.2.1 2, n_48, .inl (upd f_49 (Int32.toNatClampNeg ((z5 + (-1)) + (-1))) (vp_nar .byte v_47)))), S_43.2.1, S_43.2.2) (fun S_50 => L_gJ20_getChars_22 G K72 P f2 f6 n S_50 (z0 / 100) ((z5 + (-1)) + (-1)))))))))))
def F_gJ20_getChars (G : GT) (S : GZ) (x0 : Int32) (x1 : Int32) (x2 : Nat) (P : Int32 → AH → Prop) : Prop := jn (α := GZ → Int32 → Prop) (fun S_33 t_34 => (t_34 = 0 → L_gJ20_getChars_22 G (fun S_91 w0_92 w5_93 => ∃ v_94 : Nat, StV G "java/lang/Integer" "DigitOnes" "[B" (.ref v_94) ∧ (∃ (n_95 : Nat) (f_96 : Nat → Int32) (v_97 : Int32), aB G S_91.1 v_94 n_95 f_96 ∧ vp_in (-w0_92) n_95 ∧ f_96 (Int32.toNatClampNeg (-w0_92)) = v_97 ∧ (∃ (n_98 : Nat) (f_99 : Nat → Int32), S_91.1 x2 = some (.inl (G.2.2.1 2, n_98, .inl f_99)) ∧ vp_in (w5_93 + (-1)) n_98 ∧ (nm (α := GZ) (hup S_91.1 x2 (.inl (G.2.2.1 2, n_98, .inl (upd f_99 (Int32.toNatClampNeg (w5_93 + (-1))) (vp_nar .byte v_97)))), S_91.2.1, S_91.2.2) (fun S_100 => jn (α := GZ → Int32 → Prop) (fun S_102 y5_103 => (t_34 = 0 → P y5_103 S_102.1) ∧ (¬ t_34 = 0 → ∃ (n_105 : Nat) (f_106 : Nat → Int32), S_102.1 x2 = some (.inl (G.2.2.1 2, n_105, .inl f_106)) ∧ vp_in (y5_103 + (-1)) n_105 ∧ (nm (α := GZ) (hup S_102.1 x2 (.inl (G.2.2.1 2, n_105, .inl (upd f_106 (Int32.toNatClampNeg (y5_103 + (-1))) (vp_nar .byte 45)))), S_102.2.1, S_102.2.2) (fun S_107 => P (y5_103 + (-1)) S_107.1)))) (fun K_101 => ((-9) ≤ w0_92 → K_101 S_100 (w5_93 + (-1))) ∧ (¬ (-9) ≤ w0_92 → ∃ v_109 : Nat, StV G "java/lang/Integer" "DigitTens" "[B" (.ref v_109) ∧ (∃ (n_110 : Nat) (f_111 : Nat → Int32) (v_112 : Int32), aB G S_100.1 v_109 n_110 f_111 ∧ vp_in (-w0_92) n_110 ∧ f_111 (Int32.toNatClampNeg (-w0_92)) = v_112 ∧ (∃ (n_113 : Nat) (f_114 : Nat → Int32), S_100.1 x2 = some (.inl (G.2.2.1 2, n_113, .inl f_114)) ∧ vp_in ((w5_93 + (-1)) + (-1)) n_113 ∧ (nm (α := GZ) (hup S_100.1 x2 (.inl (G.2.2.1 2, n_113, .inl (upd f_114 (Int32.toNatClampNeg ((w5_93 + (-1)) + (-1))) (vp_nar .byte v_112)))), S_100.2.1, S_100.2.2) (fun S_115 => K_101 S_115 ((w5_93 + (-1)) + (-1))))))))))))) P x2 t_34 NF S_33 (-x0) x1) ∧ (¬ t_34 = 0 → L_gJ20_getChars_22 G (fun S_51 w0_52 w5_53 => ∃ v_54 : Nat, StV G "java/lang/Integer" "DigitOnes" "[B" (.ref v_54) ∧ (∃ (n_55 : Nat) (f_56 : Nat → Int32) (v_57 : Int32), aB G S_51.1 v_54 n_55 f_56 ∧ vp_in (-w0_52) n_55 ∧ f_56 (Int32.toNatClampNeg (-w0_52)) = v_57 ∧ (∃ (n_58 : Nat) (f_59 : Nat → Int32), S_51.1 x2 = some (.inl (G.2.2.1 2, n_58, .inl f_59)) ∧ vp_in (w5_53 + (-1)) n_58 ∧ (nm (α := GZ) (hup S_51.1 x2 (.inl (G.2.2.1 2, n_58, .inl (upd f_59 (Int32.toNatClampNeg (w5_53 + (-1))) (vp_nar .byte v_57)))), S_51.2.1, S_51.2.2) (fun S_60 => jn (α := GZ → Int32 → Prop) (fun S_62 y5_63 => (t_34 = 0 → P y5_63 S_62.1) ∧ (¬ t_34 = 0 → ∃ (n_65 : Nat) (f_66 : Nat → Int32), S_62.1 x2 = some (.inl (G.2.2.1 2, n_65, .inl f_66)) ∧ vp_in (y5_63 + (-1)) n_65 ∧ (nm (α := GZ) (hup S_62.1 x2 (.inl (G.2.2.1 2, n_65, .inl (upd f_66 (Int32.toNatClampNeg (y5_63 + (-1))) (vp_nar .byte 45)))), S_62.2.1, S_62.2.2) (fun S_67 => P (y5_63 + (-1)) S_67.1)))) (fun K_61 => ((-9) ≤ w0_52 → K_61 S_60 (w5_53 + (-1))) ∧ (¬ (-9) ≤ w0_52 → ∃ v_69 : Nat, StV G "java/lang/Integer" "DigitTens" "[B" (.ref v_69) ∧ (∃ (n_70 : Nat) (f_71 : Nat → Int32) (v_72 : Int32), aB G S_60.1 v_69 n_70 f_71 ∧ vp_in (-w0_52) n_70 ∧ f_71 (Int32.toNatClampNeg (-w0_52)) = v_72 ∧ (∃ (n_73 : Nat) (f_74 : Nat → Int32), S_60.1 x2 = some (.inl (G.2.2.1 2, n_73, .inl f_74)) ∧ vp_in ((w5_53 + (-1)) + (-1)) n_73 ∧ (nm (α := GZ) (hup S_60.1 x2 (.inl (G.2.2.1 2, n_73, .inl (upd f_74 (Int32.toNatClampNeg ((w5_53 + (-1)) + (-1))) (vp_nar .byte v_72)))), S_60.2.1, S_60.2.2) (fun S_75 => K_61 S_75 ((w5_53 + (-1)) + (-1))))))))))))) P x2 t_34 NF S_33 x0 x1)) (fun K_32 => (0 ≤ x0 → K_32 S 0) ∧ (¬ 0 ≤ x0 → K_32 S 1))
set_option maxHeartbeats 4000000 in
theorem WL_gJ20_getChars_22 {G : GT} {p : Program} {l : Launch} {e : Env} {s : State} {m : MethodId} {args : Array Value} {below : List Frame} {meth : Method} {c : Code} {Q : State → Prop} {c0 s0 : Nat} (C : Cx G p s m args meth c cJ20_getChars RJ20 7 (some Jvm.ClassFile.FieldType.int)) (hG : GOK G) (hTab : TabF G) (hm : FreeG G) (hname : meth.name = yJ20_getChars.name) {P : Int32 → AH → Prop} (hQ : Q = MQ below (SQ G (fun v h' => ∃ r : Int32, v = some (.int r) ∧ P r h')) args s (({ frames := 0, cells := c0, slots := s0, locals := 0 } : Room) : Room).cells (({ frames := 0, cells := c0, slots := s0, locals := 0 } : Room) : Room).slots (fun q => G.1 ≤ q)) {K72 : GZ → Int32 → Int32 → Prop} {f2 : Nat} {f6 : Int32} (hK72 : ∀ (S0 : GZ) (w0 : Int32) (w5 : Int32), K72 S0 w0 w5 → J G p l e ({ frames := 0, cells := c0, slots := s0, locals := 0 } : Room) s m args below meth c 7 Q S0.2.1 S0.2.2 S0.1 72 [(0, .int w0), (2, .ref f2), (5, .int w5), (6, .int f6)] []) :
    ∀ (n : Nat) (S : GZ) (z0 : Int32) (z5 : Int32), L_gJ20_getChars_22 G K72 P f2 f6 n S z0 z5 → J G p l e ({ frames := 0, cells := c0, slots := s0, locals := 0 } : Room) s m args below meth c 7 Q S.2.1 S.2.2 S.1 22 [(0, .int z0), (2, .ref f2), (5, .int z5), (6, .int f6)] [] := by
  intro n
  induction n with
  | zero => intro S z0 z5 hF; exact hF.elim
  | succ n ih =>
    intro S z0 z5 hF
    unfold L_gJ20_getChars_22 at hF
    refine j_iload_n C dJ20_getChars_22 rfl 0 rfl ?_
    refine j_bipush (v := (-100)) C dJ20_getChars_23 rfl ?_
    refine j_icmp_gt (tgt := 72) C dJ20_getChars_25 (by decide) (fun hc_36 => ?_) (fun hc_36 => ?_)
    · replace hF := hF.1 hc_36
      exact J.locals [0, 1, 2, 3] (hK72 _ _ _ hF) rfl
    · replace hF := hF.2 hc_36
      refine j_iload_n C dJ20_getChars_28 rfl 0 rfl ?_
      refine j_bipush (v := 100) C dJ20_getChars_29 rfl ?_
      refine j_idiv C dJ20_getChars_31 (by decide) ?_
      refine j_istore_n (L2 := [(3, .int (z0 / 100)), (0, .int z0), (2, .ref f2), (5, .int z5), (6, .int f6)]) C dJ20_getChars_32 rfl (by decide) rfl ?_
      refine j_iload_n C dJ20_getChars_33 rfl 0 rfl ?_
      refine j_bipush (v := 100) C dJ20_getChars_34 rfl ?_
      refine j_imul C dJ20_getChars_36 ?_
      refine j_iload_n C dJ20_getChars_37 rfl 1 rfl ?_
      refine j_isub C dJ20_getChars_38 ?_
      refine j_istore (L2 := [(4, .int (((z0 / 100) * 100) - z0)), (3, .int (z0 / 100)), (0, .int z0), (2, .ref f2), (5, .int z5), (6, .int f6)]) C dJ20_getChars_39 (by decide) rfl ?_
      refine j_iload_n C dJ20_getChars_41 rfl 1 rfl ?_
      refine j_istore_n (L2 := [(0, .int (z0 / 100)), (4, .int (((z0 / 100) * 100) - z0)), (3, .int (z0 / 100)), (2, .ref f2), (5, .int z5), (6, .int f6)]) C dJ20_getChars_42 rfl (by decide) rfl ?_
      refine j_aload_n C dJ20_getChars_43 rfl 3 rfl ?_
      refine j_iinc (q := 4) (v := z5 + (-1)) (L2 := [(5, .int (z5 + (-1))), (0, .int (z0 / 100)), (4, .int (((z0 / 100) * 100) - z0)), (3, .int (z0 / 100)), (2, .ref f2), (6, .int f6)]) C dJ20_getChars_44 rfl rfl (by decide) rfl ?_
      refine j_iload C dJ20_getChars_47 0 rfl ?_
      obtain ⟨v_37, hgd, hF⟩ := hF
      refine jg_gets C hgd q880 rfl dJ20_getChars_49 ?_
      refine j_iload C dJ20_getChars_52 2 rfl ?_
      obtain ⟨n_38, f_39, v_40, hg1, hg2, hg3, hF⟩ := hF
      refine jg_bald C hg1 hg2 dJ20_getChars_54 ?_
      rw [hg3]
      obtain ⟨n_41, f_42, hg1, hg2, hF⟩ := hF
      refine j_bast C hm hg1 hg2 dJ20_getChars_55 ?_
      obtain ⟨S_43, eS_43, hF⟩ := nm_intro hF
      refine g_J eS_43 ?_
      refine j_aload_n C dJ20_getChars_56 rfl 4 rfl ?_
      refine j_iinc (q := 0) (v := (z5 + (-1)) + (-1)) (L2 := [(5, .int ((z5 + (-1)) + (-1))), (0, .int (z0 / 100)), (4, .int (((z0 / 100) * 100) - z0)), (3, .int (z0 / 100)), (2, .ref f2), (6, .int f6)]) C dJ20_getChars_57 rfl rfl (by decide) rfl ?_
      refine j_iload C dJ20_getChars_60 0 rfl ?_
      obtain ⟨v_44, hgd, hF⟩ := hF
      refine jg_gets C hgd q882 rfl dJ20_getChars_62 ?_
      refine j_iload C dJ20_getChars_65 2 rfl ?_
      obtain ⟨n_45, f_46, v_47, hg1, hg2, hg3, hF⟩ := hF
      refine jg_bald C hg1 hg2 dJ20_getChars_67 ?_
      rw [hg3]
      obtain ⟨n_48, f_49, hg1, hg2, hF⟩ := hF
      refine j_bast C hm hg1 hg2 dJ20_getChars_68 ?_
      obtain ⟨S_50, eS_50, hF⟩ := nm_intro hF
      refine g_J eS_50 ?_
      refine j_goto (tgt := 22) C dJ20_getChars_69 (by decide) ?_
      exact J.locals [1, 4, 0, 5] (ih _ _ _ hF) rfl
set_option maxHeartbeats 4000000 in
theorem M_gJ20_getChars (G : GT) (l : Launch) (hG : GOK G) (hTab : TabF G) (hm : FreeG G) (S : GZ) (x0 : Int32) (x1 : Int32) (x2 : Nat) (P : Int32 → AH → Prop) (hF : F_gJ20_getChars G S x0 x1 x2 P) : MT G l yJ20_getChars cJ20_getChars 7 (some Jvm.ClassFile.FieldType.int) 0 0 S.2.1 S.2.2 [.int x0, .int x1, .ref x2] S.1 (fun v h' => ∃ r : Int32, v = some (.int r) ∧ P r h') := by
  refine MT.mk (own := RJ20) (by decide) rfl hG (Nat.le_of_ble_eq_true rfl) ?_
  intro p e s m below meth c args Q hargs hQ C hname
  refine J.loca (L2 := [(0, .int x0), (1, .int x1), (2, .ref x2)]) rfl ?_
  unfold F_gJ20_getChars at hF
  refine j_iload_n C dJ20_getChars_0 rfl 1 rfl ?_
  refine j_istore (L2 := [(5, .int x1), (0, .int x0), (1, .int x1), (2, .ref x2)]) C dJ20_getChars_1 (by decide) rfl ?_
  refine j_iload_n C dJ20_getChars_3 rfl 1 rfl ?_
  obtain ⟨K_32, hK_32, hF⟩ := jn_intro (M := fun (K : GZ → Int32 → Prop) => ∀ (S_33 : GZ) (t_34 : Int32), K S_33 t_34 → J G p l e ({ frames := 0, cells := S.2.1, slots := S.2.2, locals := 0 } : Room) s m args below meth c 7 Q S_33.2.1 S_33.2.2 S_33.1 12 [(0, .int x0), (2, .ref x2), (5, .int x1)] [.int t_34]) (hk := by
      intro S_33 t_34 hF
      refine j_istore (L2 := [(6, .int t_34), (0, .int x0), (2, .ref x2), (5, .int x1)]) C dJ20_getChars_12 (by decide) rfl ?_
      refine j_iload C dJ20_getChars_14 0 rfl ?_
      refine j_if_ne (tgt := 22) C dJ20_getChars_16 (by decide) (fun hc_35 => ?_) (fun hc_35 => ?_)
      · replace hF := hF.2 hc_35
        refine J.locals [1, 2, 3, 0] (WL_gJ20_getChars_22 C hG hTab hm hname hQ ?_ NF _ _ _ hF) rfl
        · intro S_51 w0_52 w5_53 hF
          refine j_aload_n C dJ20_getChars_72 rfl 1 rfl ?_
          refine j_iinc (q := 2) (v := w5_53 + (-1)) (L2 := [(5, .int (w5_53 + (-1))), (0, .int w0_52), (2, .ref x2), (6, .int t_34)]) C dJ20_getChars_73 rfl rfl (by decide) rfl ?_
          refine j_iload C dJ20_getChars_76 0 rfl ?_
          obtain ⟨v_54, hgd, hF⟩ := hF
          refine jg_gets C hgd q880 rfl dJ20_getChars_78 ?_
          refine j_iload_n C dJ20_getChars_81 rfl 1 rfl ?_
          refine j_ineg C dJ20_getChars_82 ?_
          obtain ⟨n_55, f_56, v_57, hg1, hg2, hg3, hF⟩ := hF
          refine jg_bald C hg1 hg2 dJ20_getChars_83 ?_
          rw [hg3]
          obtain ⟨n_58, f_59, hg1, hg2, hF⟩ := hF
          refine j_bast C hm hg1 hg2 dJ20_getChars_84 ?_
          obtain ⟨S_60, eS_60, hF⟩ := nm_intro hF
          refine g_J eS_60 ?_
          refine j_iload_n C dJ20_getChars_85 rfl 1 rfl ?_
          refine j_bipush (v := (-9)) C dJ20_getChars_86 rfl ?_
          obtain ⟨K_61, hK_61, hF⟩ := jn_intro (M := fun (K : GZ → Int32 → Prop) => ∀ (S_62 : GZ) (y5_63 : Int32), K S_62 y5_63 → J G p l e ({ frames := 0, cells := S.2.1, slots := S.2.2, locals := 0 } : Room) s m args below meth c 7 Q S_62.2.1 S_62.2.2 S_62.1 104 [(2, .ref x2), (5, .int y5_63), (6, .int t_34)] []) (hk := by
              intro S_62 y5_63 hF
              refine j_iload C dJ20_getChars_104 2 rfl ?_
              refine j_if_eq (tgt := 118) C dJ20_getChars_106 (by decide) (fun hc_64 => ?_) (fun hc_64 => ?_)
              · replace hF := hF.1 hc_64
                refine j_iload C dJ20_getChars_118 1 rfl ?_
                rw [hQ]
                exact j_iret C rfl ⟨_, rfl, hF⟩ dJ20_getChars_120
              · replace hF := hF.2 hc_64
                refine j_aload_n C dJ20_getChars_109 rfl 0 rfl ?_
                refine j_iinc (q := 1) (v := y5_63 + (-1)) (L2 := [(5, .int (y5_63 + (-1))), (2, .ref x2), (6, .int t_34)]) C dJ20_getChars_110 rfl rfl (by decide) rfl ?_
                refine j_iload C dJ20_getChars_113 0 rfl ?_
                refine j_bipush (v := 45) C dJ20_getChars_115 rfl ?_
                obtain ⟨n_65, f_66, hg1, hg2, hF⟩ := hF
                refine j_bast C hm hg1 hg2 dJ20_getChars_117 ?_
                obtain ⟨S_67, eS_67, hF⟩ := nm_intro hF
                refine g_J eS_67 ?_
                refine j_iload C dJ20_getChars_118 0 rfl ?_
                rw [hQ]
                exact j_iret C rfl ⟨_, rfl, hF⟩ dJ20_getChars_120) hF
          refine j_icmp_ge (tgt := 104) C dJ20_getChars_88 (by decide) (fun hc_68 => ?_) (fun hc_68 => ?_)
          · replace hF := hF.1 hc_68
            exact J.locals [2, 0, 3] (hK_61 _ _ hF) rfl
          · replace hF := hF.2 hc_68
            refine j_aload_n C dJ20_getChars_91 rfl 2 rfl ?_
            refine j_iinc (q := 0) (v := (w5_53 + (-1)) + (-1)) (L2 := [(5, .int ((w5_53 + (-1)) + (-1))), (0, .int w0_52), (2, .ref x2), (6, .int t_34)]) C dJ20_getChars_92 rfl rfl (by decide) rfl ?_
            refine j_iload C dJ20_getChars_95 0 rfl ?_
            obtain ⟨v_69, hgd, hF⟩ := hF
            refine jg_gets C hgd q882 rfl dJ20_getChars_97 ?_
            refine j_iload_n C dJ20_getChars_100 rfl 1 rfl ?_
            refine j_ineg C dJ20_getChars_101 ?_
            obtain ⟨n_70, f_71, v_72, hg1, hg2, hg3, hF⟩ := hF
            refine jg_bald C hg1 hg2 dJ20_getChars_102 ?_
            rw [hg3]
            obtain ⟨n_73, f_74, hg1, hg2, hF⟩ := hF
            refine j_bast C hm hg1 hg2 dJ20_getChars_103 ?_
            obtain ⟨S_75, eS_75, hF⟩ := nm_intro hF
            refine g_J eS_75 ?_
            exact J.locals [2, 0, 3] (hK_61 _ _ hF) rfl
      · replace hF := hF.1 hc_35
        refine j_iload_n C dJ20_getChars_19 rfl 1 rfl ?_
        refine j_ineg C dJ20_getChars_20 ?_
        refine j_istore_n (L2 := [(0, .int (-x0)), (6, .int t_34), (2, .ref x2), (5, .int x1)]) C dJ20_getChars_21 rfl (by decide) rfl ?_
        refine J.locals [0, 2, 3, 1] (WL_gJ20_getChars_22 C hG hTab hm hname hQ ?_ NF _ _ _ hF) rfl
        · intro S_91 w0_92 w5_93 hF
          refine j_aload_n C dJ20_getChars_72 rfl 1 rfl ?_
          refine j_iinc (q := 2) (v := w5_93 + (-1)) (L2 := [(5, .int (w5_93 + (-1))), (0, .int w0_92), (2, .ref x2), (6, .int t_34)]) C dJ20_getChars_73 rfl rfl (by decide) rfl ?_
          refine j_iload C dJ20_getChars_76 0 rfl ?_
          obtain ⟨v_94, hgd, hF⟩ := hF
          refine jg_gets C hgd q880 rfl dJ20_getChars_78 ?_
          refine j_iload_n C dJ20_getChars_81 rfl 1 rfl ?_
          refine j_ineg C dJ20_getChars_82 ?_
          obtain ⟨n_95, f_96, v_97, hg1, hg2, hg3, hF⟩ := hF
          refine jg_bald C hg1 hg2 dJ20_getChars_83 ?_
          rw [hg3]
          obtain ⟨n_98, f_99, hg1, hg2, hF⟩ := hF
          refine j_bast C hm hg1 hg2 dJ20_getChars_84 ?_
          obtain ⟨S_100, eS_100, hF⟩ := nm_intro hF
          refine g_J eS_100 ?_
          refine j_iload_n C dJ20_getChars_85 rfl 1 rfl ?_
          refine j_bipush (v := (-9)) C dJ20_getChars_86 rfl ?_
          obtain ⟨K_101, hK_101, hF⟩ := jn_intro (M := fun (K : GZ → Int32 → Prop) => ∀ (S_102 : GZ) (y5_103 : Int32), K S_102 y5_103 → J G p l e ({ frames := 0, cells := S.2.1, slots := S.2.2, locals := 0 } : Room) s m args below meth c 7 Q S_102.2.1 S_102.2.2 S_102.1 104 [(2, .ref x2), (5, .int y5_103), (6, .int t_34)] []) (hk := by
              intro S_102 y5_103 hF
              refine j_iload C dJ20_getChars_104 2 rfl ?_
              refine j_if_eq (tgt := 118) C dJ20_getChars_106 (by decide) (fun hc_104 => ?_) (fun hc_104 => ?_)
              · replace hF := hF.1 hc_104
                refine j_iload C dJ20_getChars_118 1 rfl ?_
                rw [hQ]
                exact j_iret C rfl ⟨_, rfl, hF⟩ dJ20_getChars_120
              · replace hF := hF.2 hc_104
                refine j_aload_n C dJ20_getChars_109 rfl 0 rfl ?_
                refine j_iinc (q := 1) (v := y5_103 + (-1)) (L2 := [(5, .int (y5_103 + (-1))), (2, .ref x2), (6, .int t_34)]) C dJ20_getChars_110 rfl rfl (by decide) rfl ?_
                refine j_iload C dJ20_getChars_113 0 rfl ?_
                refine j_bipush (v := 45) C dJ20_getChars_115 rfl ?_
                obtain ⟨n_105, f_106, hg1, hg2, hF⟩ := hF
                refine j_bast C hm hg1 hg2 dJ20_getChars_117 ?_
                obtain ⟨S_107, eS_107, hF⟩ := nm_intro hF
                refine g_J eS_107 ?_
                refine j_iload C dJ20_getChars_118 0 rfl ?_
                rw [hQ]
                exact j_iret C rfl ⟨_, rfl, hF⟩ dJ20_getChars_120) hF
          refine j_icmp_ge (tgt := 104) C dJ20_getChars_88 (by decide) (fun hc_108 => ?_) (fun hc_108 => ?_)
          · replace hF := hF.1 hc_108
            exact J.locals [2, 0, 3] (hK_101 _ _ hF) rfl
          · replace hF := hF.2 hc_108
            refine j_aload_n C dJ20_getChars_91 rfl 2 rfl ?_
            refine j_iinc (q := 0) (v := (w5_93 + (-1)) + (-1)) (L2 := [(5, .int ((w5_93 + (-1)) + (-1))), (0, .int w0_92), (2, .ref x2), (6, .int t_34)]) C dJ20_getChars_92 rfl rfl (by decide) rfl ?_
            refine j_iload C dJ20_getChars_95 0 rfl ?_
            obtain ⟨v_109, hgd, hF⟩ := hF
            refine jg_gets C hgd q882 rfl dJ20_getChars_97 ?_
            refine j_iload_n C dJ20_getChars_100 rfl 1 rfl ?_
            refine j_ineg C dJ20_getChars_101 ?_
            obtain ⟨n_110, f_111, v_112, hg1, hg2, hg3, hF⟩ := hF
            refine jg_bald C hg1 hg2 dJ20_getChars_102 ?_
            rw [hg3]
            obtain ⟨n_113, f_114, hg1, hg2, hF⟩ := hF
            refine j_bast C hm hg1 hg2 dJ20_getChars_103 ?_
            obtain ⟨S_115, eS_115, hF⟩ := nm_intro hF
            refine g_J eS_115 ?_
            exact J.locals [2, 0, 3] (hK_101 _ _ hF) rfl) hF
  refine j_if_ge (tgt := 11) C dJ20_getChars_4 (by decide) (fun hc_116 => ?_) (fun hc_116 => ?_)
  · replace hF := hF.1 hc_116
    refine j_iconst (v := 0) C dJ20_getChars_11 rfl ?_
    exact J.locals [1, 3, 0] (hK_32 _ _ hF) rfl
  · replace hF := hF.2 hc_116
    refine j_iconst (v := 1) C dJ20_getChars_7 rfl ?_
    refine j_goto (tgt := 12) C dJ20_getChars_8 (by decide) ?_
    exact J.locals [1, 3, 0] (hK_32 _ _ hF) rfl
def F_gJ20_init (G : GT) (S : GZ) (x0 : Nat) (x1 : Int32) (P : AH → Prop) : Prop := ∃ c_8 s_9 : Nat, c_8 ≤ S.2.1 ∧ s_9 ≤ S.2.2 ∧ F_gJ19_init G (S.1, c_8, s_9) x0 (fun h_11 => nm (α := GZ) (h_11, S.2.1 - c_8, S.2.2 - s_9) (fun S_12 => ∃ fs_13 : List Value, S_12.1 x0 = some (.inr (15, fs_13)) ∧ 0 < fs_13.length ∧ (nm (α := GZ) (hup S_12.1 x0 (.inr (15, List.set fs_13 0 (.int x1))), S_12.2.1, S_12.2.2) (fun S_14 => P S_14.1))))
set_option maxHeartbeats 4000000 in
theorem M_gJ20_init (G : GT) (l : Launch) (hG : GOK G) (hTab : TabF G) (hm : FreeG G) (S : GZ) (x0 : Nat) (x1 : Int32) (P : AH → Prop) (hF : F_gJ20_init G S x0 x1 P) : MT G l yJ20_init cJ20_init 2 none 2 60 S.2.1 S.2.2 [.ref x0, .int x1] S.1 (fun v h' => v = none ∧ P h') := by
  refine MT.mk (own := RJ20) (by decide) rfl hG (Nat.le_of_ble_eq_true rfl) ?_
  intro p e s m below meth c args Q hargs hQ C hname
  refine J.loca (L2 := [(0, .ref x0), (1, .int x1)]) rfl ?_
  unfold F_gJ20_init at hF
  refine j_aload_n C dJ20_init_0 rfl 0 rfl ?_
  obtain ⟨c_8, s_9, hc1, hc2, hF⟩ := hF
  refine j_callI (n := 0) (As := []) (rest := []) C (M_gJ19_init G l hG hTab hm (S.1, c_8, s_9) x0 _ hF) q1310 ⟨q1311, q124, q1312, rfl, by decide +kernel⟩ rfl rfl (Nat.le_of_ble_eq_true rfl) ⟨Nat.le_of_ble_eq_true rfl, Nat.le_of_ble_eq_true rfl⟩ hc1 hc2 dJ20_init_1 (kk_v fun h_11 hF => ?_)
  obtain ⟨S_12, eS_12, hF⟩ := nm_intro hF
  refine g_J eS_12 ?_
  refine j_aload_n C dJ20_init_4 rfl 0 rfl ?_
  refine j_iload_n C dJ20_init_5 rfl 1 rfl ?_
  obtain ⟨fs_13, hg1, hg2, hF⟩ := hF
  refine j_putF C hm hg1 rfl in_J20 tyJ20 tyJ20_ok nmJ20 0 (by decide) q1314 rfl rfl hname rfl rfl rfl hg2 dJ20_init_6 ?_
  obtain ⟨S_14, eS_14, hF⟩ := nm_intro hF
  refine g_J eS_14 ?_
  rw [hQ]
  exact j_vret C ⟨rfl, hF⟩ dJ20_init_9
def F_gJ20_intValue (G : GT) (S : GZ) (x0 : Nat) (P : Int32 → AH → Prop) : Prop := ∃ v_2 : Int32, aF G S.1 x0 15 0 (.int v_2) ∧ (P v_2 S.1)
set_option maxHeartbeats 4000000 in
theorem M_gJ20_intValue (G : GT) (l : Launch) (hG : GOK G) (hTab : TabF G) (hm : FreeG G) (S : GZ) (x0 : Nat) (P : Int32 → AH → Prop) (hF : F_gJ20_intValue G S x0 P) : MT G l yJ20_intValue cJ20_intValue 1 (some Jvm.ClassFile.FieldType.int) 0 0 S.2.1 S.2.2 [.ref x0] S.1 (fun v h' => ∃ r : Int32, v = some (.int r) ∧ P r h') := by
  refine MT.mk (own := RJ20) (by decide) rfl hG (Nat.le_of_ble_eq_true rfl) ?_
  intro p e s m below meth c args Q hargs hQ C hname
  refine J.loca (L2 := [(0, .ref x0)]) rfl ?_
  unfold F_gJ20_intValue at hF
  refine j_aload_n C dJ20_intValue_0 rfl 0 rfl ?_
  obtain ⟨v_2, hgd, hF⟩ := hF
  refine jg_get C (T := TJ20) (N := 1) rfl in_J20 0 (by decide) q1314 rfl hgd dJ20_intValue_1 ?_
  rw [hQ]
  exact j_iret C rfl ⟨_, rfl, hF⟩ dJ20_intValue_4
def L_gJ20_stringSize_16 (G : GT) (P : Int32 → AH → Prop) (f0 : Int32) (f1 : Int32) : Nat → GZ → Int32 → Int32 → Prop
  | 0, _, _, _ => False
  | n + 1, S, z2, z3 => (10 ≤ z3 → P (10 + f1) S.1) ∧ (¬ 10 ≤ z3 → (f0 ≤ z2 → L_gJ20_stringSize_16 G P f0 f1 n S (10 * z2) (z3 + 1)) ∧ (¬ f0 ≤ z2 → P (z3 + f1) S.1))
def F_gJ20_stringSize (G : GT) (S : GZ) (x0 : Int32) (P : Int32 → AH → Prop) : Prop := jn (α := GZ → Int32 → Int32 → Prop) (fun S_2 y0_3 y1_4 => L_gJ20_stringSize_16 G P y0_3 y1_4 NF S_2 (-10) 1) (fun K_1 => (x0 < 0 → K_1 S x0 1) ∧ (¬ x0 < 0 → K_1 S (-x0) 0))
set_option maxHeartbeats 4000000 in
theorem WL_gJ20_stringSize_16 {G : GT} {p : Program} {l : Launch} {e : Env} {s : State} {m : MethodId} {args : Array Value} {below : List Frame} {meth : Method} {c : Code} {Q : State → Prop} {c0 s0 : Nat} (C : Cx G p s m args meth c cJ20_stringSize RJ20 4 (some Jvm.ClassFile.FieldType.int)) (hG : GOK G) (hTab : TabF G) (hm : FreeG G) (hname : meth.name = yJ20_stringSize.name) {P : Int32 → AH → Prop} (hQ : Q = MQ below (SQ G (fun v h' => ∃ r : Int32, v = some (.int r) ∧ P r h')) args s (({ frames := 0, cells := c0, slots := s0, locals := 0 } : Room) : Room).cells (({ frames := 0, cells := c0, slots := s0, locals := 0 } : Room) : Room).slots (fun q => G.1 ≤ q)) {f0 : Int32} {f1 : Int32} :
    ∀ (n : Nat) (S : GZ) (z2 : Int32) (z3 : Int32), L_gJ20_stringSize_16 G P f0 f1 n S z2 z3 → J G p l e ({ frames := 0, cells := c0, slots := s0, locals := 0 } : Room) s m args below meth c 4 Q S.2.1 S.2.2 S.1 16 [(0, .int f0), (1, .int f1), (2, .int z2), (3, .int z3)] [] := by
  intro n
  induction n with
  | zero => intro S z2 z3 hF; exact hF.elim
  | succ n ih =>
    intro S z2 z3 hF
    unfold L_gJ20_stringSize_16 at hF
    refine j_iload_n C dJ20_stringSize_16 rfl 3 rfl ?_
    refine j_bipush (v := 10) C dJ20_stringSize_17 rfl ?_
    refine j_icmp_ge (tgt := 42) C dJ20_stringSize_19 (by decide) (fun hc_5 => ?_) (fun hc_5 => ?_)
    · replace hF := hF.1 hc_5
      refine j_bipush (v := 10) C dJ20_stringSize_42 rfl ?_
      refine j_iload_n C dJ20_stringSize_44 rfl 1 rfl ?_
      refine j_iadd C dJ20_stringSize_45 ?_
      rw [hQ]
      exact j_iret C rfl ⟨_, rfl, hF⟩ dJ20_stringSize_46
    · replace hF := hF.2 hc_5
      refine j_iload_n C dJ20_stringSize_22 rfl 0 rfl ?_
      refine j_iload_n C dJ20_stringSize_23 rfl 2 rfl ?_
      refine j_icmp_le (tgt := 31) C dJ20_stringSize_24 (by decide) (fun hc_6 => ?_) (fun hc_6 => ?_)
      · replace hF := hF.1 hc_6
        refine j_bipush (v := 10) C dJ20_stringSize_31 rfl ?_
        refine j_iload_n C dJ20_stringSize_33 rfl 2 rfl ?_
        refine j_imul C dJ20_stringSize_34 ?_
        refine j_istore_n (L2 := [(2, .int (10 * z2)), (0, .int f0), (1, .int f1), (3, .int z3)]) C dJ20_stringSize_35 rfl (by decide) rfl ?_
        refine j_iinc (q := 3) (v := z3 + 1) (L2 := [(3, .int (z3 + 1)), (2, .int (10 * z2)), (0, .int f0), (1, .int f1)]) C dJ20_stringSize_36 rfl rfl (by decide) rfl ?_
        refine j_goto (tgt := 16) C dJ20_stringSize_39 (by decide) ?_
        exact J.locals [2, 3, 1, 0] (ih _ _ _ hF) rfl
      · replace hF := hF.2 hc_6
        refine j_iload_n C dJ20_stringSize_27 rfl 3 rfl ?_
        refine j_iload_n C dJ20_stringSize_28 rfl 1 rfl ?_
        refine j_iadd C dJ20_stringSize_29 ?_
        rw [hQ]
        exact j_iret C rfl ⟨_, rfl, hF⟩ dJ20_stringSize_30
set_option maxHeartbeats 4000000 in
theorem M_gJ20_stringSize (G : GT) (l : Launch) (hG : GOK G) (hTab : TabF G) (hm : FreeG G) (S : GZ) (x0 : Int32) (P : Int32 → AH → Prop) (hF : F_gJ20_stringSize G S x0 P) : MT G l yJ20_stringSize cJ20_stringSize 4 (some Jvm.ClassFile.FieldType.int) 0 0 S.2.1 S.2.2 [.int x0] S.1 (fun v h' => ∃ r : Int32, v = some (.int r) ∧ P r h') := by
  refine MT.mk (own := RJ20) (by decide) rfl hG (Nat.le_of_ble_eq_true rfl) ?_
  intro p e s m below meth c args Q hargs hQ C hname
  refine J.loca (L2 := [(0, .int x0)]) rfl ?_
  unfold F_gJ20_stringSize at hF
  refine j_iconst (v := 1) C dJ20_stringSize_0 rfl ?_
  refine j_istore_n (L2 := [(1, .int 1), (0, .int x0)]) C dJ20_stringSize_1 rfl (by decide) rfl ?_
  refine j_iload_n C dJ20_stringSize_2 rfl 1 rfl ?_
  obtain ⟨K_1, hK_1, hF⟩ := jn_intro (M := fun (K : GZ → Int32 → Int32 → Prop) => ∀ (S_2 : GZ) (y0_3 : Int32) (y1_4 : Int32), K S_2 y0_3 y1_4 → J G p l e ({ frames := 0, cells := S.2.1, slots := S.2.2, locals := 0 } : Room) s m args below meth c 4 Q S_2.2.1 S_2.2.2 S_2.1 11 [(0, .int y0_3), (1, .int y1_4)] []) (hk := by
      intro S_2 y0_3 y1_4 hF
      refine j_bipush (v := (-10)) C dJ20_stringSize_11 rfl ?_
      refine j_istore_n (L2 := [(2, .int (-10)), (0, .int y0_3), (1, .int y1_4)]) C dJ20_stringSize_13 rfl (by decide) rfl ?_
      refine j_iconst (v := 1) C dJ20_stringSize_14 rfl ?_
      refine j_istore_n (L2 := [(3, .int 1), (2, .int (-10)), (0, .int y0_3), (1, .int y1_4)]) C dJ20_stringSize_15 rfl (by decide) rfl ?_
      refine J.locals [2, 3, 1, 0] (WL_gJ20_stringSize_16 C hG hTab hm hname hQ NF _ _ _ hF) rfl) hF
  refine j_if_lt (tgt := 11) C dJ20_stringSize_3 (by decide) (fun hc_7 => ?_) (fun hc_7 => ?_)
  · replace hF := hF.1 hc_7
    exact J.locals [1, 0] (hK_1 _ _ _ hF) rfl
  · replace hF := hF.2 hc_7
    refine j_iconst (v := 0) C dJ20_stringSize_6 rfl ?_
    refine j_istore_n (L2 := [(1, .int 0), (0, .int x0)]) C dJ20_stringSize_7 rfl (by decide) rfl ?_
    refine j_iload_n C dJ20_stringSize_8 rfl 1 rfl ?_
    refine j_ineg C dJ20_stringSize_9 ?_
    refine j_istore_n (L2 := [(0, .int (-x0)), (1, .int 0)]) C dJ20_stringSize_10 rfl (by decide) rfl ?_
    exact J.locals [0, 1] (hK_1 _ _ _ hF) rfl
def F_gJ20_valueOf (G : GT) (S : GZ) (x0 : Int32) (P : Nat → AH → Prop) : Prop := jn (α := GZ → Prop) (fun S_14 => 1 ≤ S_14.2.1 ∧ 1 ≤ S_14.2.2 ∧ ∀ q_15 : Nat, S_14.1 q_15 = none → G.1 ≤ q_15 → (nm (α := GZ) (hup S_14.1 q_15 (.inr (15, [.int 0])), S_14.2.1 - 1, S_14.2.2 - 1) (fun S_16 => ∃ c_17 s_18 : Nat, c_17 ≤ S_16.2.1 ∧ s_18 ≤ S_16.2.2 ∧ F_gJ20_init G (S_16.1, c_17, s_18) q_15 x0 (fun h_20 => nm (α := GZ) (h_20, S_16.2.1 - c_17, S_16.2.2 - s_18) (fun S_21 => P q_15 S_21.1))))) (fun K_13 => (x0 < (-128) → K_13 S) ∧ (¬ x0 < (-128) → ∃ v_23 : Int32, StV G "java/lang/Integer$IntegerCache" "high" "I" (.int v_23) ∧ ((v_23 < x0 → K_13 S) ∧ (¬ v_23 < x0 → ∃ v_25 : Nat, StV G "java/lang/Integer$IntegerCache" "cache" "[Ljava/lang/Integer;" (.ref v_25) ∧ (∃ (n_26 : Nat) (f_27 : Nat → Option Nat) (v_28 : Nat), aO G S.1 v_25 n_26 f_27 ∧ vp_in (x0 + 128) n_26 ∧ f_27 (Int32.toNatClampNeg (x0 + 128)) = some v_28 ∧ (P v_28 S.1))))))
set_option maxHeartbeats 4000000 in
theorem M_gJ20_valueOf (G : GT) (l : Launch) (hG : GOK G) (hTab : TabF G) (hm : FreeG G) (S : GZ) (x0 : Int32) (P : Nat → AH → Prop) (hF : F_gJ20_valueOf G S x0 P) : MT G l yJ20_valueOf cJ20_valueOf 1 (some (Jvm.ClassFile.FieldType.object "java/lang/Integer")) 3 91 S.2.1 S.2.2 [.int x0] S.1 (fun v h' => ∃ r : Nat, v = some (.ref r) ∧ P r h') := by
  refine MT.mk (own := RJ20) (by decide) rfl hG (Nat.le_of_ble_eq_true rfl) ?_
  intro p e s m below meth c args Q hargs hQ C hname
  refine J.loca (L2 := [(0, .int x0)]) rfl ?_
  unfold F_gJ20_valueOf at hF
  refine j_iload_n C dJ20_valueOf_0 rfl 0 rfl ?_
  refine j_bipush (v := (-128)) C dJ20_valueOf_1 rfl ?_
  obtain ⟨K_13, hK_13, hF⟩ := jn_intro (M := fun (K : GZ → Prop) => ∀ (S_14 : GZ), K S_14 → J G p l e ({ frames := 3, cells := S.2.1, slots := S.2.2, locals := 91 } : Room) s m args below meth c 1 Q S_14.2.1 S_14.2.2 S_14.1 23 [(0, .int x0)] []) (hk := by
      intro S_14 hF
      obtain ⟨hg1, hg2, hF⟩ := hF
      refine j_new C hm (ci := 15) (Cn := RJ20) (T := TJ20) (N := 1) rfl in_J20 tyJ20 tyJ20_ok q1305 q1306 q125 [.int 0] (fun j hj => by rcases (show j = 0 by omega) with rfl <;> rfl) (bc' := S_14.2.1 - 1) (bs' := S_14.2.2 - 1) (by omega) (by omega) dJ20_valueOf_23 (fun q_15 hq1 hq2 => ?_)
      replace hF := hF q_15 hq1 hq2
      obtain ⟨S_16, eS_16, hF⟩ := nm_intro hF
      refine g_J eS_16 ?_
      refine j_dup C dJ20_valueOf_26 rfl ?_
      refine j_iload_n C dJ20_valueOf_27 rfl 0 rfl ?_
      obtain ⟨c_17, s_18, hc1, hc2, hF⟩ := hF
      refine j_callI (n := 1) (As := [.int x0]) (rest := [.ref q_15]) C (M_gJ20_init G l hG hTab hm (S_16.1, c_17, s_18) q_15 x0 _ hF) q1307 ⟨q1308, q125, q1309, rfl, by decide +kernel⟩ rfl rfl (Nat.le_of_ble_eq_true rfl) ⟨Nat.le_of_ble_eq_true rfl, Nat.le_of_ble_eq_true rfl⟩ hc1 hc2 dJ20_valueOf_28 (kk_v fun h_20 hF => ?_)
      obtain ⟨S_21, eS_21, hF⟩ := nm_intro hF
      refine g_J eS_21 ?_
      rw [hQ]
      exact j_aret C (Or.inl ⟨_, rfl⟩) (Or.inr ⟨_, rfl⟩) ⟨_, rfl, hF⟩ dJ20_valueOf_31) hF
  refine j_icmp_lt (tgt := 23) C dJ20_valueOf_3 (by decide) (fun hc_22 => ?_) (fun hc_22 => ?_)
  · replace hF := hF.1 hc_22
    exact J.locals [0] (hK_13 _ hF) rfl
  · replace hF := hF.2 hc_22
    refine j_iload_n C dJ20_valueOf_6 rfl 0 rfl ?_
    obtain ⟨v_23, hgd, hF⟩ := hF
    refine jg_gets C hgd q1301 rfl dJ20_valueOf_7 ?_
    refine j_icmp_gt (tgt := 23) C dJ20_valueOf_10 (by decide) (fun hc_24 => ?_) (fun hc_24 => ?_)
    · replace hF := hF.1 hc_24
      exact J.locals [0] (hK_13 _ hF) rfl
    · replace hF := hF.2 hc_24
      obtain ⟨v_25, hgd, hF⟩ := hF
      refine jg_gets C hgd q1303 rfl dJ20_valueOf_13 ?_
      refine j_iload_n C dJ20_valueOf_16 rfl 0 rfl ?_
      refine j_sipush (v := 128) C dJ20_valueOf_17 rfl ?_
      refine j_iadd C dJ20_valueOf_20 ?_
      obtain ⟨n_26, f_27, v_28, hg1, hg2, hg3, hF⟩ := hF
      refine jg_aald C hg1 hg2 dJ20_valueOf_21 ?_
      rw [hg3]
      rw [hQ]
      exact j_aret C (Or.inl ⟨_, rfl⟩) (Or.inr ⟨_, rfl⟩) ⟨_, rfl, hF⟩ dJ20_valueOf_22
def F_gJ21_newLength (G : GT) (S : GZ) (x0 : Int32) (x1 : Int32) (x2 : Int32) (P : Int32 → AH → Prop) : Prop := jn (α := GZ → Prop) (fun S_2 => False) (fun K_1 => ((x0 + (if x1 < x2 then x2 else x1)) ≤ 0 → K_1 S) ∧ (¬ (x0 + (if x1 < x2 then x2 else x1)) ≤ 0 → (2147483639 < (x0 + (if x1 < x2 then x2 else x1)) → K_1 S) ∧ (¬ 2147483639 < (x0 + (if x1 < x2 then x2 else x1)) → P (x0 + (if x1 < x2 then x2 else x1)) S.1)))
set_option maxHeartbeats 4000000 in
theorem M_gJ21_newLength (G : GT) (l : Launch) (hG : GOK G) (hTab : TabF G) (hm : FreeG G) (S : GZ) (x0 : Int32) (x1 : Int32) (x2 : Int32) (P : Int32 → AH → Prop) (hF : F_gJ21_newLength G S x0 x1 x2 P) : MT G l yJ21_newLength cJ21_newLength 4 (some Jvm.ClassFile.FieldType.int) 1 40 S.2.1 S.2.2 [.int x0, .int x1, .int x2] S.1 (fun v h' => ∃ r : Int32, v = some (.int r) ∧ P r h') := by
  refine MT.mk (own := RJ21) (by decide) rfl hG (Nat.le_of_ble_eq_true rfl) ?_
  intro p e s m below meth c args Q hargs hQ C hname
  refine J.loca (L2 := [(0, .int x0), (1, .int x1), (2, .int x2)]) rfl ?_
  unfold F_gJ21_newLength at hF
  refine j_iload_n C dJ21_newLength_0 rfl 0 rfl ?_
  refine j_iload_n C dJ21_newLength_1 rfl 1 rfl ?_
  refine j_iload_n C dJ21_newLength_2 rfl 2 rfl ?_
  refine j_mmax C (Nat.le_of_ble_eq_true rfl) (Nat.le_of_ble_eq_true rfl) q777 (Nat.le_of_ble_eq_true rfl) q503 q107 q504 dJ21_newLength_3 ?_
  refine j_iadd C dJ21_newLength_6 ?_
  refine j_istore_n (L2 := [(3, .int (x0 + (if x1 < x2 then x2 else x1))), (0, .int x0), (1, .int x1), (2, .int x2)]) C dJ21_newLength_7 rfl (by decide) rfl ?_
  refine j_iconst (v := 0) C dJ21_newLength_8 rfl ?_
  refine j_iload_n C dJ21_newLength_9 rfl 0 rfl ?_
  obtain ⟨K_1, hK_1, hF⟩ := jn_intro (M := fun (K : GZ → Prop) => ∀ (S_2 : GZ), K S_2 → J G p l e ({ frames := 1, cells := S.2.1, slots := S.2.2, locals := 40 } : Room) s m args below meth c 4 Q S_2.2.1 S_2.2.2 S_2.1 21 [(0, .int x0), (1, .int x1)] []) (hk := by
      intro S_2 hF
      refine j_iload_n C dJ21_newLength_21 rfl 0 rfl ?_
      refine j_iload_n C dJ21_newLength_22 rfl 1 rfl ?_
      exact hF.elim) hF
  refine j_icmp_ge (tgt := 21) C dJ21_newLength_10 (by decide) (fun hc_3 => ?_) (fun hc_3 => ?_)
  · replace hF := hF.1 hc_3
    exact J.locals [1, 2] (hK_1 _ hF) rfl
  · replace hF := hF.2 hc_3
    refine j_iload_n C dJ21_newLength_13 rfl 0 rfl ?_
    refine j_ldc C dJ21_newLength_14 q778 ?_
    refine j_icmp_gt (tgt := 21) C dJ21_newLength_16 (by decide) (fun hc_4 => ?_) (fun hc_4 => ?_)
    · replace hF := hF.1 hc_4
      exact J.locals [1, 2] (hK_1 _ hF) rfl
    · replace hF := hF.2 hc_4
      refine j_iload_n C dJ21_newLength_19 rfl 0 rfl ?_
      rw [hQ]
      exact j_iret C rfl ⟨_, rfl, hF⟩ dJ21_newLength_20
def F_gJ23_checkIndex (G : GT) (S : GZ) (x0 : Int32) (x1 : Int32) (x2 : Option Nat) (P : Int32 → AH → Prop) : Prop := jn (α := GZ → Prop) (fun S_2 => False) (fun K_1 => (x0 < 0 → K_1 S) ∧ (¬ x0 < 0 → (x0 < x1 → P x0 S.1) ∧ (¬ x0 < x1 → K_1 S)))
set_option maxHeartbeats 4000000 in
theorem M_gJ23_checkIndex (G : GT) (l : Launch) (hG : GOK G) (hTab : TabF G) (hm : FreeG G) (S : GZ) (x0 : Int32) (x1 : Int32) (x2 : Option Nat) (P : Int32 → AH → Prop) (hF : F_gJ23_checkIndex G S x0 x1 x2 P) : MT G l yJ23_checkIndex cJ23_checkIndex 3 (some Jvm.ClassFile.FieldType.int) 0 0 S.2.1 S.2.2 [.int x0, .int x1, va_rf x2] S.1 (fun v h' => ∃ r : Int32, v = some (.int r) ∧ P r h') := by
  refine MT.mk (own := RJ23) (by decide) rfl hG (by cases x2 <;> exact Nat.le_of_ble_eq_true rfl) ?_
  intro p e s m below meth c args Q hargs hQ C hname
  refine J.loca (L2 := [(0, .int x0), (1, .int x1), (2, va_rf x2)]) rfl ?_
  unfold F_gJ23_checkIndex at hF
  refine j_iload_n C dJ23_checkIndex_0 rfl 0 rfl ?_
  obtain ⟨K_1, hK_1, hF⟩ := jn_intro (M := fun (K : GZ → Prop) => ∀ (S_2 : GZ), K S_2 → J G p l e ({ frames := 0, cells := S.2.1, slots := S.2.2, locals := 0 } : Room) s m args below meth c 3 Q S_2.2.1 S_2.2.2 S_2.1 9 [(0, .int x0), (1, .int x1), (2, va_rf x2)] []) (hk := by
      intro S_2 hF
      refine jg_aload_n (x := x2) C dJ23_checkIndex_9 rfl 2 rfl ?_
      refine j_iload_n C dJ23_checkIndex_10 rfl 0 rfl ?_
      refine j_iload_n C dJ23_checkIndex_11 rfl 1 rfl ?_
      exact hF.elim) hF
  refine j_if_lt (tgt := 9) C dJ23_checkIndex_1 (by decide) (fun hc_3 => ?_) (fun hc_3 => ?_)
  · replace hF := hF.1 hc_3
    exact J.locals [0, 1, 2] (hK_1 _ hF) rfl
  · replace hF := hF.2 hc_3
    refine j_iload_n C dJ23_checkIndex_4 rfl 0 rfl ?_
    refine j_iload_n C dJ23_checkIndex_5 rfl 1 rfl ?_
    refine j_icmp_lt (tgt := 16) C dJ23_checkIndex_6 (by decide) (fun hc_4 => ?_) (fun hc_4 => ?_)
    · replace hF := hF.1 hc_4
      refine j_iload_n C dJ23_checkIndex_16 rfl 0 rfl ?_
      rw [hQ]
      exact j_iret C rfl ⟨_, rfl, hF⟩ dJ23_checkIndex_17
    · replace hF := hF.2 hc_4
      exact J.locals [0, 1, 2] (hK_1 _ hF) rfl
def F_gJ22_checkIndex (G : GT) (S : GZ) (x0 : Int32) (x1 : Int32) (P : Int32 → AH → Prop) : Prop := ∃ c_6 s_7 : Nat, c_6 ≤ S.2.1 ∧ s_7 ≤ S.2.2 ∧ F_gJ23_checkIndex G (S.1, c_6, s_7) x0 x1 none (fun r_8 h_9 => nm (α := GZ) (h_9, S.2.1 - c_6, S.2.2 - s_7) (fun S_10 => P r_8 S_10.1))
set_option maxHeartbeats 4000000 in
theorem M_gJ22_checkIndex (G : GT) (l : Launch) (hG : GOK G) (hTab : TabF G) (hm : FreeG G) (S : GZ) (x0 : Int32) (x1 : Int32) (P : Int32 → AH → Prop) (hF : F_gJ22_checkIndex G S x0 x1 P) : MT G l yJ22_checkIndex cJ22_checkIndex 2 (some Jvm.ClassFile.FieldType.int) 1 32 S.2.1 S.2.2 [.int x0, .int x1] S.1 (fun v h' => ∃ r : Int32, v = some (.int r) ∧ P r h') := by
  refine MT.mk (own := RJ22) (by decide) rfl hG (Nat.le_of_ble_eq_true rfl) ?_
  intro p e s m below meth c args Q hargs hQ C hname
  refine J.loca (L2 := [(0, .int x0), (1, .int x1)]) rfl ?_
  unfold F_gJ22_checkIndex at hF
  refine j_iload_n C dJ22_checkIndex_0 rfl 0 rfl ?_
  refine j_iload_n C dJ22_checkIndex_1 rfl 1 rfl ?_
  refine j_null C dJ22_checkIndex_2 ?_
  obtain ⟨c_6, s_7, hc1, hc2, hF⟩ := hF
  refine j_callS (n := 3) (As := [.int x0, .int x1, va_rf none]) (rest := []) C (M_gJ23_checkIndex G l hG hTab hm (S.1, c_6, s_7) x0 x1 none _ hF) q1369 ⟨q916, q129, q917, by decide +kernel⟩ rfl rfl (Nat.le_of_ble_eq_true rfl) ⟨Nat.le_of_ble_eq_true rfl, Nat.le_of_ble_eq_true rfl⟩ hc1 hc2 dJ22_checkIndex_3 (kk_i fun r_8 h_9 hF => ?_)
  obtain ⟨S_10, eS_10, hF⟩ := nm_intro hF
  refine g_J eS_10 ?_
  rw [hQ]
  exact j_iret C rfl ⟨_, rfl, hF⟩ dJ22_checkIndex_6
def F_gJ23_checkFromIndexSize (G : GT) (S : GZ) (x0 : Int32) (x1 : Int32) (x2 : Int32) (x3 : Option Nat) (P : Int32 → AH → Prop) : Prop := jn (α := GZ → Prop) (fun S_2 => False) (fun K_1 => (((x2 ||| x0) ||| x1) < 0 → K_1 S) ∧ (¬ ((x2 ||| x0) ||| x1) < 0 → (x1 ≤ (x2 - x0) → P x0 S.1) ∧ (¬ x1 ≤ (x2 - x0) → K_1 S)))
set_option maxHeartbeats 4000000 in
theorem M_gJ23_checkFromIndexSize (G : GT) (l : Launch) (hG : GOK G) (hTab : TabF G) (hm : FreeG G) (S : GZ) (x0 : Int32) (x1 : Int32) (x2 : Int32) (x3 : Option Nat) (P : Int32 → AH → Prop) (hF : F_gJ23_checkFromIndexSize G S x0 x1 x2 x3 P) : MT G l yJ23_checkFromIndexSize cJ23_checkFromIndexSize 4 (some Jvm.ClassFile.FieldType.int) 0 0 S.2.1 S.2.2 [.int x0, .int x1, .int x2, va_rf x3] S.1 (fun v h' => ∃ r : Int32, v = some (.int r) ∧ P r h') := by
  refine MT.mk (own := RJ23) (by decide) rfl hG (by cases x3 <;> exact Nat.le_of_ble_eq_true rfl) ?_
  intro p e s m below meth c args Q hargs hQ C hname
  refine J.loca (L2 := [(0, .int x0), (1, .int x1), (2, .int x2), (3, va_rf x3)]) rfl ?_
  unfold F_gJ23_checkFromIndexSize at hF
  refine j_iload_n C dJ23_checkFromIndexSize_0 rfl 2 rfl ?_
  refine j_iload_n C dJ23_checkFromIndexSize_1 rfl 0 rfl ?_
  refine j_ior C dJ23_checkFromIndexSize_2 ?_
  refine j_iload_n C dJ23_checkFromIndexSize_3 rfl 1 rfl ?_
  refine j_ior C dJ23_checkFromIndexSize_4 ?_
  obtain ⟨K_1, hK_1, hF⟩ := jn_intro (M := fun (K : GZ → Prop) => ∀ (S_2 : GZ), K S_2 → J G p l e ({ frames := 0, cells := S.2.1, slots := S.2.2, locals := 0 } : Room) s m args below meth c 4 Q S_2.2.1 S_2.2.2 S_2.1 15 [(0, .int x0), (1, .int x1), (2, .int x2), (3, va_rf x3)] []) (hk := by
      intro S_2 hF
      refine jg_aload_n (x := x3) C dJ23_checkFromIndexSize_15 rfl 3 rfl ?_
      refine j_iload_n C dJ23_checkFromIndexSize_16 rfl 0 rfl ?_
      refine j_iload_n C dJ23_checkFromIndexSize_17 rfl 1 rfl ?_
      refine j_iload_n C dJ23_checkFromIndexSize_18 rfl 2 rfl ?_
      exact hF.elim) hF
  refine j_if_lt (tgt := 15) C dJ23_checkFromIndexSize_5 (by decide) (fun hc_3 => ?_) (fun hc_3 => ?_)
  · replace hF := hF.1 hc_3
    exact J.locals [0, 1, 2, 3] (hK_1 _ hF) rfl
  · replace hF := hF.2 hc_3
    refine j_iload_n C dJ23_checkFromIndexSize_8 rfl 1 rfl ?_
    refine j_iload_n C dJ23_checkFromIndexSize_9 rfl 2 rfl ?_
    refine j_iload_n C dJ23_checkFromIndexSize_10 rfl 0 rfl ?_
    refine j_isub C dJ23_checkFromIndexSize_11 ?_
    refine j_icmp_le (tgt := 23) C dJ23_checkFromIndexSize_12 (by decide) (fun hc_4 => ?_) (fun hc_4 => ?_)
    · replace hF := hF.1 hc_4
      refine j_iload_n C dJ23_checkFromIndexSize_23 rfl 0 rfl ?_
      rw [hQ]
      exact j_iret C rfl ⟨_, rfl, hF⟩ dJ23_checkFromIndexSize_24
    · replace hF := hF.2 hc_4
      exact J.locals [0, 1, 2, 3] (hK_1 _ hF) rfl
def F_gJ23_checkFromToIndex (G : GT) (S : GZ) (x0 : Int32) (x1 : Int32) (x2 : Int32) (x3 : Option Nat) (P : Int32 → AH → Prop) : Prop := jn (α := GZ → Prop) (fun S_2 => False) (fun K_1 => (x0 < 0 → K_1 S) ∧ (¬ x0 < 0 → (x1 < x0 → K_1 S) ∧ (¬ x1 < x0 → (x1 ≤ x2 → P x0 S.1) ∧ (¬ x1 ≤ x2 → K_1 S))))
set_option maxHeartbeats 4000000 in
theorem M_gJ23_checkFromToIndex (G : GT) (l : Launch) (hG : GOK G) (hTab : TabF G) (hm : FreeG G) (S : GZ) (x0 : Int32) (x1 : Int32) (x2 : Int32) (x3 : Option Nat) (P : Int32 → AH → Prop) (hF : F_gJ23_checkFromToIndex G S x0 x1 x2 x3 P) : MT G l yJ23_checkFromToIndex cJ23_checkFromToIndex 4 (some Jvm.ClassFile.FieldType.int) 0 0 S.2.1 S.2.2 [.int x0, .int x1, .int x2, va_rf x3] S.1 (fun v h' => ∃ r : Int32, v = some (.int r) ∧ P r h') := by
  refine MT.mk (own := RJ23) (by decide) rfl hG (by cases x3 <;> exact Nat.le_of_ble_eq_true rfl) ?_
  intro p e s m below meth c args Q hargs hQ C hname
  refine J.loca (L2 := [(0, .int x0), (1, .int x1), (2, .int x2), (3, va_rf x3)]) rfl ?_
  unfold F_gJ23_checkFromToIndex at hF
  refine j_iload_n C dJ23_checkFromToIndex_0 rfl 0 rfl ?_
  obtain ⟨K_1, hK_1, hF⟩ := jn_intro (M := fun (K : GZ → Prop) => ∀ (S_2 : GZ), K S_2 → J G p l e ({ frames := 0, cells := S.2.1, slots := S.2.2, locals := 0 } : Room) s m args below meth c 4 Q S_2.2.1 S_2.2.2 S_2.1 14 [(0, .int x0), (1, .int x1), (2, .int x2), (3, va_rf x3)] []) (hk := by
      intro S_2 hF
      refine jg_aload_n (x := x3) C dJ23_checkFromToIndex_14 rfl 3 rfl ?_
      refine j_iload_n C dJ23_checkFromToIndex_15 rfl 0 rfl ?_
      refine j_iload_n C dJ23_checkFromToIndex_16 rfl 1 rfl ?_
      refine j_iload_n C dJ23_checkFromToIndex_17 rfl 2 rfl ?_
      exact hF.elim) hF
  refine j_if_lt (tgt := 14) C dJ23_checkFromToIndex_1 (by decide) (fun hc_3 => ?_) (fun hc_3 => ?_)
  · replace hF := hF.1 hc_3
    exact J.locals [0, 1, 2, 3] (hK_1 _ hF) rfl
  · replace hF := hF.2 hc_3
    refine j_iload_n C dJ23_checkFromToIndex_4 rfl 0 rfl ?_
    refine j_iload_n C dJ23_checkFromToIndex_5 rfl 1 rfl ?_
    refine j_icmp_gt (tgt := 14) C dJ23_checkFromToIndex_6 (by decide) (fun hc_4 => ?_) (fun hc_4 => ?_)
    · replace hF := hF.1 hc_4
      exact J.locals [0, 1, 2, 3] (hK_1 _ hF) rfl
    · replace hF := hF.2 hc_4
      refine j_iload_n C dJ23_checkFromToIndex_9 rfl 1 rfl ?_
      refine j_iload_n C dJ23_checkFromToIndex_10 rfl 2 rfl ?_
      refine j_icmp_le (tgt := 22) C dJ23_checkFromToIndex_11 (by decide) (fun hc_5 => ?_) (fun hc_5 => ?_)
      · replace hF := hF.1 hc_5
        refine j_iload_n C dJ23_checkFromToIndex_22 rfl 0 rfl ?_
        rw [hQ]
        exact j_iret C rfl ⟨_, rfl, hF⟩ dJ23_checkFromToIndex_23
      · replace hF := hF.2 hc_5
        exact J.locals [0, 1, 2, 3] (hK_1 _ hF) rfl
