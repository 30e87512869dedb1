/-! JDK: ArrayDeque, ArrayList (printed by gen/gojdk.py) -/
set_option maxRecDepth 100000
def F_gJ0_init (G : GT) (S : GZ) (x0 : Nat) (P : AH → Prop) : Prop := P S.1
set_option maxHeartbeats 4000000 in
theorem M_gJ0_init (G : GT) (l : Launch) (hG : GOK G) (hTab : TabF G) (hm : FreeG G) (S : GZ) (x0 : Nat) (P : AH → Prop) (hF : F_gJ0_init G S x0 P) : MT G l yJ0_init cJ0_init 1 none 1 30 S.2.1 S.2.2 [.ref x0] S.1 (fun v h' => v = none ∧ P h') := by
  refine MT.mk (own := RJ0) (by decide) rfl hG (Nat.le_of_ble_eq_true rfl) ?_
  intro p e s m below meth c args Q hargs hQ C hname
  refine J.loca (L2 := [(0, .ref x0)]) rfl ?_
  unfold F_gJ0_init at hF
  refine j_aload_n C dJ0_init_0 rfl 0 rfl ?_
  refine j_objInit C q208 q142 q143 (Nat.le_of_ble_eq_true rfl) (Nat.le_of_ble_eq_true rfl) dJ0_init_1 ?_
  rw [hQ]
  exact j_vret C ⟨rfl, hF⟩ dJ0_init_4
def F_gJ17_init (G : GT) (S : GZ) (x0 : Nat) (P : AH → Prop) : Prop := ∃ c_8 s_9 : Nat, c_8 ≤ S.2.1 ∧ s_9 ≤ S.2.2 ∧ F_gJ0_init G (S.1, c_8, s_9) x0 (fun h_11 => nm (α := GZ) (h_11, S.2.1 - c_8, S.2.2 - s_9) (fun S_12 => ∃ fs_13 : List Value, S_12.1 x0 = some (.inr (12, fs_13)) ∧ 0 < fs_13.length ∧ (nm (α := GZ) (hup S_12.1 x0 (.inr (12, List.set fs_13 0 (.int 0))), S_12.2.1, S_12.2.2) (fun S_14 => P S_14.1))))
set_option maxHeartbeats 4000000 in
theorem M_gJ17_init (G : GT) (l : Launch) (hG : GOK G) (hTab : TabF G) (hm : FreeG G) (S : GZ) (x0 : Nat) (P : AH → Prop) (hF : F_gJ17_init G S x0 P) : MT G l yJ17_init cJ17_init 1 none 2 60 S.2.1 S.2.2 [.ref x0] S.1 (fun v h' => v = none ∧ P h') := by
  refine MT.mk (own := RJ17) (by decide) rfl hG (Nat.le_of_ble_eq_true rfl) ?_
  intro p e s m below meth c args Q hargs hQ C hname
  refine J.loca (L2 := [(0, .ref x0)]) rfl ?_
  unfold F_gJ17_init at hF
  refine j_aload_n C dJ17_init_0 rfl 0 rfl ?_
  obtain ⟨c_8, s_9, hc1, hc2, hF⟩ := hF
  refine j_callI (n := 0) (As := []) (rest := []) C (M_gJ0_init G l hG hTab hm (S.1, c_8, s_9) x0 _ hF) q1283 ⟨q206, q95, q207, rfl, by decide +kernel⟩ rfl rfl (Nat.le_of_ble_eq_true rfl) ⟨Nat.le_of_ble_eq_true rfl, Nat.le_of_ble_eq_true rfl⟩ hc1 hc2 dJ17_init_1 (kk_v fun h_11 hF => ?_)
  obtain ⟨S_12, eS_12, hF⟩ := nm_intro hF
  refine g_J eS_12 ?_
  refine j_aload_n C dJ17_init_4 rfl 0 rfl ?_
  refine j_iconst (v := 0) C dJ17_init_5 rfl ?_
  obtain ⟨fs_13, hg1, hg2, hF⟩ := hF
  refine j_put C hm hg1 rfl in_J18 tyJ18 tyJ18_ok nmJ18 0 (by decide) q1288 rfl rfl rfl rfl hg2 dJ17_init_6 ?_
  obtain ⟨S_14, eS_14, hF⟩ := nm_intro hF
  refine g_J eS_14 ?_
  rw [hQ]
  exact j_vret C ⟨rfl, hF⟩ dJ17_init_9
def F_gJ18_grow_2 (G : GT) (S : GZ) (x0 : Nat) (x1 : Int32) (P : Nat → AH → Prop) : Prop := ∃ v_22 : Nat, aF G S.1 x0 12 1 (.ref v_22) ∧ (∃ n_23 : Nat, aL G S.1 v_22 n_23 ∧ (jn (α := GZ → Prop) (fun S_25 => ∃ c_26 s_27 : Nat, c_26 ≤ S_25.2.1 ∧ s_27 ≤ S_25.2.2 ∧ F_gJ21_newLength G (S_25.1, c_26, s_27) (Int32.ofNat n_23) (x1 - (Int32.ofNat n_23)) ((Int32.ofNat n_23) >>> (1 &&& 31)) (fun r_28 h_29 => nm (α := GZ) (h_29, S_25.2.1 - c_26, S_25.2.2 - s_27) (fun S_30 => ∃ v_31 : Nat, aF G S_30.1 x0 12 1 (.ref v_31) ∧ (∃ c_32 s_33 : Nat, c_32 ≤ S_30.2.1 ∧ s_33 ≤ S_30.2.2 ∧ F_gJ12_copyOf G (S_30.1, c_32, s_33) v_31 r_28 (fun r_34 h_35 => nm (α := GZ) (h_35, S_30.2.1 - c_32, S_30.2.2 - s_33) (fun S_36 => ∃ fs_37 : List Value, S_36.1 x0 = some (.inr (12, fs_37)) ∧ 1 < fs_37.length ∧ (nm (α := GZ) (hup S_36.1 x0 (.inr (12, List.set fs_37 1 (.ref r_34))), S_36.2.1, S_36.2.2) (fun S_38 => P r_34 S_38.1)))))))) (fun K_24 => (0 < (Int32.ofNat n_23) → K_24 S) ∧ (¬ 0 < (Int32.ofNat n_23) → ∃ v_40 : Nat, aF G S.1 x0 12 1 (.ref v_40) ∧ (∃ v_41 : Nat, StV G "java/util/ArrayList" "DEFAULTCAPACITY_EMPTY_ELEMENTDATA" "[Ljava/lang/Object;" (.ref v_41) ∧ (((some v_40) = (some v_41) → ¬ ((if 10 < x1 then x1 else 10) : Int32) < 0 ∧ 1 ≤ S.2.1 ∧ Int32.toNatClampNeg (if 10 < x1 then x1 else 10) ≤ S.2.2 ∧ Int32.toNatClampNeg (if 10 < x1 then x1 else 10) * 4 ≤ 536870912 ∧ ∀ q_43 : Nat, S.1 q_43 = none → G.1 ≤ q_43 → (nm (α := GZ) (hup S.1 q_43 (.inl (G.2.2.1 7, Int32.toNatClampNeg (if 10 < x1 then x1 else 10), .inr (.inr (.inr (.inr (fun _ => none)))))), S.2.1 - 1, S.2.2 - Int32.toNatClampNeg (if 10 < x1 then x1 else 10)) (fun S_44 => ∃ fs_45 : List Value, S_44.1 x0 = some (.inr (12, fs_45)) ∧ 1 < fs_45.length ∧ (nm (α := GZ) (hup S_44.1 x0 (.inr (12, List.set fs_45 1 (.ref q_43))), S_44.2.1, S_44.2.2) (fun S_46 => P q_43 S_46.1))))) ∧ (¬ (some v_40) = (some v_41) → K_24 S)))))))
set_option maxHeartbeats 4000000 in
theorem M_gJ18_grow_2 (G : GT) (l : Launch) (hG : GOK G) (hTab : TabF G) (hm : FreeG G) (S : GZ) (x0 : Nat) (x1 : Int32) (P : Nat → AH → Prop) (hF : F_gJ18_grow_2 G S x0 x1 P) : MT G l yJ18_grow_2 cJ18_grow_2 4 (some (Jvm.ClassFile.FieldType.array (Jvm.ClassFile.FieldType.object "java/lang/Object"))) 3 284 S.2.1 S.2.2 [.ref x0, .int x1] S.1 (fun v h' => ∃ r : Nat, v = some (.ref r) ∧ P r h') := by
  refine MT.mk (own := RJ18) (by decide) rfl hG (Nat.le_of_ble_eq_true rfl) ?_
  intro p e s m below meth c args Q hargs hQ C hname
  refine J.loca (L2 := [(0, .ref x0), (1, .int x1)]) rfl ?_
  unfold F_gJ18_grow_2 at hF
  refine j_aload_n C dJ18_grow_2_0 rfl 0 rfl ?_
  obtain ⟨v_22, hgd, hF⟩ := hF
  refine jg_get C (T := TJ18) (N := 3) rfl in_J18 1 (by decide) q1286 rfl hgd dJ18_grow_2_1 ?_
  obtain ⟨n_23, hgd, hF⟩ := hF
  refine jg_alen C hgd dJ18_grow_2_4 ?_
  refine j_istore_n (L2 := [(2, .int (Int32.ofNat n_23)), (0, .ref x0), (1, .int x1)]) C dJ18_grow_2_5 rfl (by decide) rfl ?_
  refine j_iload_n C dJ18_grow_2_6 rfl 0 rfl ?_
  obtain ⟨K_24, hK_24, hF⟩ := jn_intro (M := fun (K : GZ → Prop) => ∀ (S_25 : GZ), K S_25 → J G p l e ({ frames := 3, cells := S.2.1, slots := S.2.2, locals := 284 } : Room) s m args below meth c 4 Q S_25.2.1 S_25.2.2 S_25.1 20 [(0, .ref x0), (1, .int x1), (2, .int (Int32.ofNat n_23))] []) (hk := by
      intro S_25 hF
      refine j_iload_n C dJ18_grow_2_20 rfl 2 rfl ?_
      refine j_iload_n C dJ18_grow_2_21 rfl 1 rfl ?_
      refine j_iload_n C dJ18_grow_2_22 rfl 2 rfl ?_
      refine j_isub C dJ18_grow_2_23 ?_
      refine j_iload_n C dJ18_grow_2_24 rfl 2 rfl ?_
      refine j_iconst (v := 1) C dJ18_grow_2_25 rfl ?_
      refine j_ishr C dJ18_grow_2_26 ?_
      obtain ⟨c_26, s_27, hc1, hc2, hF⟩ := hF
      refine j_callS (n := 3) (As := [.int (Int32.ofNat n_23), .int (x1 - (Int32.ofNat n_23)), .int ((Int32.ofNat n_23) >>> (1 &&& 31))]) (rest := []) C (M_gJ21_newLength G l hG hTab hm (S_25.1, c_26, s_27) (Int32.ofNat n_23) (x1 - (Int32.ofNat n_23)) ((Int32.ofNat n_23) >>> (1 &&& 31)) _ hF) q1340 ⟨q775, q127, q776, by decide +kernel⟩ rfl rfl (Nat.le_of_ble_eq_true rfl) ⟨Nat.le_of_ble_eq_true rfl, Nat.le_of_ble_eq_true rfl⟩ hc1 hc2 dJ18_grow_2_27 (kk_i fun r_28 h_29 hF => ?_)
      obtain ⟨S_30, eS_30, hF⟩ := nm_intro hF
      refine g_J eS_30 ?_
      refine j_istore_n (L2 := [(3, .int r_28), (0, .ref x0), (1, .int x1), (2, .int (Int32.ofNat n_23))]) C dJ18_grow_2_30 rfl (by decide) rfl ?_
      refine j_aload_n C dJ18_grow_2_31 rfl 1 rfl ?_
      refine j_aload_n C dJ18_grow_2_32 rfl 1 rfl ?_
      obtain ⟨v_31, hgd, hF⟩ := hF
      refine jg_get C (T := TJ18) (N := 3) rfl in_J18 1 (by decide) q1286 rfl hgd dJ18_grow_2_33 ?_
      refine j_iload_n C dJ18_grow_2_36 rfl 0 rfl ?_
      obtain ⟨c_32, s_33, hc1, hc2, hF⟩ := hF
      refine j_callS (n := 2) (As := [.ref v_31, .int r_28]) (rest := [.ref x0]) C (M_gJ12_copyOf G l hG hTab hm (S_30.1, c_32, s_33) v_31 r_28 _ hF) q1341 ⟨q606, q111, q607, by decide +kernel⟩ rfl rfl (Nat.le_of_ble_eq_true rfl) ⟨Nat.le_of_ble_eq_true rfl, Nat.le_of_ble_eq_true rfl⟩ hc1 hc2 dJ18_grow_2_37 (kk_r fun r_34 h_35 hF => ?_)
      obtain ⟨S_36, eS_36, hF⟩ := nm_intro hF
      refine g_J eS_36 ?_
      refine j_dup_x1 C dJ18_grow_2_40 rfl rfl ?_
      obtain ⟨fs_37, hg1, hg2, hF⟩ := hF
      refine j_put C hm hg1 rfl in_J18 tyJ18 tyJ18_ok nmJ18 1 (by decide) q1286 rfl rfl rfl rfl hg2 dJ18_grow_2_41 ?_
      obtain ⟨S_38, eS_38, hF⟩ := nm_intro hF
      refine g_J eS_38 ?_
      rw [hQ]
      exact j_aret C (Or.inr ⟨_, rfl⟩) (Or.inr ⟨_, rfl⟩) ⟨_, rfl, hF⟩ dJ18_grow_2_44) hF
  refine j_if_gt (tgt := 20) C dJ18_grow_2_7 (by decide) (fun hc_39 => ?_) (fun hc_39 => ?_)
  · replace hF := hF.1 hc_39
    exact J.locals [1, 2, 0] (hK_24 _ hF) rfl
  · replace hF := hF.2 hc_39
    refine j_aload_n C dJ18_grow_2_10 rfl 1 rfl ?_
    obtain ⟨v_40, hgd, hF⟩ := hF
    refine jg_get C (T := TJ18) (N := 3) rfl in_J18 1 (by decide) q1286 rfl hgd dJ18_grow_2_11 ?_
    obtain ⟨v_41, hgd, hF⟩ := hF
    refine jg_gets C hgd q1284 rfl dJ18_grow_2_14 ?_
    refine jg_acmp_eq (x := (some v_40)) (y := (some v_41)) (tgt := 45) C dJ18_grow_2_17 (by decide) (fun hc_42 => ?_) (fun hc_42 => ?_)
    · replace hF := hF.1 hc_42
      refine j_aload_n C dJ18_grow_2_45 rfl 1 rfl ?_
      refine j_bipush (v := 10) C dJ18_grow_2_46 rfl ?_
      refine j_iload_n C dJ18_grow_2_48 rfl 2 rfl ?_
      refine j_mmax C (Nat.le_of_ble_eq_true rfl) (Nat.le_of_ble_eq_true rfl) q1342 (Nat.le_of_ble_eq_true rfl) q503 q107 q504 dJ18_grow_2_49 ?_
      obtain ⟨hg1, hg2, hg3, hg4, hF⟩ := hF
      refine jg_newq C hm (d := 7) q1343 (C.tab hTab q210 rfl) (fun _ => rfl) hg1 rfl hg4 (bc' := S.2.1 - 1) (bs' := S.2.2 - Int32.toNatClampNeg (if 10 < x1 then x1 else 10)) (by omega) (by omega) dJ18_grow_2_52 (fun q_43 hq1 hq2 => ?_)
      replace hF := hF q_43 hq1 hq2
      obtain ⟨S_44, eS_44, hF⟩ := nm_intro hF
      refine g_J eS_44 ?_
      refine j_dup_x1 C dJ18_grow_2_55 rfl rfl ?_
      obtain ⟨fs_45, hg1, hg2, hF⟩ := hF
      refine j_put C hm hg1 rfl in_J18 tyJ18 tyJ18_ok nmJ18 1 (by decide) q1286 rfl rfl rfl rfl hg2 dJ18_grow_2_56 ?_
      obtain ⟨S_46, eS_46, hF⟩ := nm_intro hF
      refine g_J eS_46 ?_
      rw [hQ]
      exact j_aret C (Or.inr ⟨_, rfl⟩) (Or.inr ⟨_, rfl⟩) ⟨_, rfl, hF⟩ dJ18_grow_2_59
    · replace hF := hF.2 hc_42
      exact J.locals [1, 2, 0] (hK_24 _ hF) rfl
def F_gJ18_grow (G : GT) (S : GZ) (x0 : Nat) (P : Nat → AH → Prop) : Prop := ∃ v_7 : Int32, aF G S.1 x0 12 2 (.int v_7) ∧ (aC G S.1 x0 12 ∧ ∃ c_8 s_9 : Nat, c_8 ≤ S.2.1 ∧ s_9 ≤ S.2.2 ∧ F_gJ18_grow_2 G (S.1, c_8, s_9) x0 (v_7 + 1) (fun r_10 h_11 => nm (α := GZ) (h_11, S.2.1 - c_8, S.2.2 - s_9) (fun S_12 => P r_10 S_12.1)))
set_option maxHeartbeats 4000000 in
theorem M_gJ18_grow (G : GT) (l : Launch) (hG : GOK G) (hTab : TabF G) (hm : FreeG G) (S : GZ) (x0 : Nat) (P : Nat → AH → Prop) (hF : F_gJ18_grow G S x0 P) : MT G l yJ18_grow cJ18_grow 1 (some (Jvm.ClassFile.FieldType.array (Jvm.ClassFile.FieldType.object "java/lang/Object"))) 4 317 S.2.1 S.2.2 [.ref x0] S.1 (fun v h' => ∃ r : Nat, v = some (.ref r) ∧ P r h') := by
  refine MT.mk (own := RJ18) (by decide) rfl hG (Nat.le_of_ble_eq_true rfl) ?_
  intro p e s m below meth c args Q hargs hQ C hname
  refine J.loca (L2 := [(0, .ref x0)]) rfl ?_
  unfold F_gJ18_grow at hF
  refine j_aload_n C dJ18_grow_0 rfl 0 rfl ?_
  refine j_aload_n C dJ18_grow_1 rfl 0 rfl ?_
  obtain ⟨v_7, hgd, hF⟩ := hF
  refine jg_get C (T := TJ18) (N := 3) rfl in_J18 2 (by decide) q1287 rfl hgd dJ18_grow_2 ?_
  refine j_iconst (v := 1) C dJ18_grow_5 rfl ?_
  refine j_iadd C dJ18_grow_6 ?_
  obtain ⟨hrc, hF⟩ := hF
  obtain ⟨c_8, s_9, hc1, hc2, hF⟩ := hF
  refine jg_callV (n := 1) (As := [.int (v_7 + 1)]) (rest := []) C (M_gJ18_grow_2 G l hG hTab hm (S.1, c_8, s_9) x0 (v_7 + 1) _ hF) q1336 ⟨q1338, qs26, q123, q1339, by decide +kernel⟩ rfl hrc rfl rfl (Nat.le_of_ble_eq_true rfl) ⟨Nat.le_of_ble_eq_true rfl, Nat.le_of_ble_eq_true rfl⟩ hc1 hc2 dJ18_grow_7 (kk_r fun r_10 h_11 hF => ?_)
  obtain ⟨S_12, eS_12, hF⟩ := nm_intro hF
  refine g_J eS_12 ?_
  rw [hQ]
  exact j_aret C (Or.inr ⟨_, rfl⟩) (Or.inr ⟨_, rfl⟩) ⟨_, rfl, hF⟩ dJ18_grow_10
def F_gJ18_add_2 (G : GT) (S : GZ) (x0 : Nat) (x1 : Nat) (x2 : Nat) (x3 : Int32) (P : AH → Prop) : Prop := ∃ n_12 : Nat, aL G S.1 x2 n_12 ∧ (jn (α := GZ → Nat → Prop) (fun S_14 y2_15 => ∃ (n_16 : Nat) (f_17 : Nat → Option Nat), S_14.1 y2_15 = some (.inl (G.2.2.1 7, n_16, .inr (.inr (.inr (.inr f_17))))) ∧ vp_in x3 n_16 ∧ gEl G S_14.1 x1 ∧ (nm (α := GZ) (hup S_14.1 y2_15 (.inl (G.2.2.1 7, n_16, .inr (.inr (.inr (.inr (va_up f_17 (Int32.toNatClampNeg x3) (some x1))))))), S_14.2.1, S_14.2.2) (fun S_18 => ∃ fs_19 : List Value, S_18.1 x0 = some (.inr (12, fs_19)) ∧ 2 < fs_19.length ∧ (nm (α := GZ) (hup S_18.1 x0 (.inr (12, List.set fs_19 2 (.int (x3 + 1)))), S_18.2.1, S_18.2.2) (fun S_20 => P S_20.1))))) (fun K_13 => (x3 = (Int32.ofNat n_12) → aC G S.1 x0 12 ∧ ∃ c_22 s_23 : Nat, c_22 ≤ S.2.1 ∧ s_23 ≤ S.2.2 ∧ F_gJ18_grow G (S.1, c_22, s_23) x0 (fun r_24 h_25 => nm (α := GZ) (h_25, S.2.1 - c_22, S.2.2 - s_23) (fun S_26 => K_13 S_26 r_24))) ∧ (¬ x3 = (Int32.ofNat n_12) → K_13 S x2)))
set_option maxHeartbeats 4000000 in
theorem M_gJ18_add_2 (G : GT) (l : Launch) (hG : GOK G) (hTab : TabF G) (hm : FreeG G) (S : GZ) (x0 : Nat) (x1 : Nat) (x2 : Nat) (x3 : Int32) (P : AH → Prop) (hF : F_gJ18_add_2 G S x0 x1 x2 x3 P) : MT G l yJ18_add_2 cJ18_add_2 4 none 5 347 S.2.1 S.2.2 [.ref x0, .ref x1, .ref x2, .int x3] S.1 (fun v h' => v = none ∧ P h') := by
  refine MT.mk (own := RJ18) (by decide) rfl hG (Nat.le_of_ble_eq_true rfl) ?_
  intro p e s m below meth c args Q hargs hQ C hname
  refine J.loca (L2 := [(0, .ref x0), (1, .ref x1), (2, .ref x2), (3, .int x3)]) rfl ?_
  unfold F_gJ18_add_2 at hF
  refine j_iload_n C dJ18_add_2_0 rfl 3 rfl ?_
  refine j_aload_n C dJ18_add_2_1 rfl 2 rfl ?_
  obtain ⟨n_12, hgd, hF⟩ := hF
  refine jg_alen C hgd dJ18_add_2_2 ?_
  obtain ⟨K_13, hK_13, hF⟩ := jn_intro (M := fun (K : GZ → Nat → Prop) => ∀ (S_14 : GZ) (y2_15 : Nat), K S_14 y2_15 → J G p l e ({ frames := 5, cells := S.2.1, slots := S.2.2, locals := 347 } : Room) s m args below meth c 4 Q S_14.2.1 S_14.2.2 S_14.1 11 [(0, .ref x0), (1, .ref x1), (2, .ref y2_15), (3, .int x3)] []) (hk := by
      intro S_14 y2_15 hF
      refine j_aload_n C dJ18_add_2_11 rfl 2 rfl ?_
      refine j_iload_n C dJ18_add_2_12 rfl 3 rfl ?_
      refine j_aload_n C dJ18_add_2_13 rfl 1 rfl ?_
      obtain ⟨n_16, f_17, hg1, hg2, hg3, hF⟩ := hF
      refine jg_aastC C hTab hm hg1 hg3 hg2 dJ18_add_2_14 ?_
      obtain ⟨S_18, eS_18, hF⟩ := nm_intro hF
      refine g_J eS_18 ?_
      refine j_aload_n C dJ18_add_2_15 rfl 0 rfl ?_
      refine j_iload_n C dJ18_add_2_16 rfl 3 rfl ?_
      refine j_iconst (v := 1) C dJ18_add_2_17 rfl ?_
      refine j_iadd C dJ18_add_2_18 ?_
      obtain ⟨fs_19, hg1, hg2, hF⟩ := hF
      refine j_put C hm hg1 rfl in_J18 tyJ18 tyJ18_ok nmJ18 2 (by decide) q1287 rfl rfl rfl rfl hg2 dJ18_add_2_19 ?_
      obtain ⟨S_20, eS_20, hF⟩ := nm_intro hF
      refine g_J eS_20 ?_
      rw [hQ]
      exact j_vret C ⟨rfl, hF⟩ dJ18_add_2_22) hF
  refine j_icmp_ne (tgt := 11) C dJ18_add_2_3 (by decide) (fun hc_21 => ?_) (fun hc_21 => ?_)
  · replace hF := hF.2 hc_21
    exact J.locals [0, 1, 2, 3] (hK_13 _ _ hF) rfl
  · replace hF := hF.1 hc_21
    refine j_aload_n C dJ18_add_2_6 rfl 0 rfl ?_
    obtain ⟨hrc, hF⟩ := hF
    obtain ⟨c_22, s_23, hc1, hc2, hF⟩ := hF
    refine jg_callV (n := 0) (As := []) (rest := []) C (M_gJ18_grow G l hG hTab hm (S.1, c_22, s_23) x0 _ hF) q1332 ⟨q1334, qs25, q123, q1335, by decide +kernel⟩ rfl hrc rfl rfl (Nat.le_of_ble_eq_true rfl) ⟨Nat.le_of_ble_eq_true rfl, Nat.le_of_ble_eq_true rfl⟩ hc1 hc2 dJ18_add_2_7 (kk_r fun r_24 h_25 hF => ?_)
    obtain ⟨S_26, eS_26, hF⟩ := nm_intro hF
    refine g_J eS_26 ?_
    refine j_astore_n (L2 := [(2, .ref r_24), (0, .ref x0), (1, .ref x1), (3, .int x3)]) C dJ18_add_2_10 rfl (by decide) rfl ?_
    exact J.locals [1, 2, 0, 3] (hK_13 _ _ hF) rfl
def F_gJ18_add (G : GT) (S : GZ) (x0 : Nat) (x1 : Nat) (P : Int32 → AH → Prop) : Prop := ∃ v_11 : Int32, aF G S.1 x0 12 0 (.int v_11) ∧ (∃ fs_12 : List Value, S.1 x0 = some (.inr (12, fs_12)) ∧ 0 < fs_12.length ∧ (nm (α := GZ) (hup S.1 x0 (.inr (12, List.set fs_12 0 (.int (v_11 + 1)))), S.2.1, S.2.2) (fun S_13 => ∃ v_14 : Nat, aF G S_13.1 x0 12 1 (.ref v_14) ∧ (∃ v_15 : Int32, aF G S_13.1 x0 12 2 (.int v_15) ∧ (aC G S_13.1 x0 12 ∧ ∃ c_16 s_17 : Nat, c_16 ≤ S_13.2.1 ∧ s_17 ≤ S_13.2.2 ∧ F_gJ18_add_2 G (S_13.1, c_16, s_17) x0 x1 v_14 v_15 (fun h_19 => nm (α := GZ) (h_19, S_13.2.1 - c_16, S_13.2.2 - s_17) (fun S_20 => P 1 S_20.1)))))))
set_option maxHeartbeats 4000000 in
theorem M_gJ18_add (G : GT) (l : Launch) (hG : GOK G) (hTab : TabF G) (hm : FreeG G) (S : GZ) (x0 : Nat) (x1 : Nat) (P : Int32 → AH → Prop) (hF : F_gJ18_add G S x0 x1 P) : MT G l yJ18_add cJ18_add 2 (some Jvm.ClassFile.FieldType.boolean) 6 380 S.2.1 S.2.2 [.ref x0, .ref x1] S.1 (fun v h' => ∃ r : Int32, v = some (.int r) ∧ P r h') := by
  refine MT.mk (own := RJ18) (by decide) rfl hG (Nat.le_of_ble_eq_true rfl) ?_
  intro p e s m below meth c args Q hargs hQ C hname
  refine J.loca (L2 := [(0, .ref x0), (1, .ref x1)]) rfl ?_
  unfold F_gJ18_add at hF
  refine j_aload_n C dJ18_add_0 rfl 0 rfl ?_
  refine j_dup C dJ18_add_1 rfl ?_
  obtain ⟨v_11, hgd, hF⟩ := hF
  refine jg_getSF C (T := TJ18) (N := 3) rfl in_J18 0 (by decide) q1289 q1290 hgd dJ18_add_2 ?_
  refine j_iconst (v := 1) C dJ18_add_5 rfl ?_
  refine j_iadd C dJ18_add_6 ?_
  obtain ⟨fs_12, hg1, hg2, hF⟩ := hF
  refine jg_putSF C hm hg1 rfl in_J18 tyJ18 tyJ18_ok nmJ18 0 (by decide) q1289 q1290 rfl rfl rfl hg2 dJ18_add_7 ?_
  obtain ⟨S_13, eS_13, hF⟩ := nm_intro hF
  refine g_J eS_13 ?_
  refine j_aload_n C dJ18_add_10 rfl 0 rfl ?_
  refine j_aload_n C dJ18_add_11 rfl 1 rfl ?_
  refine j_aload_n C dJ18_add_12 rfl 0 rfl ?_
  obtain ⟨v_14, hgd, hF⟩ := hF
  refine jg_get C (T := TJ18) (N := 3) rfl in_J18 1 (by decide) q1286 rfl hgd dJ18_add_13 ?_
  refine j_aload_n C dJ18_add_16 rfl 0 rfl ?_
  obtain ⟨v_15, hgd, hF⟩ := hF
  refine jg_get C (T := TJ18) (N := 3) rfl in_J18 2 (by decide) q1287 rfl hgd dJ18_add_17 ?_
  obtain ⟨hrc, hF⟩ := hF
  obtain ⟨c_16, s_17, hc1, hc2, hF⟩ := hF
  refine jg_callV (n := 3) (As := [.ref x1, .ref v_14, .int v_15]) (rest := []) C (M_gJ18_add_2 G l hG hTab hm (S_13.1, c_16, s_17) x0 x1 v_14 v_15 _ hF) q1328 ⟨q1330, qs24, q123, q1331, by decide +kernel⟩ rfl hrc rfl rfl (Nat.le_of_ble_eq_true rfl) ⟨Nat.le_of_ble_eq_true rfl, Nat.le_of_ble_eq_true rfl⟩ hc1 hc2 dJ18_add_20 (kk_v fun h_19 hF => ?_)
  obtain ⟨S_20, eS_20, hF⟩ := nm_intro hF
  refine g_J eS_20 ?_
  refine j_iconst (v := 1) C dJ18_add_23 rfl ?_
  rw [hQ]
  exact j_iret C rfl ⟨_, rfl, hF⟩ dJ18_add_24
def F_gJ18_elementData (G : GT) (S : GZ) (x0 : Nat) (x1 : Int32) (P : Nat → AH → Prop) : Prop := ∃ v_5 : Nat, aF G S.1 x0 12 1 (.ref v_5) ∧ (∃ (n_6 : Nat) (f_7 : Nat → Option Nat) (v_8 : Nat), aO G S.1 v_5 n_6 f_7 ∧ vp_in x1 n_6 ∧ f_7 (Int32.toNatClampNeg x1) = some v_8 ∧ (P v_8 S.1))
set_option maxHeartbeats 4000000 in
theorem M_gJ18_elementData (G : GT) (l : Launch) (hG : GOK G) (hTab : TabF G) (hm : FreeG G) (S : GZ) (x0 : Nat) (x1 : Int32) (P : Nat → AH → Prop) (hF : F_gJ18_elementData G S x0 x1 P) : MT G l yJ18_elementData cJ18_elementData 2 (some (Jvm.ClassFile.FieldType.object "java/lang/Object")) 0 0 S.2.1 S.2.2 [.ref x0, .int x1] S.1 (fun v h' => ∃ r : Nat, v = some (.ref r) ∧ P r h') := by
  refine MT.mk (own := RJ18) (by decide) rfl hG (Nat.le_of_ble_eq_true rfl) ?_
  intro p e s m below meth c args Q hargs hQ C hname
  refine J.loca (L2 := [(0, .ref x0), (1, .int x1)]) rfl ?_
  unfold F_gJ18_elementData at hF
  refine j_aload_n C dJ18_elementData_0 rfl 0 rfl ?_
  obtain ⟨v_5, hgd, hF⟩ := hF
  refine jg_get C (T := TJ18) (N := 3) rfl in_J18 1 (by decide) q1286 rfl hgd dJ18_elementData_1 ?_
  refine j_iload_n C dJ18_elementData_4 rfl 1 rfl ?_
  obtain ⟨n_6, f_7, v_8, hg1, hg2, hg3, hF⟩ := hF
  refine jg_aald C hg1 hg2 dJ18_elementData_5 ?_
  rw [hg3]
  rw [hQ]
  exact j_aret C (Or.inl ⟨_, rfl⟩) (Or.inr ⟨_, rfl⟩) ⟨_, rfl, hF⟩ dJ18_elementData_6
def F_gJ18_get (G : GT) (S : GZ) (x0 : Nat) (x1 : Int32) (P : Nat → AH → Prop) : Prop := ∃ v_12 : Int32, aF G S.1 x0 12 2 (.int v_12) ∧ (∃ c_13 s_14 : Nat, c_13 ≤ S.2.1 ∧ s_14 ≤ S.2.2 ∧ F_gJ22_checkIndex G (S.1, c_13, s_14) x1 v_12 (fun r_15 h_16 => nm (α := GZ) (h_16, S.2.1 - c_13, S.2.2 - s_14) (fun S_17 => aC G S_17.1 x0 12 ∧ ∃ c_18 s_19 : Nat, c_18 ≤ S_17.2.1 ∧ s_19 ≤ S_17.2.2 ∧ F_gJ18_elementData G (S_17.1, c_18, s_19) x0 x1 (fun r_20 h_21 => nm (α := GZ) (h_21, S_17.2.1 - c_18, S_17.2.2 - s_19) (fun S_22 => P r_20 S_22.1)))))
set_option maxHeartbeats 4000000 in
theorem M_gJ18_get (G : GT) (l : Launch) (hG : GOK G) (hTab : TabF G) (hm : FreeG G) (S : GZ) (x0 : Nat) (x1 : Int32) (P : Nat → AH → Prop) (hF : F_gJ18_get G S x0 x1 P) : MT G l yJ18_get cJ18_get 2 (some (Jvm.ClassFile.FieldType.object "java/lang/Object")) 2 63 S.2.1 S.2.2 [.ref x0, .int x1] S.1 (fun v h' => ∃ r : Nat, v = some (.ref r) ∧ P r h') := by
  refine MT.mk (own := RJ18) (by decide) rfl hG (Nat.le_of_ble_eq_true rfl) ?_
  intro p e s m below meth c args Q hargs hQ C hname
  refine J.loca (L2 := [(0, .ref x0), (1, .int x1)]) rfl ?_
  unfold F_gJ18_get at hF
  refine j_iload_n C dJ18_get_0 rfl 1 rfl ?_
  refine j_aload_n C dJ18_get_1 rfl 0 rfl ?_
  obtain ⟨v_12, hgd, hF⟩ := hF
  refine jg_get C (T := TJ18) (N := 3) rfl in_J18 2 (by decide) q1287 rfl hgd dJ18_get_2 ?_
  obtain ⟨c_13, s_14, hc1, hc2, hF⟩ := hF
  refine j_callS (n := 2) (As := [.int x1, .int v_12]) (rest := []) C (M_gJ22_checkIndex G l hG hTab hm (S.1, c_13, s_14) x1 v_12 _ hF) q1366 ⟨q1367, q128, q1368, by decide +kernel⟩ rfl rfl (Nat.le_of_ble_eq_true rfl) ⟨Nat.le_of_ble_eq_true rfl, Nat.le_of_ble_eq_true rfl⟩ hc1 hc2 dJ18_get_5 (kk_i fun r_15 h_16 hF => ?_)
  obtain ⟨S_17, eS_17, hF⟩ := nm_intro hF
  refine g_J eS_17 ?_
  refine j_pop C dJ18_get_8 rfl ?_
  refine j_aload_n C dJ18_get_9 rfl 0 rfl ?_
  refine j_iload_n C dJ18_get_10 rfl 1 rfl ?_
  obtain ⟨hrc, hF⟩ := hF
  obtain ⟨c_18, s_19, hc1, hc2, hF⟩ := hF
  refine jg_callV (n := 1) (As := [.int x1]) (rest := []) C (M_gJ18_elementData G l hG hTab hm (S_17.1, c_18, s_19) x0 x1 _ hF) q1370 ⟨q1371, q1372, q123, q1373, by decide +kernel⟩ rfl hrc rfl rfl (Nat.le_of_ble_eq_true rfl) ⟨Nat.le_of_ble_eq_true rfl, Nat.le_of_ble_eq_true rfl⟩ hc1 hc2 dJ18_get_11 (kk_r fun r_20 h_21 hF => ?_)
  obtain ⟨S_22, eS_22, hF⟩ := nm_intro hF
  refine g_J eS_22 ?_
  rw [hQ]
  exact j_aret C (Or.inl ⟨_, rfl⟩) (Or.inr ⟨_, rfl⟩) ⟨_, rfl, hF⟩ dJ18_get_14
def F_gJ18_init (G : GT) (S : GZ) (x0 : Nat) (P : AH → Prop) : Prop := ∃ c_9 s_10 : Nat, c_9 ≤ S.2.1 ∧ s_10 ≤ S.2.2 ∧ F_gJ17_init G (S.1, c_9, s_10) x0 (fun h_12 => nm (α := GZ) (h_12, S.2.1 - c_9, S.2.2 - s_10) (fun S_13 => ∃ v_14 : Nat, StV G "java/util/ArrayList" "DEFAULTCAPACITY_EMPTY_ELEMENTDATA" "[Ljava/lang/Object;" (.ref v_14) ∧ (∃ fs_15 : List Value, S_13.1 x0 = some (.inr (12, fs_15)) ∧ 1 < fs_15.length ∧ (nm (α := GZ) (hup S_13.1 x0 (.inr (12, List.set fs_15 1 (.ref v_14))), S_13.2.1, S_13.2.2) (fun S_16 => P S_16.1)))))
set_option maxHeartbeats 4000000 in
theorem M_gJ18_init (G : GT) (l : Launch) (hG : GOK G) (hTab : TabF G) (hm : FreeG G) (S : GZ) (x0 : Nat) (P : AH → Prop) (hF : F_gJ18_init G S x0 P) : MT G l yJ18_init cJ18_init 1 none 3 90 S.2.1 S.2.2 [.ref x0] S.1 (fun v h' => v = none ∧ P h') := by
  refine MT.mk (own := RJ18) (by decide) rfl hG (Nat.le_of_ble_eq_true rfl) ?_
  intro p e s m below meth c args Q hargs hQ C hname
  refine J.loca (L2 := [(0, .ref x0)]) rfl ?_
  unfold F_gJ18_init at hF
  refine j_aload_n C dJ18_init_0 rfl 0 rfl ?_
  obtain ⟨c_9, s_10, hc1, hc2, hF⟩ := hF
  refine j_callI (n := 0) (As := []) (rest := []) C (M_gJ17_init G l hG hTab hm (S.1, c_9, s_10) x0 _ hF) q1280 ⟨q1281, q122, q1282, rfl, by decide +kernel⟩ rfl rfl (Nat.le_of_ble_eq_true rfl) ⟨Nat.le_of_ble_eq_true rfl, Nat.le_of_ble_eq_true rfl⟩ hc1 hc2 dJ18_init_1 (kk_v fun h_12 hF => ?_)
  obtain ⟨S_13, eS_13, hF⟩ := nm_intro hF
  refine g_J eS_13 ?_
  refine j_aload_n C dJ18_init_4 rfl 0 rfl ?_
  obtain ⟨v_14, hgd, hF⟩ := hF
  refine jg_gets C hgd q1284 rfl dJ18_init_5 ?_
  obtain ⟨fs_15, hg1, hg2, hF⟩ := hF
  refine j_put C hm hg1 rfl in_J18 tyJ18 tyJ18_ok nmJ18 1 (by decide) q1286 rfl rfl rfl rfl hg2 dJ18_init_8 ?_
  obtain ⟨S_16, eS_16, hF⟩ := nm_intro hF
  refine g_J eS_16 ?_
  rw [hQ]
  exact j_vret C ⟨rfl, hF⟩ dJ18_init_11
def F_gJ18_size (G : GT) (S : GZ) (x0 : Nat) (P : Int32 → AH → Prop) : Prop := ∃ v_2 : Int32, aF G S.1 x0 12 2 (.int v_2) ∧ (P v_2 S.1)
set_option maxHeartbeats 4000000 in
theorem M_gJ18_size (G : GT) (l : Launch) (hG : GOK G) (hTab : TabF G) (hm : FreeG G) (S : GZ) (x0 : Nat) (P : Int32 → AH → Prop) (hF : F_gJ18_size G S x0 P) : MT G l yJ18_size cJ18_size 1 (some Jvm.ClassFile.FieldType.int) 0 0 S.2.1 S.2.2 [.ref x0] S.1 (fun v h' => ∃ r : Int32, v = some (.int r) ∧ P r h') := by
  refine MT.mk (own := RJ18) (by decide) rfl hG (Nat.le_of_ble_eq_true rfl) ?_
  intro p e s m below meth c args Q hargs hQ C hname
  refine J.loca (L2 := [(0, .ref x0)]) rfl ?_
  unfold F_gJ18_size at hF
  refine j_aload_n C dJ18_size_0 rfl 0 rfl ?_
  obtain ⟨v_2, hgd, hF⟩ := hF
  refine jg_get C (T := TJ18) (N := 3) rfl in_J18 2 (by decide) q1287 rfl hgd dJ18_size_1 ?_
  rw [hQ]
  exact j_iret C rfl ⟨_, rfl, hF⟩ dJ18_size_4
def F_gJ1_inc (G : GT) (S : GZ) (x0 : Int32) (x1 : Int32) (P : Int32 → AH → Prop) : Prop := ((x0 + 1) < x1 → P (x0 + 1) S.1) ∧ (¬ (x0 + 1) < x1 → P 0 S.1)
set_option maxHeartbeats 4000000 in
theorem M_gJ1_inc (G : GT) (l : Launch) (hG : GOK G) (hTab : TabF G) (hm : FreeG G) (S : GZ) (x0 : Int32) (x1 : Int32) (P : Int32 → AH → Prop) (hF : F_gJ1_inc G S x0 x1 P) : MT G l yJ1_inc cJ1_inc 2 (some Jvm.ClassFile.FieldType.int) 0 0 S.2.1 S.2.2 [.int x0, .int x1] S.1 (fun v h' => ∃ r : Int32, v = some (.int r) ∧ P r h') := by
  refine MT.mk (own := RJ1) (by decide) rfl hG (Nat.le_of_ble_eq_true rfl) ?_
  intro p e s m below meth c args Q hargs hQ C hname
  refine J.loca (L2 := [(0, .int x0), (1, .int x1)]) rfl ?_
  unfold F_gJ1_inc at hF
  refine j_iinc (q := 0) (v := x0 + 1) (L2 := [(0, .int (x0 + 1)), (1, .int x1)]) C dJ1_inc_0 rfl rfl (by decide) rfl ?_
  refine j_iload_n C dJ1_inc_3 rfl 0 rfl ?_
  refine j_iload_n C dJ1_inc_4 rfl 1 rfl ?_
  refine j_icmp_lt (tgt := 10) C dJ1_inc_5 (by decide) (fun hc_1 => ?_) (fun hc_1 => ?_)
  · replace hF := hF.1 hc_1
    refine j_iload_n C dJ1_inc_10 rfl 0 rfl ?_
    rw [hQ]
    exact j_iret C rfl ⟨_, rfl, hF⟩ dJ1_inc_11
  · replace hF := hF.2 hc_1
    refine j_iconst (v := 0) C dJ1_inc_8 rfl ?_
    refine j_istore_n (L2 := [(0, .int 0), (1, .int x1)]) C dJ1_inc_9 rfl (by decide) rfl ?_
    refine j_iload_n C dJ1_inc_10 rfl 0 rfl ?_
    rw [hQ]
    exact j_iret C rfl ⟨_, rfl, hF⟩ dJ1_inc_11
def F_gJ1_addLast (G : GT) (S : GZ) (x0 : Nat) (x1 : Nat) (P : AH → Prop) : Prop := ∃ v_16 : Nat, aF G S.1 x0 11 0 (.ref v_16) ∧ (∃ v_17 : Int32, aF G S.1 x0 11 2 (.int v_17) ∧ (∃ (n_18 : Nat) (f_19 : Nat → Option Nat), S.1 v_16 = some (.inl (G.2.2.1 7, n_18, .inr (.inr (.inr (.inr f_19))))) ∧ vp_in v_17 n_18 ∧ gEl G S.1 x1 ∧ (nm (α := GZ) (hup S.1 v_16 (.inl (G.2.2.1 7, n_18, .inr (.inr (.inr (.inr (va_up f_19 (Int32.toNatClampNeg v_17) (some x1))))))), S.2.1, S.2.2) (fun S_20 => ∃ v_21 : Int32, aF G S_20.1 x0 11 1 (.int v_21) ∧ (∃ v_22 : Int32, aF G S_20.1 x0 11 2 (.int v_22) ∧ (∃ n_23 : Nat, aL G S_20.1 v_16 n_23 ∧ (∃ c_24 s_25 : Nat, c_24 ≤ S_20.2.1 ∧ s_25 ≤ S_20.2.2 ∧ F_gJ1_inc G (S_20.1, c_24, s_25) v_22 (Int32.ofNat n_23) (fun r_26 h_27 => nm (α := GZ) (h_27, S_20.2.1 - c_24, S_20.2.2 - s_25) (fun S_28 => ∃ fs_29 : List Value, S_28.1 x0 = some (.inr (11, fs_29)) ∧ 2 < fs_29.length ∧ (nm (α := GZ) (hup S_28.1 x0 (.inr (11, List.set fs_29 2 (.int r_26))), S_28.2.1, S_28.2.2) (fun S_30 => (v_21 = r_26 → False) ∧ (¬ v_21 = r_26 → P S_30.1))))))))))))
set_option maxHeartbeats 4000000 in
theorem M_gJ1_addLast (G : GT) (l : Launch) (hG : GOK G) (hTab : TabF G) (hm : FreeG G) (S : GZ) (x0 : Nat) (x1 : Nat) (P : AH → Prop) (hF : F_gJ1_addLast G S x0 x1 P) : MT G l yJ1_addLast cJ1_addLast 3 none 1 31 S.2.1 S.2.2 [.ref x0, .ref x1] S.1 (fun v h' => v = none ∧ P h') := by
  refine MT.mk (own := RJ1) (by decide) rfl hG (Nat.le_of_ble_eq_true rfl) ?_
  intro p e s m below meth c args Q hargs hQ C hname
  refine J.loca (L2 := [(0, .ref x0), (1, .ref x1)]) rfl ?_
  unfold F_gJ1_addLast at hF
  refine j_aload_n C dJ1_addLast_0 rfl 1 rfl ?_
  refine j_ifnonnull (tgt := 12) C dJ1_addLast_1 (by decide) ?_
  refine j_aload_n C dJ1_addLast_12 rfl 0 rfl ?_
  obtain ⟨v_16, hgd, hF⟩ := hF
  refine jg_get C (T := TJ1) (N := 3) rfl in_J1 0 (by decide) q211 rfl hgd dJ1_addLast_13 ?_
  refine j_astore_n (L2 := [(2, .ref v_16), (0, .ref x0), (1, .ref x1)]) C dJ1_addLast_16 rfl (by decide) rfl ?_
  refine j_aload_n C dJ1_addLast_17 rfl 0 rfl ?_
  refine j_aload_n C dJ1_addLast_18 rfl 1 rfl ?_
  obtain ⟨v_17, hgd, hF⟩ := hF
  refine jg_get C (T := TJ1) (N := 3) rfl in_J1 2 (by decide) q213 rfl hgd dJ1_addLast_19 ?_
  refine j_aload_n C dJ1_addLast_22 rfl 2 rfl ?_
  obtain ⟨n_18, f_19, hg1, hg2, hg3, hF⟩ := hF
  refine jg_aastC C hTab hm hg1 hg3 hg2 dJ1_addLast_23 ?_
  obtain ⟨S_20, eS_20, hF⟩ := nm_intro hF
  refine g_J eS_20 ?_
  refine j_aload_n C dJ1_addLast_24 rfl 1 rfl ?_
  obtain ⟨v_21, hgd, hF⟩ := hF
  refine jg_get C (T := TJ1) (N := 3) rfl in_J1 1 (by decide) q212 rfl hgd dJ1_addLast_25 ?_
  refine j_aload_n C dJ1_addLast_28 rfl 1 rfl ?_
  refine j_aload_n C dJ1_addLast_29 rfl 1 rfl ?_
  obtain ⟨v_22, hgd, hF⟩ := hF
  refine jg_get C (T := TJ1) (N := 3) rfl in_J1 2 (by decide) q213 rfl hgd dJ1_addLast_30 ?_
  refine j_aload_n C dJ1_addLast_33 rfl 0 rfl ?_
  obtain ⟨n_23, hgd, hF⟩ := hF
  refine jg_alen C hgd dJ1_addLast_34 ?_
  obtain ⟨c_24, s_25, hc1, hc2, hF⟩ := hF
  refine j_callS (n := 2) (As := [.int v_22, .int (Int32.ofNat n_23)]) (rest := [.ref x0, .int v_21]) C (M_gJ1_inc G l hG hTab hm (S_20.1, c_24, s_25) v_22 (Int32.ofNat n_23) _ hF) q538 ⟨q539, q96, q540, by decide +kernel⟩ rfl rfl (Nat.le_of_ble_eq_true rfl) ⟨Nat.le_of_ble_eq_true rfl, Nat.le_of_ble_eq_true rfl⟩ hc1 hc2 dJ1_addLast_35 (kk_i fun r_26 h_27 hF => ?_)
  obtain ⟨S_28, eS_28, hF⟩ := nm_intro hF
  refine g_J eS_28 ?_
  refine j_dup_x1 C dJ1_addLast_38 rfl rfl ?_
  obtain ⟨fs_29, hg1, hg2, hF⟩ := hF
  refine j_put C hm hg1 rfl in_J1 tyJ1 tyJ1_ok nmJ1 2 (by decide) q213 rfl rfl rfl rfl hg2 dJ1_addLast_39 ?_
  obtain ⟨S_30, eS_30, hF⟩ := nm_intro hF
  refine g_J eS_30 ?_
  refine j_icmp_ne (tgt := 50) C dJ1_addLast_42 (by decide) (fun hc_31 => ?_) (fun hc_31 => ?_)
  · replace hF := hF.2 hc_31
    rw [hQ]
    exact j_vret C ⟨rfl, hF⟩ dJ1_addLast_50
  · replace hF := hF.1 hc_31
    refine j_aload_n C dJ1_addLast_45 rfl 1 rfl ?_
    refine j_iconst (v := 1) C dJ1_addLast_46 rfl ?_
    exact hF.elim
def L_gJ1_circularClear_12 (G : GT) (P : AH → Prop) (f0 : Nat) (f2 : Int32) : Nat → GZ → Int32 → Int32 → Prop
  | 0, _, _, _ => False
  | n + 1, S, z1, z3 => (z3 ≤ z1 → (z3 = f2 → P S.1) ∧ (¬ z3 = f2 → L_gJ1_circularClear_12 G P f0 f2 n S 0 f2)) ∧ (¬ z3 ≤ z1 → ∃ (n_10 : Nat) (f_11 : Nat → Option Nat), S.1 f0 = some (.inl (G.2.2.1 7, n_10, .inr (.inr (.inr (.inr f_11))))) ∧ vp_in z1 n_10 ∧ (nm (α := GZ) (hup S.1 f0 (.inl (G.2.2.1 7, n_10, .inr (.inr (.inr (.inr (va_up f_11 (Int32.toNatClampNeg z1) none)))))), S.2.1, S.2.2) (fun S_12 => L_gJ1_circularClear_12 G P f0 f2 n S_12 (z1 + 1) z3)))
def F_gJ1_circularClear (G : GT) (S : GZ) (x0 : Nat) (x1 : Int32) (x2 : Int32) (P : AH → Prop) : Prop := jn (α := GZ → Int32 → Prop) (fun S_6 t_7 => L_gJ1_circularClear_12 G P x0 x2 NF S_6 x1 t_7) (fun K_5 => (x2 < x1 → ∃ n_14 : Nat, aL G S.1 x0 n_14 ∧ (K_5 S (Int32.ofNat n_14))) ∧ (¬ x2 < x1 → K_5 S x2))
set_option maxHeartbeats 4000000 in
theorem WL_gJ1_circularClear_12 {G : GT} {p : Program} {l : Launch} {e : Env} {s : State} {m : MethodId} {args : Array Value} {below : List Frame} {meth : Method} {c : Code} {Q : State → Prop} {c0 s0 : Nat} (C : Cx G p s m args meth c cJ1_circularClear RJ1 4 none) (hG : GOK G) (hTab : TabF G) (hm : FreeG G) (hname : meth.name = yJ1_circularClear.name) {P : AH → Prop} (hQ : Q = MQ below (SQ G (fun v h' => v = none ∧ P h')) args s (({ frames := 0, cells := c0, slots := s0, locals := 0 } : Room) : Room).cells (({ frames := 0, cells := c0, slots := s0, locals := 0 } : Room) : Room).slots (fun q => G.1 ≤ q)) {f0 : Nat} {f2 : Int32} :
    ∀ (n : Nat) (S : GZ) (z1 : Int32) (z3 : Int32), L_gJ1_circularClear_12 G P f0 f2 n S z1 z3 → J G p l e ({ frames := 0, cells := c0, slots := s0, locals := 0 } : Room) s m args below meth c 4 Q S.2.1 S.2.2 S.1 12 [(0, .ref f0), (1, .int z1), (2, .int f2), (3, .int z3)] [] := by
  intro n
  induction n with
  | zero => intro S z1 z3 hF; exact hF.elim
  | succ n ih =>
    intro S z1 z3 hF
    unfold L_gJ1_circularClear_12 at hF
    refine j_iload_n C dJ1_circularClear_12 rfl 1 rfl ?_
    refine j_iload_n C dJ1_circularClear_13 rfl 3 rfl ?_
    refine j_icmp_ge (tgt := 27) C dJ1_circularClear_14 (by decide) (fun hc_8 => ?_) (fun hc_8 => ?_)
    · replace hF := hF.1 hc_8
      refine j_iload_n C dJ1_circularClear_27 rfl 3 rfl ?_
      refine j_iload_n C dJ1_circularClear_28 rfl 2 rfl ?_
      refine j_icmp_ne (tgt := 35) C dJ1_circularClear_29 (by decide) (fun hc_9 => ?_) (fun hc_9 => ?_)
      · replace hF := hF.2 hc_9
        refine j_iconst (v := 0) C dJ1_circularClear_35 rfl ?_
        refine j_istore_n (L2 := [(1, .int 0), (0, .ref f0), (2, .int f2), (3, .int z3)]) C dJ1_circularClear_36 rfl (by decide) rfl ?_
        refine j_iload_n C dJ1_circularClear_37 rfl 2 rfl ?_
        refine j_istore_n (L2 := [(3, .int f2), (1, .int 0), (0, .ref f0), (2, .int f2)]) C dJ1_circularClear_38 rfl (by decide) rfl ?_
        refine j_goto (tgt := 12) C dJ1_circularClear_39 (by decide) ?_
        exact J.locals [2, 1, 3, 0] (ih _ _ _ hF) rfl
      · replace hF := hF.1 hc_9
        refine j_goto (tgt := 42) C dJ1_circularClear_32 (by decide) ?_
        rw [hQ]
        exact j_vret C ⟨rfl, hF⟩ dJ1_circularClear_42
    · replace hF := hF.2 hc_8
      refine j_aload_n C dJ1_circularClear_17 rfl 0 rfl ?_
      refine j_iload_n C dJ1_circularClear_18 rfl 1 rfl ?_
      refine j_null C dJ1_circularClear_19 ?_
      obtain ⟨n_10, f_11, hg1, hg2, hF⟩ := hF
      refine jg_aastN C hm hg1 rfl hg2 dJ1_circularClear_20 ?_
      obtain ⟨S_12, eS_12, hF⟩ := nm_intro hF
      refine g_J eS_12 ?_
      refine j_iinc (q := 1) (v := z1 + 1) (L2 := [(1, .int (z1 + 1)), (0, .ref f0), (2, .int f2), (3, .int z3)]) C dJ1_circularClear_21 rfl rfl (by decide) rfl ?_
      refine j_goto (tgt := 12) C dJ1_circularClear_24 (by decide) ?_
      exact J.locals [1, 0, 2, 3] (ih _ _ _ hF) rfl
set_option maxHeartbeats 4000000 in
theorem M_gJ1_circularClear (G : GT) (l : Launch) (hG : GOK G) (hTab : TabF G) (hm : FreeG G) (S : GZ) (x0 : Nat) (x1 : Int32) (x2 : Int32) (P : AH → Prop) (hF : F_gJ1_circularClear G S x0 x1 x2 P) : MT G l yJ1_circularClear cJ1_circularClear 4 none 0 0 S.2.1 S.2.2 [.ref x0, .int x1, .int x2] S.1 (fun v h' => v = none ∧ P h') := by
  refine MT.mk (own := RJ1) (by decide) rfl hG (Nat.le_of_ble_eq_true rfl) ?_
  intro p e s m below meth c args Q hargs hQ C hname
  refine J.loca (L2 := [(0, .ref x0), (1, .int x1), (2, .int x2)]) rfl ?_
  unfold F_gJ1_circularClear at hF
  refine j_iload_n C dJ1_circularClear_0 rfl 1 rfl ?_
  refine j_iload_n C dJ1_circularClear_1 rfl 2 rfl ?_
  obtain ⟨K_5, hK_5, hF⟩ := jn_intro (M := fun (K : GZ → Int32 → Prop) => ∀ (S_6 : GZ) (t_7 : Int32), K S_6 t_7 → J G p l e ({ frames := 0, cells := S.2.1, slots := S.2.2, locals := 0 } : Room) s m args below meth c 4 Q S_6.2.1 S_6.2.2 S_6.1 11 [(0, .ref x0), (1, .int x1), (2, .int x2)] [.int t_7]) (hk := by
      intro S_6 t_7 hF
      refine j_istore_n (L2 := [(3, .int t_7), (0, .ref x0), (1, .int x1), (2, .int x2)]) C dJ1_circularClear_11 rfl (by decide) rfl ?_
      refine J.locals [1, 2, 3, 0] (WL_gJ1_circularClear_12 C hG hTab hm hname hQ NF _ _ _ hF) rfl) hF
  refine j_icmp_gt (tgt := 9) C dJ1_circularClear_2 (by decide) (fun hc_13 => ?_) (fun hc_13 => ?_)
  · replace hF := hF.1 hc_13
    refine j_aload_n C dJ1_circularClear_9 rfl 0 rfl ?_
    obtain ⟨n_14, hgd, hF⟩ := hF
    refine jg_alen C hgd dJ1_circularClear_10 ?_
    exact J.locals [0, 1, 2] (hK_5 _ _ hF) rfl
  · replace hF := hF.2 hc_13
    refine j_iload_n C dJ1_circularClear_5 rfl 2 rfl ?_
    refine j_goto (tgt := 11) C dJ1_circularClear_6 (by decide) ?_
    exact J.locals [0, 1, 2] (hK_5 _ _ hF) rfl
def F_gJ1_clear (G : GT) (S : GZ) (x0 : Nat) (P : AH → Prop) : Prop := ∃ v_13 : Nat, aF G S.1 x0 11 0 (.ref v_13) ∧ (∃ v_14 : Int32, aF G S.1 x0 11 1 (.int v_14) ∧ (∃ v_15 : Int32, aF G S.1 x0 11 2 (.int v_15) ∧ (∃ c_16 s_17 : Nat, c_16 ≤ S.2.1 ∧ s_17 ≤ S.2.2 ∧ F_gJ1_circularClear G (S.1, c_16, s_17) v_13 v_14 v_15 (fun h_19 => nm (α := GZ) (h_19, S.2.1 - c_16, S.2.2 - s_17) (fun S_20 => ∃ fs_21 : List Value, S_20.1 x0 = some (.inr (11, fs_21)) ∧ 2 < fs_21.length ∧ (nm (α := GZ) (hup S_20.1 x0 (.inr (11, List.set fs_21 2 (.int 0))), S_20.2.1, S_20.2.2) (fun S_22 => ∃ fs_23 : List Value, S_22.1 x0 = some (.inr (11, fs_23)) ∧ 1 < fs_23.length ∧ (nm (α := GZ) (hup S_22.1 x0 (.inr (11, List.set fs_23 1 (.int 0))), S_22.2.1, S_22.2.2) (fun S_24 => P S_24.1)))))))))
set_option maxHeartbeats 4000000 in
theorem M_gJ1_clear (G : GT) (l : Launch) (hG : GOK G) (hTab : TabF G) (hm : FreeG G) (S : GZ) (x0 : Nat) (P : AH → Prop) (hF : F_gJ1_clear G S x0 P) : MT G l yJ1_clear cJ1_clear 1 none 1 33 S.2.1 S.2.2 [.ref x0] S.1 (fun v h' => v = none ∧ P h') := by
  refine MT.mk (own := RJ1) (by decide) rfl hG (Nat.le_of_ble_eq_true rfl) ?_
  intro p e s m below meth c args Q hargs hQ C hname
  refine J.loca (L2 := [(0, .ref x0)]) rfl ?_
  unfold F_gJ1_clear at hF
  refine j_aload_n C dJ1_clear_0 rfl 0 rfl ?_
  obtain ⟨v_13, hgd, hF⟩ := hF
  refine jg_get C (T := TJ1) (N := 3) rfl in_J1 0 (by decide) q211 rfl hgd dJ1_clear_1 ?_
  refine j_aload_n C dJ1_clear_4 rfl 0 rfl ?_
  obtain ⟨v_14, hgd, hF⟩ := hF
  refine jg_get C (T := TJ1) (N := 3) rfl in_J1 1 (by decide) q212 rfl hgd dJ1_clear_5 ?_
  refine j_aload_n C dJ1_clear_8 rfl 0 rfl ?_
  obtain ⟨v_15, hgd, hF⟩ := hF
  refine jg_get C (T := TJ1) (N := 3) rfl in_J1 2 (by decide) q213 rfl hgd dJ1_clear_9 ?_
  obtain ⟨c_16, s_17, hc1, hc2, hF⟩ := hF
  refine j_callS (n := 3) (As := [.ref v_13, .int v_14, .int v_15]) (rest := []) C (M_gJ1_circularClear G l hG hTab hm (S.1, c_16, s_17) v_13 v_14 v_15 _ hF) q1856 ⟨q1857, q96, q1858, by decide +kernel⟩ rfl rfl (Nat.le_of_ble_eq_true rfl) ⟨Nat.le_of_ble_eq_true rfl, Nat.le_of_ble_eq_true rfl⟩ hc1 hc2 dJ1_clear_12 (kk_v fun h_19 hF => ?_)
  obtain ⟨S_20, eS_20, hF⟩ := nm_intro hF
  refine g_J eS_20 ?_
  refine j_aload_n C dJ1_clear_15 rfl 0 rfl ?_
  refine j_aload_n C dJ1_clear_16 rfl 0 rfl ?_
  refine j_iconst (v := 0) C dJ1_clear_17 rfl ?_
  refine j_dup_x1 C dJ1_clear_18 rfl rfl ?_
  obtain ⟨fs_21, hg1, hg2, hF⟩ := hF
  refine j_put C hm hg1 rfl in_J1 tyJ1 tyJ1_ok nmJ1 2 (by decide) q213 rfl rfl rfl rfl hg2 dJ1_clear_19 ?_
  obtain ⟨S_22, eS_22, hF⟩ := nm_intro hF
  refine g_J eS_22 ?_
  obtain ⟨fs_23, hg1, hg2, hF⟩ := hF
  refine j_put C hm hg1 rfl in_J1 tyJ1 tyJ1_ok nmJ1 1 (by decide) q212 rfl rfl rfl rfl hg2 dJ1_clear_22 ?_
  obtain ⟨S_24, eS_24, hF⟩ := nm_intro hF
  refine g_J eS_24 ?_
  rw [hQ]
  exact j_vret C ⟨rfl, hF⟩ dJ1_clear_25
def F_gJ1_dec (G : GT) (S : GZ) (x0 : Int32) (x1 : Int32) (P : Int32 → AH → Prop) : Prop := (0 ≤ (x0 + (-1)) → P (x0 + (-1)) S.1) ∧ (¬ 0 ≤ (x0 + (-1)) → P (x1 - 1) S.1)
set_option maxHeartbeats 4000000 in
theorem M_gJ1_dec (G : GT) (l : Launch) (hG : GOK G) (hTab : TabF G) (hm : FreeG G) (S : GZ) (x0 : Int32) (x1 : Int32) (P : Int32 → AH → Prop) (hF : F_gJ1_dec G S x0 x1 P) : MT G l yJ1_dec cJ1_dec 2 (some Jvm.ClassFile.FieldType.int) 0 0 S.2.1 S.2.2 [.int x0, .int x1] S.1 (fun v h' => ∃ r : Int32, v = some (.int r) ∧ P r h') := by
  refine MT.mk (own := RJ1) (by decide) rfl hG (Nat.le_of_ble_eq_true rfl) ?_
  intro p e s m below meth c args Q hargs hQ C hname
  refine J.loca (L2 := [(0, .int x0), (1, .int x1)]) rfl ?_
  unfold F_gJ1_dec at hF
  refine j_iinc (q := 0) (v := x0 + (-1)) (L2 := [(0, .int (x0 + (-1))), (1, .int x1)]) C dJ1_dec_0 rfl rfl (by decide) rfl ?_
  refine j_iload_n C dJ1_dec_3 rfl 0 rfl ?_
  refine j_if_ge (tgt := 11) C dJ1_dec_4 (by decide) (fun hc_1 => ?_) (fun hc_1 => ?_)
  · replace hF := hF.1 hc_1
    refine j_iload_n C dJ1_dec_11 rfl 0 rfl ?_
    rw [hQ]
    exact j_iret C rfl ⟨_, rfl, hF⟩ dJ1_dec_12
  · replace hF := hF.2 hc_1
    refine j_iload_n C dJ1_dec_7 rfl 1 rfl ?_
    refine j_iconst (v := 1) C dJ1_dec_8 rfl ?_
    refine j_isub C dJ1_dec_9 ?_
    refine j_istore_n (L2 := [(0, .int (x1 - 1)), (1, .int x1)]) C dJ1_dec_10 rfl (by decide) rfl ?_
    refine j_iload_n C dJ1_dec_11 rfl 0 rfl ?_
    rw [hQ]
    exact j_iret C rfl ⟨_, rfl, hF⟩ dJ1_dec_12
def F_gJ1_elementAt (G : GT) (S : GZ) (x0 : Nat) (x1 : Int32) (P : Option Nat → AH → Prop) : Prop := ∃ (n_4 : Nat) (f_5 : Nat → Option Nat) (v_6 : Option Nat), aO G S.1 x0 n_4 f_5 ∧ vp_in x1 n_4 ∧ f_5 (Int32.toNatClampNeg x1) = v_6 ∧ (P v_6 S.1)
set_option maxHeartbeats 4000000 in
theorem M_gJ1_elementAt (G : GT) (l : Launch) (hG : GOK G) (hTab : TabF G) (hm : FreeG G) (S : GZ) (x0 : Nat) (x1 : Int32) (P : Option Nat → AH → Prop) (hF : F_gJ1_elementAt G S x0 x1 P) : MT G l yJ1_elementAt cJ1_elementAt 2 (some (Jvm.ClassFile.FieldType.object "java/lang/Object")) 0 0 S.2.1 S.2.2 [.ref x0, .int x1] S.1 (fun v h' => ∃ r : Option Nat, v = some (va_rf r) ∧ P r h') := by
  refine MT.mk (own := RJ1) (by decide) rfl hG (Nat.le_of_ble_eq_true rfl) ?_
  intro p e s m below meth c args Q hargs hQ C hname
  refine J.loca (L2 := [(0, .ref x0), (1, .int x1)]) rfl ?_
  unfold F_gJ1_elementAt at hF
  refine j_aload_n C dJ1_elementAt_0 rfl 0 rfl ?_
  refine j_iload_n C dJ1_elementAt_1 rfl 1 rfl ?_
  obtain ⟨n_4, f_5, v_6, hg1, hg2, hg3, hF⟩ := hF
  refine jg_aald C hg1 hg2 dJ1_elementAt_2 ?_
  rw [hg3]
  rw [hQ]
  exact j_aret C (Or.inl ⟨_, rfl⟩) (g_rfv v_6) ⟨_, rfl, hF⟩ dJ1_elementAt_3
def F_gJ1_init (G : GT) (S : GZ) (x0 : Nat) (P : AH → Prop) : Prop := ∃ c_10 s_11 : Nat, c_10 ≤ S.2.1 ∧ s_11 ≤ S.2.2 ∧ F_gJ0_init G (S.1, c_10, s_11) x0 (fun h_13 => nm (α := GZ) (h_13, S.2.1 - c_10, S.2.2 - s_11) (fun S_14 => ¬ (17 : Int32) < 0 ∧ 1 ≤ S_14.2.1 ∧ Int32.toNatClampNeg 17 ≤ S_14.2.2 ∧ Int32.toNatClampNeg 17 * 4 ≤ 536870912 ∧ ∀ q_15 : Nat, S_14.1 q_15 = none → G.1 ≤ q_15 → (nm (α := GZ) (hup S_14.1 q_15 (.inl (G.2.2.1 7, Int32.toNatClampNeg 17, .inr (.inr (.inr (.inr (fun _ => none)))))), S_14.2.1 - 1, S_14.2.2 - Int32.toNatClampNeg 17) (fun S_16 => ∃ fs_17 : List Value, S_16.1 x0 = some (.inr (11, fs_17)) ∧ 0 < fs_17.length ∧ (nm (α := GZ) (hup S_16.1 x0 (.inr (11, List.set fs_17 0 (.ref q_15))), S_16.2.1, S_16.2.2) (fun S_18 => P S_18.1))))))
set_option maxHeartbeats 4000000 in
theorem M_gJ1_init (G : GT) (l : Launch) (hG : GOK G) (hTab : TabF G) (hm : FreeG G) (S : GZ) (x0 : Nat) (P : AH → Prop) (hF : F_gJ1_init G S x0 P) : MT G l yJ1_init cJ1_init 1 none 2 60 S.2.1 S.2.2 [.ref x0] S.1 (fun v h' => v = none ∧ P h') := by
  refine MT.mk (own := RJ1) (by decide) rfl hG (Nat.le_of_ble_eq_true rfl) ?_
  intro p e s m below meth c args Q hargs hQ C hname
  refine J.loca (L2 := [(0, .ref x0)]) rfl ?_
  unfold F_gJ1_init at hF
  refine j_aload_n C dJ1_init_0 rfl 0 rfl ?_
  obtain ⟨c_10, s_11, hc1, hc2, hF⟩ := hF
  refine j_callI (n := 0) (As := []) (rest := []) C (M_gJ0_init G l hG hTab hm (S.1, c_10, s_11) x0 _ hF) q205 ⟨q206, q95, q207, rfl, by decide +kernel⟩ rfl rfl (Nat.le_of_ble_eq_true rfl) ⟨Nat.le_of_ble_eq_true rfl, Nat.le_of_ble_eq_true rfl⟩ hc1 hc2 dJ1_init_1 (kk_v fun h_13 hF => ?_)
  obtain ⟨S_14, eS_14, hF⟩ := nm_intro hF
  refine g_J eS_14 ?_
  refine j_aload_n C dJ1_init_4 rfl 0 rfl ?_
  refine j_bipush (v := 17) C dJ1_init_5 rfl ?_
  obtain ⟨hg1, hg2, hg3, hg4, hF⟩ := hF
  refine jg_newq C hm (d := 7) q209 (C.tab hTab q210 rfl) (fun _ => rfl) hg1 rfl hg4 (bc' := S_14.2.1 - 1) (bs' := S_14.2.2 - Int32.toNatClampNeg 17) (by omega) (by omega) dJ1_init_7 (fun q_15 hq1 hq2 => ?_)
  replace hF := hF q_15 hq1 hq2
  obtain ⟨S_16, eS_16, hF⟩ := nm_intro hF
  refine g_J eS_16 ?_
  obtain ⟨fs_17, hg1, hg2, hF⟩ := hF
  refine j_put C hm hg1 rfl in_J1 tyJ1 tyJ1_ok nmJ1 0 (by decide) q211 rfl rfl rfl rfl hg2 dJ1_init_10 ?_
  obtain ⟨S_18, eS_18, hF⟩ := nm_intro hF
  refine g_J eS_18 ?_
  rw [hQ]
  exact j_vret C ⟨rfl, hF⟩ dJ1_init_13
def F_gJ1_isEmpty (G : GT) (S : GZ) (x0 : Nat) (P : Int32 → AH → Prop) : Prop := ∃ v_3 : Int32, aF G S.1 x0 11 1 (.int v_3) ∧ (∃ v_4 : Int32, aF G S.1 x0 11 2 (.int v_4) ∧ ((v_3 = v_4 → P 1 S.1) ∧ (¬ v_3 = v_4 → P 0 S.1)))
set_option maxHeartbeats 4000000 in
theorem M_gJ1_isEmpty (G : GT) (l : Launch) (hG : GOK G) (hTab : TabF G) (hm : FreeG G) (S : GZ) (x0 : Nat) (P : Int32 → AH → Prop) (hF : F_gJ1_isEmpty G S x0 P) : MT G l yJ1_isEmpty cJ1_isEmpty 1 (some Jvm.ClassFile.FieldType.boolean) 0 0 S.2.1 S.2.2 [.ref x0] S.1 (fun v h' => ∃ r : Int32, v = some (.int r) ∧ P r h') := by
  refine MT.mk (own := RJ1) (by decide) rfl hG (Nat.le_of_ble_eq_true rfl) ?_
  intro p e s m below meth c args Q hargs hQ C hname
  refine J.loca (L2 := [(0, .ref x0)]) rfl ?_
  unfold F_gJ1_isEmpty at hF
  refine j_aload_n C dJ1_isEmpty_0 rfl 0 rfl ?_
  obtain ⟨v_3, hgd, hF⟩ := hF
  refine jg_get C (T := TJ1) (N := 3) rfl in_J1 1 (by decide) q212 rfl hgd dJ1_isEmpty_1 ?_
  refine j_aload_n C dJ1_isEmpty_4 rfl 0 rfl ?_
  obtain ⟨v_4, hgd, hF⟩ := hF
  refine jg_get C (T := TJ1) (N := 3) rfl in_J1 2 (by decide) q213 rfl hgd dJ1_isEmpty_5 ?_
  refine j_icmp_ne (tgt := 15) C dJ1_isEmpty_8 (by decide) (fun hc_5 => ?_) (fun hc_5 => ?_)
  · replace hF := hF.2 hc_5
    refine j_iconst (v := 0) C dJ1_isEmpty_15 rfl ?_
    rw [hQ]
    exact j_iret C rfl ⟨_, rfl, hF⟩ dJ1_isEmpty_16
  · replace hF := hF.1 hc_5
    refine j_iconst (v := 1) C dJ1_isEmpty_11 rfl ?_
    refine j_goto (tgt := 16) C dJ1_isEmpty_12 (by decide) ?_
    rw [hQ]
    exact j_iret C rfl ⟨_, rfl, hF⟩ dJ1_isEmpty_16
def F_gJ1_pollFirst (G : GT) (S : GZ) (x0 : Nat) (P : Option Nat → AH → Prop) : Prop := ∃ v_20 : Nat, aF G S.1 x0 11 0 (.ref v_20) ∧ (∃ v_21 : Int32, aF G S.1 x0 11 1 (.int v_21) ∧ (∃ c_22 s_23 : Nat, c_22 ≤ S.2.1 ∧ s_23 ≤ S.2.2 ∧ F_gJ1_elementAt G (S.1, c_22, s_23) v_20 v_21 (fun r_24 h_25 => nm (α := GZ) (h_25, S.2.1 - c_22, S.2.2 - s_23) (fun S_26 => (r_24 = none → P none S_26.1) ∧ (∀ p_27 : Nat, r_24 = some p_27 → ∃ (n_29 : Nat) (f_30 : Nat → Option Nat), S_26.1 v_20 = some (.inl (G.2.2.1 7, n_29, .inr (.inr (.inr (.inr f_30))))) ∧ vp_in v_21 n_29 ∧ (nm (α := GZ) (hup S_26.1 v_20 (.inl (G.2.2.1 7, n_29, .inr (.inr (.inr (.inr (va_up f_30 (Int32.toNatClampNeg v_21) none)))))), S_26.2.1, S_26.2.2) (fun S_31 => ∃ n_32 : Nat, aL G S_31.1 v_20 n_32 ∧ (∃ c_33 s_34 : Nat, c_33 ≤ S_31.2.1 ∧ s_34 ≤ S_31.2.2 ∧ F_gJ1_inc G (S_31.1, c_33, s_34) v_21 (Int32.ofNat n_32) (fun r_35 h_36 => nm (α := GZ) (h_36, S_31.2.1 - c_33, S_31.2.2 - s_34) (fun S_37 => ∃ fs_38 : List Value, S_37.1 x0 = some (.inr (11, fs_38)) ∧ 1 < fs_38.length ∧ (nm (α := GZ) (hup S_37.1 x0 (.inr (11, List.set fs_38 1 (.int r_35))), S_37.2.1, S_37.2.2) (fun S_39 => P (some p_27) S_39.1))))))))))))
set_option maxHeartbeats 4000000 in
theorem M_gJ1_pollFirst (G : GT) (l : Launch) (hG : GOK G) (hTab : TabF G) (hm : FreeG G) (S : GZ) (x0 : Nat) (P : Option Nat → AH → Prop) (hF : F_gJ1_pollFirst G S x0 P) : MT G l yJ1_pollFirst cJ1_pollFirst 4 (some (Jvm.ClassFile.FieldType.object "java/lang/Object")) 1 31 S.2.1 S.2.2 [.ref x0] S.1 (fun v h' => ∃ r : Option Nat, v = some (va_rf r) ∧ P r h') := by
  refine MT.mk (own := RJ1) (by decide) rfl hG (Nat.le_of_ble_eq_true rfl) ?_
  intro p e s m below meth c args Q hargs hQ C hname
  refine J.loca (L2 := [(0, .ref x0)]) rfl ?_
  unfold F_gJ1_pollFirst at hF
  refine j_aload_n C dJ1_pollFirst_0 rfl 0 rfl ?_
  obtain ⟨v_20, hgd, hF⟩ := hF
  refine jg_get C (T := TJ1) (N := 3) rfl in_J1 0 (by decide) q211 rfl hgd dJ1_pollFirst_1 ?_
  refine j_dup C dJ1_pollFirst_4 rfl ?_
  refine j_astore_n (L2 := [(1, .ref v_20), (0, .ref x0)]) C dJ1_pollFirst_5 rfl (by decide) rfl ?_
  refine j_aload_n C dJ1_pollFirst_6 rfl 1 rfl ?_
  obtain ⟨v_21, hgd, hF⟩ := hF
  refine jg_get C (T := TJ1) (N := 3) rfl in_J1 1 (by decide) q212 rfl hgd dJ1_pollFirst_7 ?_
  refine j_dup C dJ1_pollFirst_10 rfl ?_
  refine j_istore_n (L2 := [(2, .int v_21), (1, .ref v_20), (0, .ref x0)]) C dJ1_pollFirst_11 rfl (by decide) rfl ?_
  obtain ⟨c_22, s_23, hc1, hc2, hF⟩ := hF
  refine j_callS (n := 2) (As := [.ref v_20, .int v_21]) (rest := []) C (M_gJ1_elementAt G l hG hTab hm (S.1, c_22, s_23) v_20 v_21 _ hF) q535 ⟨q536, q96, q537, by decide +kernel⟩ rfl rfl (Nat.le_of_ble_eq_true rfl) ⟨Nat.le_of_ble_eq_true rfl, Nat.le_of_ble_eq_true rfl⟩ hc1 hc2 dJ1_pollFirst_12 (kk_o fun r_24 h_25 hF => ?_)
  obtain ⟨S_26, eS_26, hF⟩ := nm_intro hF
  refine g_J eS_26 ?_
  refine jg_astore_n (x := r_24) (L2 := [(3, va_rf r_24), (2, .int v_21), (1, .ref v_20), (0, .ref x0)]) C dJ1_pollFirst_15 rfl (by decide) rfl ?_
  refine jg_aload_n (x := r_24) C dJ1_pollFirst_16 rfl 0 rfl ?_
  refine jg_ifnull (x := r_24) (tgt := 34) C dJ1_pollFirst_17 (by decide) (fun hc_28 => ?_) (fun p_27 hc_28 => ?_)
  · replace hF := hF.1 hc_28
    try rw [hc_28]
    refine jg_aload_n (x := none) C dJ1_pollFirst_34 rfl 0 rfl ?_
    rw [hQ]
    exact j_aret C (Or.inl ⟨_, rfl⟩) (g_rfv none) ⟨_, rfl, hF⟩ dJ1_pollFirst_35
  · replace hF := hF.2 p_27 hc_28
    try rw [hc_28]
    refine j_aload_n C dJ1_pollFirst_20 rfl 2 rfl ?_
    refine j_iload_n C dJ1_pollFirst_21 rfl 1 rfl ?_
    refine j_null C dJ1_pollFirst_22 ?_
    obtain ⟨n_29, f_30, hg1, hg2, hF⟩ := hF
    refine jg_aastN C hm hg1 rfl hg2 dJ1_pollFirst_23 ?_
    obtain ⟨S_31, eS_31, hF⟩ := nm_intro hF
    refine g_J eS_31 ?_
    refine j_aload_n C dJ1_pollFirst_24 rfl 3 rfl ?_
    refine j_iload_n C dJ1_pollFirst_25 rfl 1 rfl ?_
    refine j_aload_n C dJ1_pollFirst_26 rfl 2 rfl ?_
    obtain ⟨n_32, hgd, hF⟩ := hF
    refine jg_alen C hgd dJ1_pollFirst_27 ?_
    obtain ⟨c_33, s_34, hc1, hc2, hF⟩ := hF
    refine j_callS (n := 2) (As := [.int v_21, .int (Int32.ofNat n_32)]) (rest := [.ref x0]) C (M_gJ1_inc G l hG hTab hm (S_31.1, c_33, s_34) v_21 (Int32.ofNat n_32) _ hF) q538 ⟨q539, q96, q540, by decide +kernel⟩ rfl rfl (Nat.le_of_ble_eq_true rfl) ⟨Nat.le_of_ble_eq_true rfl, Nat.le_of_ble_eq_true rfl⟩ hc1 hc2 dJ1_pollFirst_28 (kk_i fun r_35 h_36 hF => ?_)
    obtain ⟨S_37, eS_37, hF⟩ := nm_intro hF
    refine g_J eS_37 ?_
    obtain ⟨fs_38, hg1, hg2, hF⟩ := hF
    refine j_put C hm hg1 rfl in_J1 tyJ1 tyJ1_ok nmJ1 1 (by decide) q212 rfl rfl rfl rfl hg2 dJ1_pollFirst_31 ?_
    obtain ⟨S_39, eS_39, hF⟩ := nm_intro hF
    refine g_J eS_39 ?_
    refine j_aload_n C dJ1_pollFirst_34 rfl 0 rfl ?_
    rw [hQ]
    exact j_aret C (Or.inl ⟨_, rfl⟩) (g_rfv (some p_27)) ⟨_, rfl, hF⟩ dJ1_pollFirst_35
def F_gJ1_pollLast (G : GT) (S : GZ) (x0 : Nat) (P : Option Nat → AH → Prop) : Prop := ∃ v_20 : Nat, aF G S.1 x0 11 0 (.ref v_20) ∧ (∃ v_21 : Int32, aF G S.1 x0 11 2 (.int v_21) ∧ (∃ n_22 : Nat, aL G S.1 v_20 n_22 ∧ (∃ c_23 s_24 : Nat, c_23 ≤ S.2.1 ∧ s_24 ≤ S.2.2 ∧ F_gJ1_dec G (S.1, c_23, s_24) v_21 (Int32.ofNat n_22) (fun r_25 h_26 => nm (α := GZ) (h_26, S.2.1 - c_23, S.2.2 - s_24) (fun S_27 => ∃ c_28 s_29 : Nat, c_28 ≤ S_27.2.1 ∧ s_29 ≤ S_27.2.2 ∧ F_gJ1_elementAt G (S_27.1, c_28, s_29) v_20 r_25 (fun r_30 h_31 => nm (α := GZ) (h_31, S_27.2.1 - c_28, S_27.2.2 - s_29) (fun S_32 => (r_30 = none → P none S_32.1) ∧ (∀ p_33 : Nat, r_30 = some p_33 → ∃ fs_35 : List Value, S_32.1 x0 = some (.inr (11, fs_35)) ∧ 2 < fs_35.length ∧ (nm (α := GZ) (hup S_32.1 x0 (.inr (11, List.set fs_35 2 (.int r_25))), S_32.2.1, S_32.2.2) (fun S_36 => ∃ (n_37 : Nat) (f_38 : Nat → Option Nat), S_36.1 v_20 = some (.inl (G.2.2.1 7, n_37, .inr (.inr (.inr (.inr f_38))))) ∧ vp_in r_25 n_37 ∧ (nm (α := GZ) (hup S_36.1 v_20 (.inl (G.2.2.1 7, n_37, .inr (.inr (.inr (.inr (va_up f_38 (Int32.toNatClampNeg r_25) none)))))), S_36.2.1, S_36.2.2) (fun S_39 => P (some p_33) S_39.1))))))))))))
set_option maxHeartbeats 4000000 in
theorem M_gJ1_pollLast (G : GT) (l : Launch) (hG : GOK G) (hTab : TabF G) (hm : FreeG G) (S : GZ) (x0 : Nat) (P : Option Nat → AH → Prop) (hF : F_gJ1_pollLast G S x0 P) : MT G l yJ1_pollLast cJ1_pollLast 4 (some (Jvm.ClassFile.FieldType.object "java/lang/Object")) 1 31 S.2.1 S.2.2 [.ref x0] S.1 (fun v h' => ∃ r : Option Nat, v = some (va_rf r) ∧ P r h') := by
  refine MT.mk (own := RJ1) (by decide) rfl hG (Nat.le_of_ble_eq_true rfl) ?_
  intro p e s m below meth c args Q hargs hQ C hname
  refine J.loca (L2 := [(0, .ref x0)]) rfl ?_
  unfold F_gJ1_pollLast at hF
  refine j_aload_n C dJ1_pollLast_0 rfl 0 rfl ?_
  obtain ⟨v_20, hgd, hF⟩ := hF
  refine jg_get C (T := TJ1) (N := 3) rfl in_J1 0 (by decide) q211 rfl hgd dJ1_pollLast_1 ?_
  refine j_dup C dJ1_pollLast_4 rfl ?_
  refine j_astore_n (L2 := [(1, .ref v_20), (0, .ref x0)]) C dJ1_pollLast_5 rfl (by decide) rfl ?_
  refine j_aload_n C dJ1_pollLast_6 rfl 1 rfl ?_
  obtain ⟨v_21, hgd, hF⟩ := hF
  refine jg_get C (T := TJ1) (N := 3) rfl in_J1 2 (by decide) q213 rfl hgd dJ1_pollLast_7 ?_
  refine j_aload_n C dJ1_pollLast_10 rfl 0 rfl ?_
  obtain ⟨n_22, hgd, hF⟩ := hF
  refine jg_alen C hgd dJ1_pollLast_11 ?_
  obtain ⟨c_23, s_24, hc1, hc2, hF⟩ := hF
  refine j_callS (n := 2) (As := [.int v_21, .int (Int32.ofNat n_22)]) (rest := [.ref v_20]) C (M_gJ1_dec G l hG hTab hm (S.1, c_23, s_24) v_21 (Int32.ofNat n_22) _ hF) q1838 ⟨q1839, q96, q1840, by decide +kernel⟩ rfl rfl (Nat.le_of_ble_eq_true rfl) ⟨Nat.le_of_ble_eq_true rfl, Nat.le_of_ble_eq_true rfl⟩ hc1 hc2 dJ1_pollLast_12 (kk_i fun r_25 h_26 hF => ?_)
  obtain ⟨S_27, eS_27, hF⟩ := nm_intro hF
  refine g_J eS_27 ?_
  refine j_dup C dJ1_pollLast_15 rfl ?_
  refine j_istore_n (L2 := [(2, .int r_25), (1, .ref v_20), (0, .ref x0)]) C dJ1_pollLast_16 rfl (by decide) rfl ?_
  obtain ⟨c_28, s_29, hc1, hc2, hF⟩ := hF
  refine j_callS (n := 2) (As := [.ref v_20, .int r_25]) (rest := []) C (M_gJ1_elementAt G l hG hTab hm (S_27.1, c_28, s_29) v_20 r_25 _ hF) q535 ⟨q536, q96, q537, by decide +kernel⟩ rfl rfl (Nat.le_of_ble_eq_true rfl) ⟨Nat.le_of_ble_eq_true rfl, Nat.le_of_ble_eq_true rfl⟩ hc1 hc2 dJ1_pollLast_17 (kk_o fun r_30 h_31 hF => ?_)
  obtain ⟨S_32, eS_32, hF⟩ := nm_intro hF
  refine g_J eS_32 ?_
  refine jg_astore_n (x := r_30) (L2 := [(3, va_rf r_30), (2, .int r_25), (1, .ref v_20), (0, .ref x0)]) C dJ1_pollLast_20 rfl (by decide) rfl ?_
  refine jg_aload_n (x := r_30) C dJ1_pollLast_21 rfl 0 rfl ?_
  refine jg_ifnull (x := r_30) (tgt := 34) C dJ1_pollLast_22 (by decide) (fun hc_34 => ?_) (fun p_33 hc_34 => ?_)
  · replace hF := hF.1 hc_34
    try rw [hc_34]
    refine jg_aload_n (x := none) C dJ1_pollLast_34 rfl 0 rfl ?_
    rw [hQ]
    exact j_aret C (Or.inl ⟨_, rfl⟩) (g_rfv none) ⟨_, rfl, hF⟩ dJ1_pollLast_35
  · replace hF := hF.2 p_33 hc_34
    try rw [hc_34]
    refine j_aload_n C dJ1_pollLast_25 rfl 2 rfl ?_
    refine j_aload_n C dJ1_pollLast_26 rfl 3 rfl ?_
    refine j_iload_n C dJ1_pollLast_27 rfl 1 rfl ?_
    refine j_dup_x1 C dJ1_pollLast_28 rfl rfl ?_
    obtain ⟨fs_35, hg1, hg2, hF⟩ := hF
    refine j_put C hm hg1 rfl in_J1 tyJ1 tyJ1_ok nmJ1 2 (by decide) q213 rfl rfl rfl rfl hg2 dJ1_pollLast_29 ?_
    obtain ⟨S_36, eS_36, hF⟩ := nm_intro hF
    refine g_J eS_36 ?_
    refine j_null C dJ1_pollLast_32 ?_
    obtain ⟨n_37, f_38, hg1, hg2, hF⟩ := hF
    refine jg_aastN C hm hg1 rfl hg2 dJ1_pollLast_33 ?_
    obtain ⟨S_39, eS_39, hF⟩ := nm_intro hF
    refine g_J eS_39 ?_
    refine j_aload_n C dJ1_pollLast_34 rfl 0 rfl ?_
    rw [hQ]
    exact j_aret C (Or.inl ⟨_, rfl⟩) (g_rfv (some p_33)) ⟨_, rfl, hF⟩ dJ1_pollLast_35
def F_gJ1_removeFirst (G : GT) (S : GZ) (x0 : Nat) (P : Nat → AH → Prop) : Prop := aC G S.1 x0 11 ∧ ∃ c_7 s_8 : Nat, c_7 ≤ S.2.1 ∧ s_8 ≤ S.2.2 ∧ F_gJ1_pollFirst G (S.1, c_7, s_8) x0 (fun r_9 h_10 => nm (α := GZ) (h_10, S.2.1 - c_7, S.2.2 - s_8) (fun S_11 => (r_9 = none → False) ∧ (∀ p_12 : Nat, r_9 = some p_12 → P p_12 S_11.1)))
set_option maxHeartbeats 4000000 in
theorem M_gJ1_removeFirst (G : GT) (l : Launch) (hG : GOK G) (hTab : TabF G) (hm : FreeG G) (S : GZ) (x0 : Nat) (P : Nat → AH → Prop) (hF : F_gJ1_removeFirst G S x0 P) : MT G l yJ1_removeFirst cJ1_removeFirst 2 (some (Jvm.ClassFile.FieldType.object "java/lang/Object")) 2 64 S.2.1 S.2.2 [.ref x0] S.1 (fun v h' => ∃ r : Nat, v = some (.ref r) ∧ P r h') := by
  refine MT.mk (own := RJ1) (by decide) rfl hG (Nat.le_of_ble_eq_true rfl) ?_
  intro p e s m below meth c args Q hargs hQ C hname
  refine J.loca (L2 := [(0, .ref x0)]) rfl ?_
  unfold F_gJ1_removeFirst at hF
  refine j_aload_n C dJ1_removeFirst_0 rfl 0 rfl ?_
  obtain ⟨hrc, hF⟩ := hF
  obtain ⟨c_7, s_8, hc1, hc2, hF⟩ := hF
  refine jg_callV (n := 0) (As := []) (rest := []) C (M_gJ1_pollFirst G l hG hTab hm (S.1, c_7, s_8) x0 _ hF) q531 ⟨q532, q533, q96, q534, by decide +kernel⟩ rfl hrc rfl rfl (Nat.le_of_ble_eq_true rfl) ⟨Nat.le_of_ble_eq_true rfl, Nat.le_of_ble_eq_true rfl⟩ hc1 hc2 dJ1_removeFirst_1 (kk_o fun r_9 h_10 hF => ?_)
  obtain ⟨S_11, eS_11, hF⟩ := nm_intro hF
  refine g_J eS_11 ?_
  refine jg_astore_n (x := r_9) (L2 := [(1, va_rf r_9), (0, .ref x0)]) C dJ1_removeFirst_4 rfl (by decide) rfl ?_
  refine jg_aload_n (x := r_9) C dJ1_removeFirst_5 rfl 0 rfl ?_
  refine jg_ifnonnull (x := r_9) (tgt := 17) C dJ1_removeFirst_6 (by decide) (fun p_12 hc_13 => ?_) (fun hc_13 => ?_)
  · replace hF := hF.2 p_12 hc_13
    try rw [hc_13]
    refine j_aload_n C dJ1_removeFirst_17 rfl 0 rfl ?_
    rw [hQ]
    exact j_aret C (Or.inl ⟨_, rfl⟩) (Or.inr ⟨_, rfl⟩) ⟨_, rfl, hF⟩ dJ1_removeFirst_18
  · replace hF := hF.1 hc_13
    try rw [hc_13]
    exact hF.elim
def F_gJ1_removeLast (G : GT) (S : GZ) (x0 : Nat) (P : Nat → AH → Prop) : Prop := aC G S.1 x0 11 ∧ ∃ c_7 s_8 : Nat, c_7 ≤ S.2.1 ∧ s_8 ≤ S.2.2 ∧ F_gJ1_pollLast G (S.1, c_7, s_8) x0 (fun r_9 h_10 => nm (α := GZ) (h_10, S.2.1 - c_7, S.2.2 - s_8) (fun S_11 => (r_9 = none → False) ∧ (∀ p_12 : Nat, r_9 = some p_12 → P p_12 S_11.1)))
set_option maxHeartbeats 4000000 in
theorem M_gJ1_removeLast (G : GT) (l : Launch) (hG : GOK G) (hTab : TabF G) (hm : FreeG G) (S : GZ) (x0 : Nat) (P : Nat → AH → Prop) (hF : F_gJ1_removeLast G S x0 P) : MT G l yJ1_removeLast cJ1_removeLast 2 (some (Jvm.ClassFile.FieldType.object "java/lang/Object")) 2 64 S.2.1 S.2.2 [.ref x0] S.1 (fun v h' => ∃ r : Nat, v = some (.ref r) ∧ P r h') := by
  refine MT.mk (own := RJ1) (by decide) rfl hG (Nat.le_of_ble_eq_true rfl) ?_
  intro p e s m below meth c args Q hargs hQ C hname
  refine J.loca (L2 := [(0, .ref x0)]) rfl ?_
  unfold F_gJ1_removeLast at hF
  refine j_aload_n C dJ1_removeLast_0 rfl 0 rfl ?_
  obtain ⟨hrc, hF⟩ := hF
  obtain ⟨c_7, s_8, hc1, hc2, hF⟩ := hF
  refine jg_callV (n := 0) (As := []) (rest := []) C (M_gJ1_pollLast G l hG hTab hm (S.1, c_7, s_8) x0 _ hF) q1834 ⟨q1835, q1836, q96, q1837, by decide +kernel⟩ rfl hrc rfl rfl (Nat.le_of_ble_eq_true rfl) ⟨Nat.le_of_ble_eq_true rfl, Nat.le_of_ble_eq_true rfl⟩ hc1 hc2 dJ1_removeLast_1 (kk_o fun r_9 h_10 hF => ?_)
  obtain ⟨S_11, eS_11, hF⟩ := nm_intro hF
  refine g_J eS_11 ?_
  refine jg_astore_n (x := r_9) (L2 := [(1, va_rf r_9), (0, .ref x0)]) C dJ1_removeLast_4 rfl (by decide) rfl ?_
  refine jg_aload_n (x := r_9) C dJ1_removeLast_5 rfl 0 rfl ?_
  refine jg_ifnonnull (x := r_9) (tgt := 17) C dJ1_removeLast_6 (by decide) (fun p_12 hc_13 => ?_) (fun hc_13 => ?_)
  · replace hF := hF.2 p_12 hc_13
    try rw [hc_13]
    refine j_aload_n C dJ1_removeLast_17 rfl 0 rfl ?_
    rw [hQ]
    exact j_aret C (Or.inl ⟨_, rfl⟩) (Or.inr ⟨_, rfl⟩) ⟨_, rfl, hF⟩ dJ1_removeLast_18
  · replace hF := hF.1 hc_13
    try rw [hc_13]
    exact hF.elim
def F_gJ1_sub (G : GT) (S : GZ) (x0 : Int32) (x1 : Int32) (x2 : Int32) (P : Int32 → AH → Prop) : Prop := (0 ≤ (x0 - x1) → P (x0 - x1) S.1) ∧ (¬ 0 ≤ (x0 - x1) → P ((x0 - x1) + x2) S.1)
set_option maxHeartbeats 4000000 in
theorem M_gJ1_sub (G : GT) (l : Launch) (hG : GOK G) (hTab : TabF G) (hm : FreeG G) (S : GZ) (x0 : Int32) (x1 : Int32) (x2 : Int32) (P : Int32 → AH → Prop) (hF : F_gJ1_sub G S x0 x1 x2 P) : MT G l yJ1_sub cJ1_sub 3 (some Jvm.ClassFile.FieldType.int) 0 0 S.2.1 S.2.2 [.int x0, .int x1, .int x2] S.1 (fun v h' => ∃ r : Int32, v = some (.int r) ∧ P r h') := by
  refine MT.mk (own := RJ1) (by decide) rfl hG (Nat.le_of_ble_eq_true rfl) ?_
  intro p e s m below meth c args Q hargs hQ C hname
  refine J.loca (L2 := [(0, .int x0), (1, .int x1), (2, .int x2)]) rfl ?_
  unfold F_gJ1_sub at hF
  refine j_iload_n C dJ1_sub_0 rfl 0 rfl ?_
  refine j_iload_n C dJ1_sub_1 rfl 1 rfl ?_
  refine j_isub C dJ1_sub_2 ?_
  refine j_dup C dJ1_sub_3 rfl ?_
  refine j_istore_n (L2 := [(0, .int (x0 - x1)), (1, .int x1), (2, .int x2)]) C dJ1_sub_4 rfl (by decide) rfl ?_
  refine j_if_ge (tgt := 12) C dJ1_sub_5 (by decide) (fun hc_1 => ?_) (fun hc_1 => ?_)
  · replace hF := hF.1 hc_1
    refine j_iload_n C dJ1_sub_12 rfl 0 rfl ?_
    rw [hQ]
    exact j_iret C rfl ⟨_, rfl, hF⟩ dJ1_sub_13
  · replace hF := hF.2 hc_1
    refine j_iload_n C dJ1_sub_8 rfl 0 rfl ?_
    refine j_iload_n C dJ1_sub_9 rfl 2 rfl ?_
    refine j_iadd C dJ1_sub_10 ?_
    refine j_istore_n (L2 := [(0, .int ((x0 - x1) + x2)), (1, .int x1), (2, .int x2)]) C dJ1_sub_11 rfl (by decide) rfl ?_
    refine j_iload_n C dJ1_sub_12 rfl 0 rfl ?_
    rw [hQ]
    exact j_iret C rfl ⟨_, rfl, hF⟩ dJ1_sub_13
def F_gJ1_size (G : GT) (S : GZ) (x0 : Nat) (P : Int32 → AH → Prop) : Prop := ∃ v_10 : Int32, aF G S.1 x0 11 2 (.int v_10) ∧ (∃ v_11 : Int32, aF G S.1 x0 11 1 (.int v_11) ∧ (∃ v_12 : Nat, aF G S.1 x0 11 0 (.ref v_12) ∧ (∃ n_13 : Nat, aL G S.1 v_12 n_13 ∧ (∃ c_14 s_15 : Nat, c_14 ≤ S.2.1 ∧ s_15 ≤ S.2.2 ∧ F_gJ1_sub G (S.1, c_14, s_15) v_10 v_11 (Int32.ofNat n_13) (fun r_16 h_17 => nm (α := GZ) (h_17, S.2.1 - c_14, S.2.2 - s_15) (fun S_18 => P r_16 S_18.1))))))
set_option maxHeartbeats 4000000 in
theorem M_gJ1_size (G : GT) (l : Launch) (hG : GOK G) (hTab : TabF G) (hm : FreeG G) (S : GZ) (x0 : Nat) (P : Int32 → AH → Prop) (hF : F_gJ1_size G S x0 P) : MT G l yJ1_size cJ1_size 1 (some Jvm.ClassFile.FieldType.int) 1 32 S.2.1 S.2.2 [.ref x0] S.1 (fun v h' => ∃ r : Int32, v = some (.int r) ∧ P r h') := by
  refine MT.mk (own := RJ1) (by decide) rfl hG (Nat.le_of_ble_eq_true rfl) ?_
  intro p e s m below meth c args Q hargs hQ C hname
  refine J.loca (L2 := [(0, .ref x0)]) rfl ?_
  unfold F_gJ1_size at hF
  refine j_aload_n C dJ1_size_0 rfl 0 rfl ?_
  obtain ⟨v_10, hgd, hF⟩ := hF
  refine jg_get C (T := TJ1) (N := 3) rfl in_J1 2 (by decide) q213 rfl hgd dJ1_size_1 ?_
  refine j_aload_n C dJ1_size_4 rfl 0 rfl ?_
  obtain ⟨v_11, hgd, hF⟩ := hF
  refine jg_get C (T := TJ1) (N := 3) rfl in_J1 1 (by decide) q212 rfl hgd dJ1_size_5 ?_
  refine j_aload_n C dJ1_size_8 rfl 0 rfl ?_
  obtain ⟨v_12, hgd, hF⟩ := hF
  refine jg_get C (T := TJ1) (N := 3) rfl in_J1 0 (by decide) q211 rfl hgd dJ1_size_9 ?_
  obtain ⟨n_13, hgd, hF⟩ := hF
  refine jg_alen C hgd dJ1_size_12 ?_
  obtain ⟨c_14, s_15, hc1, hc2, hF⟩ := hF
  refine j_callS (n := 3) (As := [.int v_10, .int v_11, .int (Int32.ofNat n_13)]) (rest := []) C (M_gJ1_sub G l hG hTab hm (S.1, c_14, s_15) v_10 v_11 (Int32.ofNat n_13) _ hF) q519 ⟨q520, q96, q521, by decide +kernel⟩ rfl rfl (Nat.le_of_ble_eq_true rfl) ⟨Nat.le_of_ble_eq_true rfl, Nat.le_of_ble_eq_true rfl⟩ hc1 hc2 dJ1_size_13 (kk_i fun r_16 h_17 hF => ?_)
  obtain ⟨S_18, eS_18, hF⟩ := nm_intro hF
  refine g_J eS_18 ?_
  rw [hQ]
  exact j_iret C rfl ⟨_, rfl, hF⟩ dJ1_size_16
