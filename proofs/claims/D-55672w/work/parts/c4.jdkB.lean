/-! JDK: strings (printed by gen/gojdk.py) -/
set_option maxRecDepth 100000
def F_gJ4_init_3 (G : GT) (S : GZ) (x0 : Nat) (x1 : Nat) (x2 : Int32) (P : AH → Prop) : Prop := ∃ fs_5 : List Value, S.1 x0 = some (.inr (14, fs_5)) ∧ 0 < fs_5.length ∧ (nm (α := GZ) (hup S.1 x0 (.inr (14, List.set fs_5 0 (.ref x1))), S.2.1, S.2.2) (fun S_6 => ∃ fs_7 : List Value, S_6.1 x0 = some (.inr (14, fs_7)) ∧ 1 < fs_7.length ∧ narrow .byte (.int x2) = .int x2 ∧ fits .byte (.int x2) = true ∧ (nm (α := GZ) (hup S_6.1 x0 (.inr (14, List.set fs_7 1 (.int x2))), S_6.2.1, S_6.2.2) (fun S_8 => P S_8.1))))
set_option maxHeartbeats 4000000 in
theorem M_gJ4_init_3 (G : GT) (l : Launch) (hG : GOK G) (hTab : TabF G) (hm : FreeG G) (S : GZ) (x0 : Nat) (x1 : Nat) (x2 : Int32) (P : AH → Prop) (hF : F_gJ4_init_3 G S x0 x1 x2 P) : MT G l yJ4_init_3 cJ4_init_3 3 none 1 30 S.2.1 S.2.2 [.ref x0, .ref x1, .int x2] S.1 (fun v h' => v = none ∧ P h') := by
  refine MT.mk (own := RJ4) (by decide) rfl hG (Nat.le_of_ble_eq_true rfl) ?_
  intro p e s m below meth c args Q hargs hQ C hname
  refine J.loca (L2 := [(0, .ref x0), (1, .ref x1), (2, .int x2)]) rfl ?_
  unfold F_gJ4_init_3 at hF
  refine j_aload_n C dJ4_init_3_0 rfl 0 rfl ?_
  refine j_objInit C q1462 q142 q143 (Nat.le_of_ble_eq_true rfl) (Nat.le_of_ble_eq_true rfl) dJ4_init_3_1 ?_
  refine j_aload_n C dJ4_init_3_4 rfl 0 rfl ?_
  refine j_aload_n C dJ4_init_3_5 rfl 1 rfl ?_
  obtain ⟨fs_5, hg1, hg2, hF⟩ := hF
  refine j_putF C hm hg1 rfl in_J4 tyJ4 tyJ4_ok nmJ4 0 (by decide) q1503 rfl rfl hname rfl rfl rfl hg2 dJ4_init_3_6 ?_
  obtain ⟨S_6, eS_6, hF⟩ := nm_intro hF
  refine g_J eS_6 ?_
  refine j_aload_n C dJ4_init_3_9 rfl 0 rfl ?_
  refine j_iload_n C dJ4_init_3_10 rfl 2 rfl ?_
  obtain ⟨fs_7, hg1, hg2, hg3, hg4, hF⟩ := hF
  refine j_putF C hm hg1 rfl in_J4 tyJ4 tyJ4_ok nmJ4 1 (by decide) q1504 rfl rfl hname rfl hg3 hg4 hg2 dJ4_init_3_11 ?_
  obtain ⟨S_8, eS_8, hF⟩ := nm_intro hF
  refine g_J eS_8 ?_
  rw [hQ]
  exact j_vret C ⟨rfl, hF⟩ dJ4_init_3_14
def F_gJ5_length (G : GT) (S : GZ) (x0 : Nat) (P : Int32 → AH → Prop) : Prop := ∃ n_2 : Nat, aL G S.1 x0 n_2 ∧ (P ((Int32.ofNat n_2) >>> (1 &&& 31)) S.1)
set_option maxHeartbeats 4000000 in
theorem M_gJ5_length (G : GT) (l : Launch) (hG : GOK G) (hTab : TabF G) (hm : FreeG G) (S : GZ) (x0 : Nat) (P : Int32 → AH → Prop) (hF : F_gJ5_length G S x0 P) : MT G l yJ5_length cJ5_length 1 (some Jvm.ClassFile.FieldType.int) 0 0 S.2.1 S.2.2 [.ref x0] S.1 (fun v h' => ∃ r : Int32, v = some (.int r) ∧ P r h') := by
  refine MT.mk (own := RJ5) (by decide) rfl hG (Nat.le_of_ble_eq_true rfl) ?_
  intro p e s m below meth c args Q hargs hQ C hname
  refine J.loca (L2 := [(0, .ref x0)]) rfl ?_
  unfold F_gJ5_length at hF
  refine j_aload_n C dJ5_length_0 rfl 0 rfl ?_
  obtain ⟨n_2, hgd, hF⟩ := hF
  refine jg_alen C hgd dJ5_length_1 ?_
  refine j_iconst (v := 1) C dJ5_length_2 rfl ?_
  refine j_ishr C dJ5_length_3 ?_
  rw [hQ]
  exact j_iret C rfl ⟨_, rfl, hF⟩ dJ5_length_4
def F_gJ5_putChar (G : GT) (S : GZ) (x0 : Nat) (x1 : Int32) (x2 : Int32) (P : AH → Prop) : Prop := ∃ v_15 : Int32, StV G "java/lang/StringUTF16" "$assertionsDisabled" "Z" (.int v_15) ∧ (jn (α := GZ → Prop) (fun S_17 => ∃ v_18 : Int32, StV G "java/lang/StringUTF16" "HI_BYTE_SHIFT" "I" (.int v_18) ∧ (∃ (n_19 : Nat) (f_20 : Nat → Int32), S_17.1 x0 = some (.inl (G.2.2.1 2, n_19, .inl f_20)) ∧ vp_in (x1 <<< (1 &&& 31)) n_19 ∧ (nm (α := GZ) (hup S_17.1 x0 (.inl (G.2.2.1 2, n_19, .inl (upd f_20 (Int32.toNatClampNeg (x1 <<< (1 &&& 31))) (vp_nar .byte ((x2 >>> (v_18 &&& 31)).toInt8.toInt32))))), S_17.2.1, S_17.2.2) (fun S_21 => ∃ v_22 : Int32, StV G "java/lang/StringUTF16" "LO_BYTE_SHIFT" "I" (.int v_22) ∧ (∃ (n_23 : Nat) (f_24 : Nat → Int32), S_21.1 x0 = some (.inl (G.2.2.1 2, n_23, .inl f_24)) ∧ vp_in ((x1 <<< (1 &&& 31)) + 1) n_23 ∧ (nm (α := GZ) (hup S_21.1 x0 (.inl (G.2.2.1 2, n_23, .inl (upd f_24 (Int32.toNatClampNeg ((x1 <<< (1 &&& 31)) + 1)) (vp_nar .byte ((x2 >>> (v_22 &&& 31)).toInt8.toInt32))))), S_21.2.1, S_21.2.2) (fun S_25 => P S_25.1))))))) (fun K_16 => (v_15 = 0 → jn (α := GZ → Prop) (fun S_28 => False) (fun K_27 => (x1 < 0 → K_27 S) ∧ (¬ x1 < 0 → ∃ c_30 s_31 : Nat, c_30 ≤ S.2.1 ∧ s_31 ≤ S.2.2 ∧ F_gJ5_length G (S.1, c_30, s_31) x0 (fun r_32 h_33 => nm (α := GZ) (h_33, S.2.1 - c_30, S.2.2 - s_31) (fun S_34 => (x1 < r_32 → K_16 S_34) ∧ (¬ x1 < r_32 → K_27 S_34)))))) ∧ (¬ v_15 = 0 → K_16 S)))
set_option maxHeartbeats 4000000 in
theorem M_gJ5_putChar (G : GT) (l : Launch) (hG : GOK G) (hTab : TabF G) (hm : FreeG G) (S : GZ) (x0 : Nat) (x1 : Int32) (x2 : Int32) (P : AH → Prop) (hF : F_gJ5_putChar G S x0 x1 x2 P) : MT G l yJ5_putChar cJ5_putChar 3 none 1 30 S.2.1 S.2.2 [.ref x0, .int x1, .int x2] S.1 (fun v h' => v = none ∧ P h') := by
  refine MT.mk (own := RJ5) (by decide) rfl hG (Nat.le_of_ble_eq_true rfl) ?_
  intro p e s m below meth c args Q hargs hQ C hname
  refine J.loca (L2 := [(0, .ref x0), (1, .int x1), (2, .int x2)]) rfl ?_
  unfold F_gJ5_putChar at hF
  obtain ⟨v_15, hgd, hF⟩ := hF
  refine jg_gets C hgd q818 rfl dJ5_putChar_0 ?_
  obtain ⟨K_16, hK_16, hF⟩ := jn_intro (M := fun (K : GZ → Prop) => ∀ (S_17 : GZ), K S_17 → J G p l e ({ frames := 1, cells := S.2.1, slots := S.2.2, locals := 30 } : Room) s m args below meth c 3 Q S_17.2.1 S_17.2.2 S_17.1 28 [(0, .ref x0), (1, .int x1), (2, .int x2)] []) (hk := by
      intro S_17 hF
      refine j_iload_n C dJ5_putChar_28 rfl 1 rfl ?_
      refine j_iconst (v := 1) C dJ5_putChar_29 rfl ?_
      refine j_ishl C dJ5_putChar_30 ?_
      refine j_istore_n (L2 := [(1, .int (x1 <<< (1 &&& 31))), (0, .ref x0), (2, .int x2)]) C dJ5_putChar_31 rfl (by decide) rfl ?_
      refine j_aload_n C dJ5_putChar_32 rfl 1 rfl ?_
      refine j_iload_n C dJ5_putChar_33 rfl 0 rfl ?_
      refine j_iinc (q := 0) (v := (x1 <<< (1 &&& 31)) + 1) (L2 := [(1, .int ((x1 <<< (1 &&& 31)) + 1)), (0, .ref x0), (2, .int x2)]) C dJ5_putChar_34 rfl rfl (by decide) rfl ?_
      refine j_iload_n C dJ5_putChar_37 rfl 2 rfl ?_
      obtain ⟨v_18, hgd, hF⟩ := hF
      refine jg_gets C hgd q820 rfl dJ5_putChar_38 ?_
      refine j_ishr C dJ5_putChar_41 ?_
      refine j_i2b C dJ5_putChar_42 ?_
      obtain ⟨n_19, f_20, hg1, hg2, hF⟩ := hF
      refine j_bast C hm hg1 hg2 dJ5_putChar_43 ?_
      obtain ⟨S_21, eS_21, hF⟩ := nm_intro hF
      refine g_J eS_21 ?_
      refine j_aload_n C dJ5_putChar_44 rfl 1 rfl ?_
      refine j_iload_n C dJ5_putChar_45 rfl 0 rfl ?_
      refine j_iload_n C dJ5_putChar_46 rfl 2 rfl ?_
      obtain ⟨v_22, hgd, hF⟩ := hF
      refine jg_gets C hgd q822 rfl dJ5_putChar_47 ?_
      refine j_ishr C dJ5_putChar_50 ?_
      refine j_i2b C dJ5_putChar_51 ?_
      obtain ⟨n_23, f_24, hg1, hg2, hF⟩ := hF
      refine j_bast C hm hg1 hg2 dJ5_putChar_52 ?_
      obtain ⟨S_25, eS_25, hF⟩ := nm_intro hF
      refine g_J eS_25 ?_
      rw [hQ]
      exact j_vret C ⟨rfl, hF⟩ dJ5_putChar_53) hF
  refine j_if_ne (tgt := 28) C dJ5_putChar_3 (by decide) (fun hc_26 => ?_) (fun hc_26 => ?_)
  · replace hF := hF.2 hc_26
    exact J.locals [0, 1, 2] (hK_16 _ hF) rfl
  · replace hF := hF.1 hc_26
    refine j_iload_n C dJ5_putChar_6 rfl 1 rfl ?_
    obtain ⟨K_27, hK_27, hF⟩ := jn_intro (M := fun (K : GZ → Prop) => ∀ (S_28 : GZ), K S_28 → J G p l e ({ frames := 1, cells := S.2.1, slots := S.2.2, locals := 30 } : Room) s m args below meth c 3 Q S_28.2.1 S_28.2.2 S_28.1 18 [] []) (hk := by
        intro S_28 hF
        exact hF.elim) hF
    refine j_if_lt (tgt := 18) C dJ5_putChar_7 (by decide) (fun hc_29 => ?_) (fun hc_29 => ?_)
    · replace hF := hF.1 hc_29
      exact J.locals [] (hK_27 _ hF) rfl
    · replace hF := hF.2 hc_29
      refine j_iload_n C dJ5_putChar_10 rfl 1 rfl ?_
      refine j_aload_n C dJ5_putChar_11 rfl 0 rfl ?_
      obtain ⟨c_30, s_31, hc1, hc2, hF⟩ := hF
      refine j_callS (n := 1) (As := [.ref x0]) (rest := [.int x1]) C (M_gJ5_length G l hG hTab hm (S.1, c_30, s_31) x0 _ hF) q804 ⟨q805, q100, q806, by decide +kernel⟩ rfl rfl (Nat.le_of_ble_eq_true rfl) ⟨Nat.le_of_ble_eq_true rfl, Nat.le_of_ble_eq_true rfl⟩ hc1 hc2 dJ5_putChar_12 (kk_i fun r_32 h_33 hF => ?_)
      obtain ⟨S_34, eS_34, hF⟩ := nm_intro hF
      refine g_J eS_34 ?_
      refine j_icmp_lt (tgt := 28) C dJ5_putChar_15 (by decide) (fun hc_35 => ?_) (fun hc_35 => ?_)
      · replace hF := hF.1 hc_35
        exact J.locals [0, 1, 2] (hK_16 _ hF) rfl
      · replace hF := hF.2 hc_35
        exact J.locals [] (hK_27 _ hF) rfl
def L_gJ5_getChars_2_22 (G : GT) (K76 : GZ → Int32 → Int32 → Prop) (P : Int32 → AH → Prop) (f2 : Nat) (f6 : Int32) : Nat → GZ → Int32 → Int32 → Prop
  | 0, _, _, _ => False
  | n + 1, S, z0, z5 => ((-100) < z0 → K76 S z0 z5) ∧ (¬ (-100) < z0 → ∃ v_47 : Nat, StV G "java/lang/Integer" "DigitOnes" "[B" (.ref v_47) ∧ (∃ (n_48 : Nat) (f_49 : Nat → Int32) (v_50 : Int32), aB G S.1 v_47 n_48 f_49 ∧ vp_in (((z0 / 100) * 100) - z0) n_48 ∧ f_49 (Int32.toNatClampNeg (((z0 / 100) * 100) - z0)) = v_50 ∧ (∃ c_51 s_52 : Nat, c_51 ≤ S.2.1 ∧ s_52 ≤ S.2.2 ∧ F_gJ5_putChar G (S.1, c_51, s_52) f2 (z5 + (-1)) v_50 (fun h_54 => nm (α := GZ) (h_54, S.2.1 - c_51, S.2.2 - s_52) (fun S_55 => ∃ v_56 : Nat, StV G "java/lang/Integer" "DigitTens" "[B" (.ref v_56) ∧ (∃ (n_57 : Nat) (f_58 : Nat → Int32) (v_59 : Int32), aB G S_55.1 v_56 n_57 f_58 ∧ vp_in (((z0 / 100) * 100) - z0) n_57 ∧ f_58 (Int32.toNatClampNeg (((z0 / 100) * 100) - z0)) = v_59 ∧ (∃ c_60 s_61 : Nat, c_60 ≤ S_55.2.1 ∧ s_61 ≤ S_55.2.2 ∧ F_gJ5_putChar G (S_55.1, c_60, s_61) f2 ((z5 + (-1)) + (-1)) v_59 (fun h_63 => nm (α := GZ) (h_63, S_55.2.1 - c_60, S_55.2.2 - s_61) (fun S_64 => L_gJ5_getChars_2_22 G K76 P f2 f6 n S_64 (z0 / 100) ((z5 + (-1)) + (-1)))))))))))
def F_gJ5_getChars_2 (G : GT) (S : GZ) (x0 : Int32) (x1 : Int32) (x2 : Nat) (P : Int32 → AH → Prop) : Prop := jn (α := GZ → Int32 → Prop) (fun S_43 t_44 => (t_44 = 0 → L_gJ5_getChars_2_22 G (fun S_115 w0_116 w5_117 => ∃ v_118 : Nat, StV G "java/lang/Integer" "DigitOnes" "[B" (.ref v_118) ∧ (∃ (n_119 : Nat) (f_120 : Nat → Int32) (v_121 : Int32), aB G S_115.1 v_118 n_119 f_120 ∧ vp_in (-w0_116) n_119 ∧ f_120 (Int32.toNatClampNeg (-w0_116)) = v_121 ∧ (∃ c_122 s_123 : Nat, c_122 ≤ S_115.2.1 ∧ s_123 ≤ S_115.2.2 ∧ F_gJ5_putChar G (S_115.1, c_122, s_123) x2 (w5_117 + (-1)) v_121 (fun h_125 => nm (α := GZ) (h_125, S_115.2.1 - c_122, S_115.2.2 - s_123) (fun S_126 => jn (α := GZ → Int32 → Prop) (fun S_128 y5_129 => (t_44 = 0 → P y5_129 S_128.1) ∧ (¬ t_44 = 0 → ∃ c_131 s_132 : Nat, c_131 ≤ S_128.2.1 ∧ s_132 ≤ S_128.2.2 ∧ F_gJ5_putChar G (S_128.1, c_131, s_132) x2 (y5_129 + (-1)) 45 (fun h_134 => nm (α := GZ) (h_134, S_128.2.1 - c_131, S_128.2.2 - s_132) (fun S_135 => P (y5_129 + (-1)) S_135.1)))) (fun K_127 => ((-9) ≤ w0_116 → K_127 S_126 (w5_117 + (-1))) ∧ (¬ (-9) ≤ w0_116 → ∃ v_137 : Nat, StV G "java/lang/Integer" "DigitTens" "[B" (.ref v_137) ∧ (∃ (n_138 : Nat) (f_139 : Nat → Int32) (v_140 : Int32), aB G S_126.1 v_137 n_138 f_139 ∧ vp_in (-w0_116) n_138 ∧ f_139 (Int32.toNatClampNeg (-w0_116)) = v_140 ∧ (∃ c_141 s_142 : Nat, c_141 ≤ S_126.2.1 ∧ s_142 ≤ S_126.2.2 ∧ F_gJ5_putChar G (S_126.1, c_141, s_142) x2 ((w5_117 + (-1)) + (-1)) v_140 (fun h_144 => nm (α := GZ) (h_144, S_126.2.1 - c_141, S_126.2.2 - s_142) (fun S_145 => K_127 S_145 ((w5_117 + (-1)) + (-1))))))))))))) P x2 t_44 NF S_43 (-x0) x1) ∧ (¬ t_44 = 0 → L_gJ5_getChars_2_22 G (fun S_65 w0_66 w5_67 => ∃ v_68 : Nat, StV G "java/lang/Integer" "DigitOnes" "[B" (.ref v_68) ∧ (∃ (n_69 : Nat) (f_70 : Nat → Int32) (v_71 : Int32), aB G S_65.1 v_68 n_69 f_70 ∧ vp_in (-w0_66) n_69 ∧ f_70 (Int32.toNatClampNeg (-w0_66)) = v_71 ∧ (∃ c_72 s_73 : Nat, c_72 ≤ S_65.2.1 ∧ s_73 ≤ S_65.2.2 ∧ F_gJ5_putChar G (S_65.1, c_72, s_73) x2 (w5_67 + (-1)) v_71 (fun h_75 => nm (α := GZ) (h_75, S_65.2.1 - c_72, S_65.2.2 - s_73) (fun S_76 => jn (α := GZ → Int32 → Prop) (fun S_78 y5_79 => (t_44 = 0 → P y5_79 S_78.1) ∧ (¬ t_44 = 0 → ∃ c_81 s_82 : Nat, c_81 ≤ S_78.2.1 ∧ s_82 ≤ S_78.2.2 ∧ F_gJ5_putChar G (S_78.1, c_81, s_82) x2 (y5_79 + (-1)) 45 (fun h_84 => nm (α := GZ) (h_84, S_78.2.1 - c_81, S_78.2.2 - s_82) (fun S_85 => P (y5_79 + (-1)) S_85.1)))) (fun K_77 => ((-9) ≤ w0_66 → K_77 S_76 (w5_67 + (-1))) ∧ (¬ (-9) ≤ w0_66 → ∃ v_87 : Nat, StV G "java/lang/Integer" "DigitTens" "[B" (.ref v_87) ∧ (∃ (n_88 : Nat) (f_89 : Nat → Int32) (v_90 : Int32), aB G S_76.1 v_87 n_88 f_89 ∧ vp_in (-w0_66) n_88 ∧ f_89 (Int32.toNatClampNeg (-w0_66)) = v_90 ∧ (∃ c_91 s_92 : Nat, c_91 ≤ S_76.2.1 ∧ s_92 ≤ S_76.2.2 ∧ F_gJ5_putChar G (S_76.1, c_91, s_92) x2 ((w5_67 + (-1)) + (-1)) v_90 (fun h_94 => nm (α := GZ) (h_94, S_76.2.1 - c_91, S_76.2.2 - s_92) (fun S_95 => K_77 S_95 ((w5_67 + (-1)) + (-1))))))))))))) P x2 t_44 NF S_43 x0 x1)) (fun K_42 => (0 ≤ x0 → K_42 S 0) ∧ (¬ 0 ≤ x0 → K_42 S 1))
set_option maxHeartbeats 4000000 in
theorem WL_gJ5_getChars_2_22 {G : GT} {p : Program} {l : Launch} {e : Env} {s : State} {m : MethodId} {args : Array Value} {below : List Frame} {meth : Method} {c : Code} {Q : State → Prop} {c0 s0 : Nat} (C : Cx G p s m args meth c cJ5_getChars_2 RJ5 7 (some Jvm.ClassFile.FieldType.int)) (hG : GOK G) (hTab : TabF G) (hm : FreeG G) (hname : meth.name = yJ5_getChars_2.name) {P : Int32 → AH → Prop} (hQ : Q = MQ below (SQ G (fun v h' => ∃ r : Int32, v = some (.int r) ∧ P r h')) args s (({ frames := 2, cells := c0, slots := s0, locals := 62 } : Room) : Room).cells (({ frames := 2, cells := c0, slots := s0, locals := 62 } : Room) : Room).slots (fun q => G.1 ≤ q)) {K76 : GZ → Int32 → Int32 → Prop} {f2 : Nat} {f6 : Int32} (hK76 : ∀ (S0 : GZ) (w0 : Int32) (w5 : Int32), K76 S0 w0 w5 → J G p l e ({ frames := 2, cells := c0, slots := s0, locals := 62 } : Room) s m args below meth c 7 Q S0.2.1 S0.2.2 S0.1 76 [(0, .int w0), (2, .ref f2), (5, .int w5), (6, .int f6)] []) :
    ∀ (n : Nat) (S : GZ) (z0 : Int32) (z5 : Int32), L_gJ5_getChars_2_22 G K76 P f2 f6 n S z0 z5 → J G p l e ({ frames := 2, cells := c0, slots := s0, locals := 62 } : Room) s m args below meth c 7 Q S.2.1 S.2.2 S.1 22 [(0, .int z0), (2, .ref f2), (5, .int z5), (6, .int f6)] [] := by
  intro n
  induction n with
  | zero => intro S z0 z5 hF; exact hF.elim
  | succ n ih =>
    intro S z0 z5 hF
    unfold L_gJ5_getChars_2_22 at hF
    refine j_iload_n C dJ5_getChars_2_22 rfl 0 rfl ?_
    refine j_bipush (v := (-100)) C dJ5_getChars_2_23 rfl ?_
    refine j_icmp_gt (tgt := 76) C dJ5_getChars_2_25 (by decide) (fun hc_46 => ?_) (fun hc_46 => ?_)
    · replace hF := hF.1 hc_46
      exact J.locals [0, 1, 2, 3] (hK76 _ _ _ hF) rfl
    · replace hF := hF.2 hc_46
      refine j_iload_n C dJ5_getChars_2_28 rfl 0 rfl ?_
      refine j_bipush (v := 100) C dJ5_getChars_2_29 rfl ?_
      refine j_idiv C dJ5_getChars_2_31 (by decide) ?_
      refine j_istore_n (L2 := [(3, .int (z0 / 100)), (0, .int z0), (2, .ref f2), (5, .int z5), (6, .int f6)]) C dJ5_getChars_2_32 rfl (by decide) rfl ?_
      refine j_iload_n C dJ5_getChars_2_33 rfl 0 rfl ?_
      refine j_bipush (v := 100) C dJ5_getChars_2_34 rfl ?_
      refine j_imul C dJ5_getChars_2_36 ?_
      refine j_iload_n C dJ5_getChars_2_37 rfl 1 rfl ?_
      refine j_isub C dJ5_getChars_2_38 ?_
      refine j_istore (L2 := [(4, .int (((z0 / 100) * 100) - z0)), (3, .int (z0 / 100)), (0, .int z0), (2, .ref f2), (5, .int z5), (6, .int f6)]) C dJ5_getChars_2_39 (by decide) rfl ?_
      refine j_iload_n C dJ5_getChars_2_41 rfl 1 rfl ?_
      refine j_istore_n (L2 := [(0, .int (z0 / 100)), (4, .int (((z0 / 100) * 100) - z0)), (3, .int (z0 / 100)), (2, .ref f2), (5, .int z5), (6, .int f6)]) C dJ5_getChars_2_42 rfl (by decide) rfl ?_
      refine j_aload_n C dJ5_getChars_2_43 rfl 3 rfl ?_
      refine j_iinc (q := 4) (v := z5 + (-1)) (L2 := [(5, .int (z5 + (-1))), (0, .int (z0 / 100)), (4, .int (((z0 / 100) * 100) - z0)), (3, .int (z0 / 100)), (2, .ref f2), (6, .int f6)]) C dJ5_getChars_2_44 rfl rfl (by decide) rfl ?_
      refine j_iload C dJ5_getChars_2_47 0 rfl ?_
      obtain ⟨v_47, hgd, hF⟩ := hF
      refine jg_gets C hgd q890 rfl dJ5_getChars_2_49 ?_
      refine j_iload C dJ5_getChars_2_52 2 rfl ?_
      obtain ⟨n_48, f_49, v_50, hg1, hg2, hg3, hF⟩ := hF
      refine jg_bald C hg1 hg2 dJ5_getChars_2_54 ?_
      rw [hg3]
      obtain ⟨c_51, s_52, hc1, hc2, hF⟩ := hF
      refine j_callS (n := 3) (As := [.ref f2, .int (z5 + (-1)), .int v_50]) (rest := []) C (M_gJ5_putChar G l hG hTab hm (S.1, c_51, s_52) f2 (z5 + (-1)) v_50 _ hF) q815 ⟨q816, q100, q817, by decide +kernel⟩ rfl rfl (Nat.le_of_ble_eq_true rfl) ⟨Nat.le_of_ble_eq_true rfl, Nat.le_of_ble_eq_true rfl⟩ hc1 hc2 dJ5_getChars_2_55 (kk_v fun h_54 hF => ?_)
      obtain ⟨S_55, eS_55, hF⟩ := nm_intro hF
      refine g_J eS_55 ?_
      refine j_aload_n C dJ5_getChars_2_58 rfl 4 rfl ?_
      refine j_iinc (q := 0) (v := (z5 + (-1)) + (-1)) (L2 := [(5, .int ((z5 + (-1)) + (-1))), (0, .int (z0 / 100)), (4, .int (((z0 / 100) * 100) - z0)), (3, .int (z0 / 100)), (2, .ref f2), (6, .int f6)]) C dJ5_getChars_2_59 rfl rfl (by decide) rfl ?_
      refine j_iload C dJ5_getChars_2_62 0 rfl ?_
      obtain ⟨v_56, hgd, hF⟩ := hF
      refine jg_gets C hgd q891 rfl dJ5_getChars_2_64 ?_
      refine j_iload C dJ5_getChars_2_67 2 rfl ?_
      obtain ⟨n_57, f_58, v_59, hg1, hg2, hg3, hF⟩ := hF
      refine jg_bald C hg1 hg2 dJ5_getChars_2_69 ?_
      rw [hg3]
      obtain ⟨c_60, s_61, hc1, hc2, hF⟩ := hF
      refine j_callS (n := 3) (As := [.ref f2, .int ((z5 + (-1)) + (-1)), .int v_59]) (rest := []) C (M_gJ5_putChar G l hG hTab hm (S_55.1, c_60, s_61) f2 ((z5 + (-1)) + (-1)) v_59 _ hF) q815 ⟨q816, q100, q817, by decide +kernel⟩ rfl rfl (Nat.le_of_ble_eq_true rfl) ⟨Nat.le_of_ble_eq_true rfl, Nat.le_of_ble_eq_true rfl⟩ hc1 hc2 dJ5_getChars_2_70 (kk_v fun h_63 hF => ?_)
      obtain ⟨S_64, eS_64, hF⟩ := nm_intro hF
      refine g_J eS_64 ?_
      refine j_goto (tgt := 22) C dJ5_getChars_2_73 (by decide) ?_
      exact J.locals [1, 4, 0, 5] (ih _ _ _ hF) rfl
set_option maxHeartbeats 4000000 in
theorem M_gJ5_getChars_2 (G : GT) (l : Launch) (hG : GOK G) (hTab : TabF G) (hm : FreeG G) (S : GZ) (x0 : Int32) (x1 : Int32) (x2 : Nat) (P : Int32 → AH → Prop) (hF : F_gJ5_getChars_2 G S x0 x1 x2 P) : MT G l yJ5_getChars_2 cJ5_getChars_2 7 (some Jvm.ClassFile.FieldType.int) 2 62 S.2.1 S.2.2 [.int x0, .int x1, .ref x2] S.1 (fun v h' => ∃ r : Int32, v = some (.int r) ∧ P r h') := by
  refine MT.mk (own := RJ5) (by decide) rfl hG (Nat.le_of_ble_eq_true rfl) ?_
  intro p e s m below meth c args Q hargs hQ C hname
  refine J.loca (L2 := [(0, .int x0), (1, .int x1), (2, .ref x2)]) rfl ?_
  unfold F_gJ5_getChars_2 at hF
  refine j_iload_n C dJ5_getChars_2_0 rfl 1 rfl ?_
  refine j_istore (L2 := [(5, .int x1), (0, .int x0), (1, .int x1), (2, .ref x2)]) C dJ5_getChars_2_1 (by decide) rfl ?_
  refine j_iload_n C dJ5_getChars_2_3 rfl 1 rfl ?_
  obtain ⟨K_42, hK_42, hF⟩ := jn_intro (M := fun (K : GZ → Int32 → Prop) => ∀ (S_43 : GZ) (t_44 : Int32), K S_43 t_44 → J G p l e ({ frames := 2, cells := S.2.1, slots := S.2.2, locals := 62 } : Room) s m args below meth c 7 Q S_43.2.1 S_43.2.2 S_43.1 12 [(0, .int x0), (2, .ref x2), (5, .int x1)] [.int t_44]) (hk := by
      intro S_43 t_44 hF
      refine j_istore (L2 := [(6, .int t_44), (0, .int x0), (2, .ref x2), (5, .int x1)]) C dJ5_getChars_2_12 (by decide) rfl ?_
      refine j_iload C dJ5_getChars_2_14 0 rfl ?_
      refine j_if_ne (tgt := 22) C dJ5_getChars_2_16 (by decide) (fun hc_45 => ?_) (fun hc_45 => ?_)
      · replace hF := hF.2 hc_45
        refine J.locals [1, 2, 3, 0] (WL_gJ5_getChars_2_22 C hG hTab hm hname hQ ?_ NF _ _ _ hF) rfl
        · intro S_65 w0_66 w5_67 hF
          refine j_aload_n C dJ5_getChars_2_76 rfl 1 rfl ?_
          refine j_iinc (q := 2) (v := w5_67 + (-1)) (L2 := [(5, .int (w5_67 + (-1))), (0, .int w0_66), (2, .ref x2), (6, .int t_44)]) C dJ5_getChars_2_77 rfl rfl (by decide) rfl ?_
          refine j_iload C dJ5_getChars_2_80 0 rfl ?_
          obtain ⟨v_68, hgd, hF⟩ := hF
          refine jg_gets C hgd q890 rfl dJ5_getChars_2_82 ?_
          refine j_iload_n C dJ5_getChars_2_85 rfl 1 rfl ?_
          refine j_ineg C dJ5_getChars_2_86 ?_
          obtain ⟨n_69, f_70, v_71, hg1, hg2, hg3, hF⟩ := hF
          refine jg_bald C hg1 hg2 dJ5_getChars_2_87 ?_
          rw [hg3]
          obtain ⟨c_72, s_73, hc1, hc2, hF⟩ := hF
          refine j_callS (n := 3) (As := [.ref x2, .int (w5_67 + (-1)), .int v_71]) (rest := []) C (M_gJ5_putChar G l hG hTab hm (S_65.1, c_72, s_73) x2 (w5_67 + (-1)) v_71 _ hF) q815 ⟨q816, q100, q817, by decide +kernel⟩ rfl rfl (Nat.le_of_ble_eq_true rfl) ⟨Nat.le_of_ble_eq_true rfl, Nat.le_of_ble_eq_true rfl⟩ hc1 hc2 dJ5_getChars_2_88 (kk_v fun h_75 hF => ?_)
          obtain ⟨S_76, eS_76, hF⟩ := nm_intro hF
          refine g_J eS_76 ?_
          refine j_iload_n C dJ5_getChars_2_91 rfl 1 rfl ?_
          refine j_bipush (v := (-9)) C dJ5_getChars_2_92 rfl ?_
          obtain ⟨K_77, hK_77, hF⟩ := jn_intro (M := fun (K : GZ → Int32 → Prop) => ∀ (S_78 : GZ) (y5_79 : Int32), K S_78 y5_79 → J G p l e ({ frames := 2, cells := S.2.1, slots := S.2.2, locals := 62 } : Room) s m args below meth c 7 Q S_78.2.1 S_78.2.2 S_78.1 112 [(2, .ref x2), (5, .int y5_79), (6, .int t_44)] []) (hk := by
              intro S_78 y5_79 hF
              refine j_iload C dJ5_getChars_2_112 2 rfl ?_
              refine j_if_eq (tgt := 128) C dJ5_getChars_2_114 (by decide) (fun hc_80 => ?_) (fun hc_80 => ?_)
              · replace hF := hF.1 hc_80
                refine j_iload C dJ5_getChars_2_128 1 rfl ?_
                rw [hQ]
                exact j_iret C rfl ⟨_, rfl, hF⟩ dJ5_getChars_2_130
              · replace hF := hF.2 hc_80
                refine j_aload_n C dJ5_getChars_2_117 rfl 0 rfl ?_
                refine j_iinc (q := 1) (v := y5_79 + (-1)) (L2 := [(5, .int (y5_79 + (-1))), (2, .ref x2), (6, .int t_44)]) C dJ5_getChars_2_118 rfl rfl (by decide) rfl ?_
                refine j_iload C dJ5_getChars_2_121 0 rfl ?_
                refine j_bipush (v := 45) C dJ5_getChars_2_123 rfl ?_
                obtain ⟨c_81, s_82, hc1, hc2, hF⟩ := hF
                refine j_callS (n := 3) (As := [.ref x2, .int (y5_79 + (-1)), .int 45]) (rest := []) C (M_gJ5_putChar G l hG hTab hm (S_78.1, c_81, s_82) x2 (y5_79 + (-1)) 45 _ hF) q815 ⟨q816, q100, q817, by decide +kernel⟩ rfl rfl (Nat.le_of_ble_eq_true rfl) ⟨Nat.le_of_ble_eq_true rfl, Nat.le_of_ble_eq_true rfl⟩ hc1 hc2 dJ5_getChars_2_125 (kk_v fun h_84 hF => ?_)
                obtain ⟨S_85, eS_85, hF⟩ := nm_intro hF
                refine g_J eS_85 ?_
                refine j_iload C dJ5_getChars_2_128 0 rfl ?_
                rw [hQ]
                exact j_iret C rfl ⟨_, rfl, hF⟩ dJ5_getChars_2_130) hF
          refine j_icmp_ge (tgt := 112) C dJ5_getChars_2_94 (by decide) (fun hc_86 => ?_) (fun hc_86 => ?_)
          · replace hF := hF.1 hc_86
            exact J.locals [2, 0, 3] (hK_77 _ _ hF) rfl
          · replace hF := hF.2 hc_86
            refine j_aload_n C dJ5_getChars_2_97 rfl 2 rfl ?_
            refine j_iinc (q := 0) (v := (w5_67 + (-1)) + (-1)) (L2 := [(5, .int ((w5_67 + (-1)) + (-1))), (0, .int w0_66), (2, .ref x2), (6, .int t_44)]) C dJ5_getChars_2_98 rfl rfl (by decide) rfl ?_
            refine j_iload C dJ5_getChars_2_101 0 rfl ?_
            obtain ⟨v_87, hgd, hF⟩ := hF
            refine jg_gets C hgd q891 rfl dJ5_getChars_2_103 ?_
            refine j_iload_n C dJ5_getChars_2_106 rfl 1 rfl ?_
            refine j_ineg C dJ5_getChars_2_107 ?_
            obtain ⟨n_88, f_89, v_90, hg1, hg2, hg3, hF⟩ := hF
            refine jg_bald C hg1 hg2 dJ5_getChars_2_108 ?_
            rw [hg3]
            obtain ⟨c_91, s_92, hc1, hc2, hF⟩ := hF
            refine j_callS (n := 3) (As := [.ref x2, .int ((w5_67 + (-1)) + (-1)), .int v_90]) (rest := []) C (M_gJ5_putChar G l hG hTab hm (S_76.1, c_91, s_92) x2 ((w5_67 + (-1)) + (-1)) v_90 _ hF) q815 ⟨q816, q100, q817, by decide +kernel⟩ rfl rfl (Nat.le_of_ble_eq_true rfl) ⟨Nat.le_of_ble_eq_true rfl, Nat.le_of_ble_eq_true rfl⟩ hc1 hc2 dJ5_getChars_2_109 (kk_v fun h_94 hF => ?_)
            obtain ⟨S_95, eS_95, hF⟩ := nm_intro hF
            refine g_J eS_95 ?_
            exact J.locals [2, 0, 3] (hK_77 _ _ hF) rfl
      · replace hF := hF.1 hc_45
        refine j_iload_n C dJ5_getChars_2_19 rfl 1 rfl ?_
        refine j_ineg C dJ5_getChars_2_20 ?_
        refine j_istore_n (L2 := [(0, .int (-x0)), (6, .int t_44), (2, .ref x2), (5, .int x1)]) C dJ5_getChars_2_21 rfl (by decide) rfl ?_
        refine J.locals [0, 2, 3, 1] (WL_gJ5_getChars_2_22 C hG hTab hm hname hQ ?_ NF _ _ _ hF) rfl
        · intro S_115 w0_116 w5_117 hF
          refine j_aload_n C dJ5_getChars_2_76 rfl 1 rfl ?_
          refine j_iinc (q := 2) (v := w5_117 + (-1)) (L2 := [(5, .int (w5_117 + (-1))), (0, .int w0_116), (2, .ref x2), (6, .int t_44)]) C dJ5_getChars_2_77 rfl rfl (by decide) rfl ?_
          refine j_iload C dJ5_getChars_2_80 0 rfl ?_
          obtain ⟨v_118, hgd, hF⟩ := hF
          refine jg_gets C hgd q890 rfl dJ5_getChars_2_82 ?_
          refine j_iload_n C dJ5_getChars_2_85 rfl 1 rfl ?_
          refine j_ineg C dJ5_getChars_2_86 ?_
          obtain ⟨n_119, f_120, v_121, hg1, hg2, hg3, hF⟩ := hF
          refine jg_bald C hg1 hg2 dJ5_getChars_2_87 ?_
          rw [hg3]
          obtain ⟨c_122, s_123, hc1, hc2, hF⟩ := hF
          refine j_callS (n := 3) (As := [.ref x2, .int (w5_117 + (-1)), .int v_121]) (rest := []) C (M_gJ5_putChar G l hG hTab hm (S_115.1, c_122, s_123) x2 (w5_117 + (-1)) v_121 _ hF) q815 ⟨q816, q100, q817, by decide +kernel⟩ rfl rfl (Nat.le_of_ble_eq_true rfl) ⟨Nat.le_of_ble_eq_true rfl, Nat.le_of_ble_eq_true rfl⟩ hc1 hc2 dJ5_getChars_2_88 (kk_v fun h_125 hF => ?_)
          obtain ⟨S_126, eS_126, hF⟩ := nm_intro hF
          refine g_J eS_126 ?_
          refine j_iload_n C dJ5_getChars_2_91 rfl 1 rfl ?_
          refine j_bipush (v := (-9)) C dJ5_getChars_2_92 rfl ?_
          obtain ⟨K_127, hK_127, hF⟩ := jn_intro (M := fun (K : GZ → Int32 → Prop) => ∀ (S_128 : GZ) (y5_129 : Int32), K S_128 y5_129 → J G p l e ({ frames := 2, cells := S.2.1, slots := S.2.2, locals := 62 } : Room) s m args below meth c 7 Q S_128.2.1 S_128.2.2 S_128.1 112 [(2, .ref x2), (5, .int y5_129), (6, .int t_44)] []) (hk := by
              intro S_128 y5_129 hF
              refine j_iload C dJ5_getChars_2_112 2 rfl ?_
              refine j_if_eq (tgt := 128) C dJ5_getChars_2_114 (by decide) (fun hc_130 => ?_) (fun hc_130 => ?_)
              · replace hF := hF.1 hc_130
                refine j_iload C dJ5_getChars_2_128 1 rfl ?_
                rw [hQ]
                exact j_iret C rfl ⟨_, rfl, hF⟩ dJ5_getChars_2_130
              · replace hF := hF.2 hc_130
                refine j_aload_n C dJ5_getChars_2_117 rfl 0 rfl ?_
                refine j_iinc (q := 1) (v := y5_129 + (-1)) (L2 := [(5, .int (y5_129 + (-1))), (2, .ref x2), (6, .int t_44)]) C dJ5_getChars_2_118 rfl rfl (by decide) rfl ?_
                refine j_iload C dJ5_getChars_2_121 0 rfl ?_
                refine j_bipush (v := 45) C dJ5_getChars_2_123 rfl ?_
                obtain ⟨c_131, s_132, hc1, hc2, hF⟩ := hF
                refine j_callS (n := 3) (As := [.ref x2, .int (y5_129 + (-1)), .int 45]) (rest := []) C (M_gJ5_putChar G l hG hTab hm (S_128.1, c_131, s_132) x2 (y5_129 + (-1)) 45 _ hF) q815 ⟨q816, q100, q817, by decide +kernel⟩ rfl rfl (Nat.le_of_ble_eq_true rfl) ⟨Nat.le_of_ble_eq_true rfl, Nat.le_of_ble_eq_true rfl⟩ hc1 hc2 dJ5_getChars_2_125 (kk_v fun h_134 hF => ?_)
                obtain ⟨S_135, eS_135, hF⟩ := nm_intro hF
                refine g_J eS_135 ?_
                refine j_iload C dJ5_getChars_2_128 0 rfl ?_
                rw [hQ]
                exact j_iret C rfl ⟨_, rfl, hF⟩ dJ5_getChars_2_130) hF
          refine j_icmp_ge (tgt := 112) C dJ5_getChars_2_94 (by decide) (fun hc_136 => ?_) (fun hc_136 => ?_)
          · replace hF := hF.1 hc_136
            exact J.locals [2, 0, 3] (hK_127 _ _ hF) rfl
          · replace hF := hF.2 hc_136
            refine j_aload_n C dJ5_getChars_2_97 rfl 2 rfl ?_
            refine j_iinc (q := 0) (v := (w5_117 + (-1)) + (-1)) (L2 := [(5, .int ((w5_117 + (-1)) + (-1))), (0, .int w0_116), (2, .ref x2), (6, .int t_44)]) C dJ5_getChars_2_98 rfl rfl (by decide) rfl ?_
            refine j_iload C dJ5_getChars_2_101 0 rfl ?_
            obtain ⟨v_137, hgd, hF⟩ := hF
            refine jg_gets C hgd q891 rfl dJ5_getChars_2_103 ?_
            refine j_iload_n C dJ5_getChars_2_106 rfl 1 rfl ?_
            refine j_ineg C dJ5_getChars_2_107 ?_
            obtain ⟨n_138, f_139, v_140, hg1, hg2, hg3, hF⟩ := hF
            refine jg_bald C hg1 hg2 dJ5_getChars_2_108 ?_
            rw [hg3]
            obtain ⟨c_141, s_142, hc1, hc2, hF⟩ := hF
            refine j_callS (n := 3) (As := [.ref x2, .int ((w5_117 + (-1)) + (-1)), .int v_140]) (rest := []) C (M_gJ5_putChar G l hG hTab hm (S_126.1, c_141, s_142) x2 ((w5_117 + (-1)) + (-1)) v_140 _ hF) q815 ⟨q816, q100, q817, by decide +kernel⟩ rfl rfl (Nat.le_of_ble_eq_true rfl) ⟨Nat.le_of_ble_eq_true rfl, Nat.le_of_ble_eq_true rfl⟩ hc1 hc2 dJ5_getChars_2_109 (kk_v fun h_144 hF => ?_)
            obtain ⟨S_145, eS_145, hF⟩ := nm_intro hF
            refine g_J eS_145 ?_
            exact J.locals [2, 0, 3] (hK_127 _ _ hF) rfl) hF
  refine j_if_ge (tgt := 11) C dJ5_getChars_2_4 (by decide) (fun hc_146 => ?_) (fun hc_146 => ?_)
  · replace hF := hF.1 hc_146
    refine j_iconst (v := 0) C dJ5_getChars_2_11 rfl ?_
    exact J.locals [1, 3, 0] (hK_42 _ _ hF) rfl
  · replace hF := hF.2 hc_146
    refine j_iconst (v := 1) C dJ5_getChars_2_7 rfl ?_
    refine j_goto (tgt := 12) C dJ5_getChars_2_8 (by decide) ?_
    exact J.locals [1, 3, 0] (hK_42 _ _ hF) rfl
def F_gJ20_toString (G : GT) (S : GZ) (x0 : Int32) (P : Nat → AH → Prop) : Prop := ∃ c_35 s_36 : Nat, c_35 ≤ S.2.1 ∧ s_36 ≤ S.2.2 ∧ F_gJ20_stringSize G (S.1, c_35, s_36) x0 (fun r_37 h_38 => nm (α := GZ) (h_38, S.2.1 - c_35, S.2.2 - s_36) (fun S_39 => ∃ v_40 : Int32, StV G "java/lang/String" "COMPACT_STRINGS" "Z" (.int v_40) ∧ ((v_40 = 0 → ¬ ((r_37 * 2) : Int32) < 0 ∧ 1 ≤ S_39.2.1 ∧ Int32.toNatClampNeg (r_37 * 2) ≤ S_39.2.2 ∧ Int32.toNatClampNeg (r_37 * 2) * componentBytes .byte ≤ 536870912 ∧ ∀ q_42 : Nat, S_39.1 q_42 = none → G.1 ≤ q_42 → (nm (α := GZ) (hup S_39.1 q_42 (.inl (G.2.2.1 2, Int32.toNatClampNeg (r_37 * 2), .inl (fun _ => 0))), S_39.2.1 - 1, S_39.2.2 - Int32.toNatClampNeg (r_37 * 2)) (fun S_43 => ∃ c_44 s_45 : Nat, c_44 ≤ S_43.2.1 ∧ s_45 ≤ S_43.2.2 ∧ F_gJ5_getChars_2 G (S_43.1, c_44, s_45) x0 r_37 q_42 (fun r_46 h_47 => nm (α := GZ) (h_47, S_43.2.1 - c_44, S_43.2.2 - s_45) (fun S_48 => 1 ≤ S_48.2.1 ∧ 4 ≤ S_48.2.2 ∧ ∀ q_49 : Nat, S_48.1 q_49 = none → G.1 ≤ q_49 → (nm (α := GZ) (hup S_48.1 q_49 (.inr (14, [.null, .int 0, .int 0, .int 0])), S_48.2.1 - 1, S_48.2.2 - 4) (fun S_50 => ∃ c_51 s_52 : Nat, c_51 ≤ S_50.2.1 ∧ s_52 ≤ S_50.2.2 ∧ F_gJ4_init_3 G (S_50.1, c_51, s_52) q_49 q_42 1 (fun h_54 => nm (α := GZ) (h_54, S_50.2.1 - c_51, S_50.2.2 - s_52) (fun S_55 => P q_49 S_55.1))))))))) ∧ (¬ v_40 = 0 → ¬ (r_37 : Int32) < 0 ∧ 1 ≤ S_39.2.1 ∧ Int32.toNatClampNeg r_37 ≤ S_39.2.2 ∧ Int32.toNatClampNeg r_37 * componentBytes .byte ≤ 536870912 ∧ ∀ q_56 : Nat, S_39.1 q_56 = none → G.1 ≤ q_56 → (nm (α := GZ) (hup S_39.1 q_56 (.inl (G.2.2.1 2, Int32.toNatClampNeg r_37, .inl (fun _ => 0))), S_39.2.1 - 1, S_39.2.2 - Int32.toNatClampNeg r_37) (fun S_57 => ∃ c_58 s_59 : Nat, c_58 ≤ S_57.2.1 ∧ s_59 ≤ S_57.2.2 ∧ F_gJ20_getChars G (S_57.1, c_58, s_59) x0 r_37 q_56 (fun r_60 h_61 => nm (α := GZ) (h_61, S_57.2.1 - c_58, S_57.2.2 - s_59) (fun S_62 => 1 ≤ S_62.2.1 ∧ 4 ≤ S_62.2.2 ∧ ∀ q_63 : Nat, S_62.1 q_63 = none → G.1 ≤ q_63 → (nm (α := GZ) (hup S_62.1 q_63 (.inr (14, [.null, .int 0, .int 0, .int 0])), S_62.2.1 - 1, S_62.2.2 - 4) (fun S_64 => ∃ c_65 s_66 : Nat, c_65 ≤ S_64.2.1 ∧ s_66 ≤ S_64.2.2 ∧ F_gJ4_init_3 G (S_64.1, c_65, s_66) q_63 q_56 0 (fun h_68 => nm (α := GZ) (h_68, S_64.2.1 - c_65, S_64.2.2 - s_66) (fun S_69 => P q_63 S_69.1))))))))))))
set_option maxHeartbeats 4000000 in
theorem M_gJ20_toString (G : GT) (l : Launch) (hG : GOK G) (hTab : TabF G) (hm : FreeG G) (S : GZ) (x0 : Int32) (P : Nat → AH → Prop) (hF : F_gJ20_toString G S x0 P) : MT G l yJ20_toString cJ20_toString 3 (some (Jvm.ClassFile.FieldType.object "java/lang/String")) 3 98 S.2.1 S.2.2 [.int x0] S.1 (fun v h' => ∃ r : Nat, v = some (.ref r) ∧ P r h') := by
  refine MT.mk (own := RJ20) (by decide) rfl hG (Nat.le_of_ble_eq_true rfl) ?_
  intro p e s m below meth c args Q hargs hQ C hname
  refine J.loca (L2 := [(0, .int x0)]) rfl ?_
  unfold F_gJ20_toString at hF
  refine j_iload_n C dJ20_toString_0 rfl 0 rfl ?_
  obtain ⟨c_35, s_36, hc1, hc2, hF⟩ := hF
  refine j_callS (n := 1) (As := [.int x0]) (rest := []) C (M_gJ20_stringSize G l hG hTab hm (S.1, c_35, s_36) x0 _ hF) q1716 ⟨q875, q125, q876, by decide +kernel⟩ rfl rfl (Nat.le_of_ble_eq_true rfl) ⟨Nat.le_of_ble_eq_true rfl, Nat.le_of_ble_eq_true rfl⟩ hc1 hc2 dJ20_toString_1 (kk_i fun r_37 h_38 hF => ?_)
  obtain ⟨S_39, eS_39, hF⟩ := nm_intro hF
  refine g_J eS_39 ?_
  refine j_istore_n (L2 := [(1, .int r_37), (0, .int x0)]) C dJ20_toString_4 rfl (by decide) rfl ?_
  obtain ⟨v_40, hgd, hF⟩ := hF
  refine jg_gets C hgd q1717 rfl dJ20_toString_5 ?_
  refine j_if_eq (tgt := 32) C dJ20_toString_8 (by decide) (fun hc_41 => ?_) (fun hc_41 => ?_)
  · replace hF := hF.1 hc_41
    refine j_iload_n C dJ20_toString_32 rfl 0 rfl ?_
    refine j_iconst (v := 2) C dJ20_toString_33 rfl ?_
    refine j_imul C dJ20_toString_34 ?_
    obtain ⟨hg1, hg2, hg3, hg4, hF⟩ := hF
    refine j_newa C hm 2 (ty := .byte) rfl (fun _ z => nomatch z) (fun _ => rfl) q253 (Int32.toNatClampNeg (r_37 * 2), .inl (fun _ => 0)) (fun _ => rfl) hg1 rfl hg4 (bc' := S_39.2.1 - 1) (bs' := S_39.2.2 - Int32.toNatClampNeg (r_37 * 2)) (by omega) (by omega) dJ20_toString_35 (fun q_42 hq1 hq2 => ?_)
    replace hF := hF q_42 hq1 hq2
    obtain ⟨S_43, eS_43, hF⟩ := nm_intro hF
    refine g_J eS_43 ?_
    refine j_astore_n (L2 := [(2, .ref q_42), (1, .int r_37), (0, .int x0)]) C dJ20_toString_37 rfl (by decide) rfl ?_
    refine j_iload_n C dJ20_toString_38 rfl 2 rfl ?_
    refine j_iload_n C dJ20_toString_39 rfl 1 rfl ?_
    refine j_aload_n C dJ20_toString_40 rfl 0 rfl ?_
    obtain ⟨c_44, s_45, hc1, hc2, hF⟩ := hF
    refine j_callS (n := 3) (As := [.int x0, .int r_37, .ref q_42]) (rest := []) C (M_gJ5_getChars_2 G l hG hTab hm (S_43.1, c_44, s_45) x0 r_37 q_42 _ hF) q1723 ⟨q888, q100, q889, by decide +kernel⟩ rfl rfl (Nat.le_of_ble_eq_true rfl) ⟨Nat.le_of_ble_eq_true rfl, Nat.le_of_ble_eq_true rfl⟩ hc1 hc2 dJ20_toString_41 (kk_i fun r_46 h_47 hF => ?_)
    obtain ⟨S_48, eS_48, hF⟩ := nm_intro hF
    refine g_J eS_48 ?_
    refine j_pop C dJ20_toString_44 rfl ?_
    obtain ⟨hg1, hg2, hF⟩ := hF
    refine j_new C hm (ci := 14) (Cn := RJ4) (T := TJ4) (N := 4) rfl in_J4 tyJ4 tyJ4_ok q1719 q1092 q99 [.null, .int 0, .int 0, .int 0] (fun j hj => by rcases (show j = 0 ∨ j = 1 ∨ j = 2 ∨ j = 3 by omega) with rfl | rfl | rfl | rfl <;> rfl) (bc' := S_48.2.1 - 1) (bs' := S_48.2.2 - 4) (by omega) (by omega) dJ20_toString_45 (fun q_49 hq1 hq2 => ?_)
    replace hF := hF q_49 hq1 hq2
    obtain ⟨S_50, eS_50, hF⟩ := nm_intro hF
    refine g_J eS_50 ?_
    refine j_dup C dJ20_toString_48 rfl ?_
    refine j_aload_n C dJ20_toString_49 rfl 0 rfl ?_
    refine j_iconst (v := 1) C dJ20_toString_50 rfl ?_
    obtain ⟨c_51, s_52, hc1, hc2, hF⟩ := hF
    refine j_callI (n := 2) (As := [.ref q_42, .int 1]) (rest := [.ref q_49]) C (M_gJ4_init_3 G l hG hTab hm (S_50.1, c_51, s_52) q_49 q_42 1 _ hF) q1720 ⟨q1721, q99, q1722, rfl, by decide +kernel⟩ rfl rfl (Nat.le_of_ble_eq_true rfl) ⟨Nat.le_of_ble_eq_true rfl, Nat.le_of_ble_eq_true rfl⟩ hc1 hc2 dJ20_toString_51 (kk_v fun h_54 hF => ?_)
    obtain ⟨S_55, eS_55, hF⟩ := nm_intro hF
    refine g_J eS_55 ?_
    rw [hQ]
    exact j_aret C (Or.inl ⟨_, rfl⟩) (Or.inr ⟨_, rfl⟩) ⟨_, rfl, hF⟩ dJ20_toString_54
  · replace hF := hF.2 hc_41
    refine j_iload_n C dJ20_toString_11 rfl 0 rfl ?_
    obtain ⟨hg1, hg2, hg3, hg4, hF⟩ := hF
    refine j_newa C hm 2 (ty := .byte) rfl (fun _ z => nomatch z) (fun _ => rfl) q253 (Int32.toNatClampNeg r_37, .inl (fun _ => 0)) (fun _ => rfl) hg1 rfl hg4 (bc' := S_39.2.1 - 1) (bs' := S_39.2.2 - Int32.toNatClampNeg r_37) (by omega) (by omega) dJ20_toString_12 (fun q_56 hq1 hq2 => ?_)
    replace hF := hF q_56 hq1 hq2
    obtain ⟨S_57, eS_57, hF⟩ := nm_intro hF
    refine g_J eS_57 ?_
    refine j_astore_n (L2 := [(2, .ref q_56), (1, .int r_37), (0, .int x0)]) C dJ20_toString_14 rfl (by decide) rfl ?_
    refine j_iload_n C dJ20_toString_15 rfl 2 rfl ?_
    refine j_iload_n C dJ20_toString_16 rfl 1 rfl ?_
    refine j_aload_n C dJ20_toString_17 rfl 0 rfl ?_
    obtain ⟨c_58, s_59, hc1, hc2, hF⟩ := hF
    refine j_callS (n := 3) (As := [.int x0, .int r_37, .ref q_56]) (rest := []) C (M_gJ20_getChars G l hG hTab hm (S_57.1, c_58, s_59) x0 r_37 q_56 _ hF) q1718 ⟨q878, q125, q879, by decide +kernel⟩ rfl rfl (Nat.le_of_ble_eq_true rfl) ⟨Nat.le_of_ble_eq_true rfl, Nat.le_of_ble_eq_true rfl⟩ hc1 hc2 dJ20_toString_18 (kk_i fun r_60 h_61 hF => ?_)
    obtain ⟨S_62, eS_62, hF⟩ := nm_intro hF
    refine g_J eS_62 ?_
    refine j_pop C dJ20_toString_21 rfl ?_
    obtain ⟨hg1, hg2, hF⟩ := hF
    refine j_new C hm (ci := 14) (Cn := RJ4) (T := TJ4) (N := 4) rfl in_J4 tyJ4 tyJ4_ok q1719 q1092 q99 [.null, .int 0, .int 0, .int 0] (fun j hj => by rcases (show j = 0 ∨ j = 1 ∨ j = 2 ∨ j = 3 by omega) with rfl | rfl | rfl | rfl <;> rfl) (bc' := S_62.2.1 - 1) (bs' := S_62.2.2 - 4) (by omega) (by omega) dJ20_toString_22 (fun q_63 hq1 hq2 => ?_)
    replace hF := hF q_63 hq1 hq2
    obtain ⟨S_64, eS_64, hF⟩ := nm_intro hF
    refine g_J eS_64 ?_
    refine j_dup C dJ20_toString_25 rfl ?_
    refine j_aload_n C dJ20_toString_26 rfl 0 rfl ?_
    refine j_iconst (v := 0) C dJ20_toString_27 rfl ?_
    obtain ⟨c_65, s_66, hc1, hc2, hF⟩ := hF
    refine j_callI (n := 2) (As := [.ref q_56, .int 0]) (rest := [.ref q_63]) C (M_gJ4_init_3 G l hG hTab hm (S_64.1, c_65, s_66) q_63 q_56 0 _ hF) q1720 ⟨q1721, q99, q1722, rfl, by decide +kernel⟩ rfl rfl (Nat.le_of_ble_eq_true rfl) ⟨Nat.le_of_ble_eq_true rfl, Nat.le_of_ble_eq_true rfl⟩ hc1 hc2 dJ20_toString_28 (kk_v fun h_68 hF => ?_)
    obtain ⟨S_69, eS_69, hF⟩ := nm_intro hF
    refine g_J eS_69 ?_
    rw [hQ]
    exact j_aret C (Or.inl ⟨_, rfl⟩) (Or.inr ⟨_, rfl⟩) ⟨_, rfl, hF⟩ dJ20_toString_31
def F_gJ24_canEncode (G : GT) (S : GZ) (x0 : Int32) (P : Int32 → AH → Prop) : Prop := (255 < x0 → P 0 S.1) ∧ (¬ 255 < x0 → P 1 S.1)
set_option maxHeartbeats 4000000 in
theorem M_gJ24_canEncode (G : GT) (l : Launch) (hG : GOK G) (hTab : TabF G) (hm : FreeG G) (S : GZ) (x0 : Int32) (P : Int32 → AH → Prop) (hF : F_gJ24_canEncode G S x0 P) : MT G l yJ24_canEncode cJ24_canEncode 1 (some Jvm.ClassFile.FieldType.boolean) 0 0 S.2.1 S.2.2 [.int x0] S.1 (fun v h' => ∃ r : Int32, v = some (.int r) ∧ P r h') := by
  refine MT.mk (own := RJ24) (by decide) rfl hG (Nat.le_of_ble_eq_true rfl) ?_
  intro p e s m below meth c args Q hargs hQ C hname
  refine J.loca (L2 := [(0, .int x0)]) rfl ?_
  unfold F_gJ24_canEncode at hF
  refine j_iload_n C dJ24_canEncode_0 rfl 0 rfl ?_
  refine j_sipush (v := 255) C dJ24_canEncode_1 rfl ?_
  refine j_icmp_gt (tgt := 11) C dJ24_canEncode_4 (by decide) (fun hc_1 => ?_) (fun hc_1 => ?_)
  · replace hF := hF.1 hc_1
    refine j_iconst (v := 0) C dJ24_canEncode_11 rfl ?_
    rw [hQ]
    exact j_iret C rfl ⟨_, rfl, hF⟩ dJ24_canEncode_12
  · replace hF := hF.2 hc_1
    refine j_iconst (v := 1) C dJ24_canEncode_7 rfl ?_
    refine j_goto (tgt := 12) C dJ24_canEncode_8 (by decide) ?_
    rw [hQ]
    exact j_iret C rfl ⟨_, rfl, hF⟩ dJ24_canEncode_12
def F_gJ4_checkIndex (G : GT) (S : GZ) (x0 : Int32) (x1 : Int32) (P : AH → Prop) : Prop := ∃ v_7 : Option Nat, StV G "jdk/internal/util/Preconditions" "SIOOBE_FORMATTER" "Ljava/util/function/BiFunction;" (va_rf v_7) ∧ (∃ c_8 s_9 : Nat, c_8 ≤ S.2.1 ∧ s_9 ≤ S.2.2 ∧ F_gJ23_checkIndex G (S.1, c_8, s_9) x0 x1 v_7 (fun r_10 h_11 => nm (α := GZ) (h_11, S.2.1 - c_8, S.2.2 - s_9) (fun S_12 => P S_12.1)))
set_option maxHeartbeats 4000000 in
theorem M_gJ4_checkIndex (G : GT) (l : Launch) (hG : GOK G) (hTab : TabF G) (hm : FreeG G) (S : GZ) (x0 : Int32) (x1 : Int32) (P : AH → Prop) (hF : F_gJ4_checkIndex G S x0 x1 P) : MT G l yJ4_checkIndex cJ4_checkIndex 2 none 1 32 S.2.1 S.2.2 [.int x0, .int x1] S.1 (fun v h' => v = none ∧ P h') := by
  refine MT.mk (own := RJ4) (by decide) rfl hG (Nat.le_of_ble_eq_true rfl) ?_
  intro p e s m below meth c args Q hargs hQ C hname
  refine J.loca (L2 := [(0, .int x0), (1, .int x1)]) rfl ?_
  unfold F_gJ4_checkIndex at hF
  refine j_iload_n C dJ4_checkIndex_0 rfl 0 rfl ?_
  refine j_iload_n C dJ4_checkIndex_1 rfl 1 rfl ?_
  obtain ⟨v_7, hgd, hF⟩ := hF
  refine jg_gets C hgd q810 rfl dJ4_checkIndex_2 ?_
  obtain ⟨c_8, s_9, hc1, hc2, hF⟩ := hF
  refine j_callS (n := 3) (As := [.int x0, .int x1, va_rf v_7]) (rest := []) C (M_gJ23_checkIndex G l hG hTab hm (S.1, c_8, s_9) x0 x1 v_7 _ hF) q915 ⟨q916, q129, q917, by decide +kernel⟩ rfl rfl (Nat.le_of_ble_eq_true rfl) ⟨Nat.le_of_ble_eq_true rfl, Nat.le_of_ble_eq_true rfl⟩ hc1 hc2 dJ4_checkIndex_5 (kk_i fun r_10 h_11 hF => ?_)
  obtain ⟨S_12, eS_12, hF⟩ := nm_intro hF
  refine g_J eS_12 ?_
  refine j_pop C dJ4_checkIndex_8 rfl ?_
  rw [hQ]
  exact j_vret C ⟨rfl, hF⟩ dJ4_checkIndex_9
def F_gJ24_charAt (G : GT) (S : GZ) (x0 : Nat) (x1 : Int32) (P : Int32 → AH → Prop) : Prop := ∃ n_10 : Nat, aL G S.1 x0 n_10 ∧ (∃ c_11 s_12 : Nat, c_11 ≤ S.2.1 ∧ s_12 ≤ S.2.2 ∧ F_gJ4_checkIndex G (S.1, c_11, s_12) x1 (Int32.ofNat n_10) (fun h_14 => nm (α := GZ) (h_14, S.2.1 - c_11, S.2.2 - s_12) (fun S_15 => ∃ (n_16 : Nat) (f_17 : Nat → Int32) (v_18 : Int32), aB G S_15.1 x0 n_16 f_17 ∧ vp_in x1 n_16 ∧ f_17 (Int32.toNatClampNeg x1) = v_18 ∧ ((narrow .char (.int (((v_18 &&& 255).toUInt32 % 65536).toInt32)) = .int (((v_18 &&& 255).toUInt32 % 65536).toInt32)) ∧ P (((v_18 &&& 255).toUInt32 % 65536).toInt32) S_15.1))))
set_option maxHeartbeats 4000000 in
theorem M_gJ24_charAt (G : GT) (l : Launch) (hG : GOK G) (hTab : TabF G) (hm : FreeG G) (S : GZ) (x0 : Nat) (x1 : Int32) (P : Int32 → AH → Prop) (hF : F_gJ24_charAt G S x0 x1 P) : MT G l yJ24_charAt cJ24_charAt 2 (some Jvm.ClassFile.FieldType.char) 2 63 S.2.1 S.2.2 [.ref x0, .int x1] S.1 (fun v h' => ∃ r : Int32, v = some (.int r) ∧ P r h') := by
  refine MT.mk (own := RJ24) (by decide) rfl hG (Nat.le_of_ble_eq_true rfl) ?_
  intro p e s m below meth c args Q hargs hQ C hname
  refine J.loca (L2 := [(0, .ref x0), (1, .int x1)]) rfl ?_
  unfold F_gJ24_charAt at hF
  refine j_iload_n C dJ24_charAt_0 rfl 1 rfl ?_
  refine j_aload_n C dJ24_charAt_1 rfl 0 rfl ?_
  obtain ⟨n_10, hgd, hF⟩ := hF
  refine jg_alen C hgd dJ24_charAt_2 ?_
  obtain ⟨c_11, s_12, hc1, hc2, hF⟩ := hF
  refine j_callS (n := 2) (As := [.int x1, .int (Int32.ofNat n_10)]) (rest := []) C (M_gJ4_checkIndex G l hG hTab hm (S.1, c_11, s_12) x1 (Int32.ofNat n_10) _ hF) q1603 ⟨q913, q99, q914, by decide +kernel⟩ rfl rfl (Nat.le_of_ble_eq_true rfl) ⟨Nat.le_of_ble_eq_true rfl, Nat.le_of_ble_eq_true rfl⟩ hc1 hc2 dJ24_charAt_3 (kk_v fun h_14 hF => ?_)
  obtain ⟨S_15, eS_15, hF⟩ := nm_intro hF
  refine g_J eS_15 ?_
  refine j_aload_n C dJ24_charAt_6 rfl 0 rfl ?_
  refine j_iload_n C dJ24_charAt_7 rfl 1 rfl ?_
  obtain ⟨n_16, f_17, v_18, hg1, hg2, hg3, hF⟩ := hF
  refine jg_bald C hg1 hg2 dJ24_charAt_8 ?_
  rw [hg3]
  refine j_sipush (v := 255) C dJ24_charAt_9 rfl ?_
  refine j_iand C dJ24_charAt_12 ?_
  refine j_i2c C dJ24_charAt_13 ?_
  rw [hQ]
  exact j_iret C hF.1 ⟨_, rfl, hF.2⟩ dJ24_charAt_14
def F_gJ24_fillNull (G : GT) (S : GZ) (x0 : Nat) (x1 : Int32) (x2 : Int32) (P : AH → Prop) : Prop := ∃ c_6 s_7 : Nat, c_6 ≤ S.2.1 ∧ s_7 ≤ S.2.2 ∧ F_gJ12_fill G (S.1, c_6, s_7) x0 x1 x2 0 (fun h_9 => nm (α := GZ) (h_9, S.2.1 - c_6, S.2.2 - s_7) (fun S_10 => P S_10.1))
set_option maxHeartbeats 4000000 in
theorem M_gJ24_fillNull (G : GT) (l : Launch) (hG : GOK G) (hTab : TabF G) (hm : FreeG G) (S : GZ) (x0 : Nat) (x1 : Int32) (x2 : Int32) (P : AH → Prop) (hF : F_gJ24_fillNull G S x0 x1 x2 P) : MT G l yJ24_fillNull cJ24_fillNull 3 none 2 66 S.2.1 S.2.2 [.ref x0, .int x1, .int x2] S.1 (fun v h' => v = none ∧ P h') := by
  refine MT.mk (own := RJ24) (by decide) rfl hG (Nat.le_of_ble_eq_true rfl) ?_
  intro p e s m below meth c args Q hargs hQ C hname
  refine J.loca (L2 := [(0, .ref x0), (1, .int x1), (2, .int x2)]) rfl ?_
  unfold F_gJ24_fillNull at hF
  refine j_aload_n C dJ24_fillNull_0 rfl 0 rfl ?_
  refine j_iload_n C dJ24_fillNull_1 rfl 1 rfl ?_
  refine j_iload_n C dJ24_fillNull_2 rfl 2 rfl ?_
  refine j_iconst (v := 0) C dJ24_fillNull_3 rfl ?_
  obtain ⟨c_6, s_7, hc1, hc2, hF⟩ := hF
  refine j_callS (n := 4) (As := [.ref x0, .int x1, .int x2, .int 0]) (rest := []) C (M_gJ12_fill G l hG hTab hm (S.1, c_6, s_7) x0 x1 x2 0 _ hF) q1550 ⟨q1551, q111, q1552, by decide +kernel⟩ rfl rfl (Nat.le_of_ble_eq_true rfl) ⟨Nat.le_of_ble_eq_true rfl, Nat.le_of_ble_eq_true rfl⟩ hc1 hc2 dJ24_fillNull_4 (kk_v fun h_9 hF => ?_)
  obtain ⟨S_10, eS_10, hF⟩ := nm_intro hF
  refine g_J eS_10 ?_
  rw [hQ]
  exact j_vret C ⟨rfl, hF⟩ dJ24_fillNull_7
def F_gJ4_checkBoundsOffCount (G : GT) (S : GZ) (x0 : Int32) (x1 : Int32) (x2 : Int32) (P : Int32 → AH → Prop) : Prop := ∃ v_7 : Option Nat, StV G "jdk/internal/util/Preconditions" "SIOOBE_FORMATTER" "Ljava/util/function/BiFunction;" (va_rf v_7) ∧ (∃ c_8 s_9 : Nat, c_8 ≤ S.2.1 ∧ s_9 ≤ S.2.2 ∧ F_gJ23_checkFromIndexSize G (S.1, c_8, s_9) x0 x1 x2 v_7 (fun r_10 h_11 => nm (α := GZ) (h_11, S.2.1 - c_8, S.2.2 - s_9) (fun S_12 => P r_10 S_12.1)))
set_option maxHeartbeats 4000000 in
theorem M_gJ4_checkBoundsOffCount (G : GT) (l : Launch) (hG : GOK G) (hTab : TabF G) (hm : FreeG G) (S : GZ) (x0 : Int32) (x1 : Int32) (x2 : Int32) (P : Int32 → AH → Prop) (hF : F_gJ4_checkBoundsOffCount G S x0 x1 x2 P) : MT G l yJ4_checkBoundsOffCount cJ4_checkBoundsOffCount 3 (some Jvm.ClassFile.FieldType.int) 1 33 S.2.1 S.2.2 [.int x0, .int x1, .int x2] S.1 (fun v h' => ∃ r : Int32, v = some (.int r) ∧ P r h') := by
  refine MT.mk (own := RJ4) (by decide) rfl hG (Nat.le_of_ble_eq_true rfl) ?_
  intro p e s m below meth c args Q hargs hQ C hname
  refine J.loca (L2 := [(0, .int x0), (1, .int x1), (2, .int x2)]) rfl ?_
  unfold F_gJ4_checkBoundsOffCount at hF
  refine j_iload_n C dJ4_checkBoundsOffCount_0 rfl 0 rfl ?_
  refine j_iload_n C dJ4_checkBoundsOffCount_1 rfl 1 rfl ?_
  refine j_iload_n C dJ4_checkBoundsOffCount_2 rfl 2 rfl ?_
  obtain ⟨v_7, hgd, hF⟩ := hF
  refine jg_gets C hgd q810 rfl dJ4_checkBoundsOffCount_3 ?_
  obtain ⟨c_8, s_9, hc1, hc2, hF⟩ := hF
  refine j_callS (n := 4) (As := [.int x0, .int x1, .int x2, va_rf v_7]) (rest := []) C (M_gJ23_checkFromIndexSize G l hG hTab hm (S.1, c_8, s_9) x0 x1 x2 v_7 _ hF) q858 ⟨q859, q129, q860, by decide +kernel⟩ rfl rfl (Nat.le_of_ble_eq_true rfl) ⟨Nat.le_of_ble_eq_true rfl, Nat.le_of_ble_eq_true rfl⟩ hc1 hc2 dJ4_checkBoundsOffCount_6 (kk_i fun r_10 h_11 hF => ?_)
  obtain ⟨S_12, eS_12, hF⟩ := nm_intro hF
  refine g_J eS_12 ?_
  rw [hQ]
  exact j_iret C rfl ⟨_, rfl, hF⟩ dJ4_checkBoundsOffCount_9
def F_gJ5_checkBoundsOffCount (G : GT) (S : GZ) (x0 : Int32) (x1 : Int32) (x2 : Nat) (P : AH → Prop) : Prop := ∃ c_11 s_12 : Nat, c_11 ≤ S.2.1 ∧ s_12 ≤ S.2.2 ∧ F_gJ5_length G (S.1, c_11, s_12) x2 (fun r_13 h_14 => nm (α := GZ) (h_14, S.2.1 - c_11, S.2.2 - s_12) (fun S_15 => ∃ c_16 s_17 : Nat, c_16 ≤ S_15.2.1 ∧ s_17 ≤ S_15.2.2 ∧ F_gJ4_checkBoundsOffCount G (S_15.1, c_16, s_17) x0 x1 r_13 (fun r_18 h_19 => nm (α := GZ) (h_19, S_15.2.1 - c_16, S_15.2.2 - s_17) (fun S_20 => P S_20.1))))
set_option maxHeartbeats 4000000 in
theorem M_gJ5_checkBoundsOffCount (G : GT) (l : Launch) (hG : GOK G) (hTab : TabF G) (hm : FreeG G) (S : GZ) (x0 : Int32) (x1 : Int32) (x2 : Nat) (P : AH → Prop) (hF : F_gJ5_checkBoundsOffCount G S x0 x1 x2 P) : MT G l yJ5_checkBoundsOffCount cJ5_checkBoundsOffCount 3 none 2 65 S.2.1 S.2.2 [.int x0, .int x1, .ref x2] S.1 (fun v h' => v = none ∧ P h') := by
  refine MT.mk (own := RJ5) (by decide) rfl hG (Nat.le_of_ble_eq_true rfl) ?_
  intro p e s m below meth c args Q hargs hQ C hname
  refine J.loca (L2 := [(0, .int x0), (1, .int x1), (2, .ref x2)]) rfl ?_
  unfold F_gJ5_checkBoundsOffCount at hF
  refine j_iload_n C dJ5_checkBoundsOffCount_0 rfl 0 rfl ?_
  refine j_iload_n C dJ5_checkBoundsOffCount_1 rfl 1 rfl ?_
  refine j_aload_n C dJ5_checkBoundsOffCount_2 rfl 2 rfl ?_
  obtain ⟨c_11, s_12, hc1, hc2, hF⟩ := hF
  refine j_callS (n := 1) (As := [.ref x2]) (rest := [.int x1, .int x0]) C (M_gJ5_length G l hG hTab hm (S.1, c_11, s_12) x2 _ hF) q804 ⟨q805, q100, q806, by decide +kernel⟩ rfl rfl (Nat.le_of_ble_eq_true rfl) ⟨Nat.le_of_ble_eq_true rfl, Nat.le_of_ble_eq_true rfl⟩ hc1 hc2 dJ5_checkBoundsOffCount_3 (kk_i fun r_13 h_14 hF => ?_)
  obtain ⟨S_15, eS_15, hF⟩ := nm_intro hF
  refine g_J eS_15 ?_
  obtain ⟨c_16, s_17, hc1, hc2, hF⟩ := hF
  refine j_callS (n := 3) (As := [.int x0, .int x1, .int r_13]) (rest := []) C (M_gJ4_checkBoundsOffCount G l hG hTab hm (S_15.1, c_16, s_17) x0 x1 r_13 _ hF) q855 ⟨q856, q99, q857, by decide +kernel⟩ rfl rfl (Nat.le_of_ble_eq_true rfl) ⟨Nat.le_of_ble_eq_true rfl, Nat.le_of_ble_eq_true rfl⟩ hc1 hc2 dJ5_checkBoundsOffCount_6 (kk_i fun r_18 h_19 hF => ?_)
  obtain ⟨S_20, eS_20, hF⟩ := nm_intro hF
  refine g_J eS_20 ?_
  refine j_pop C dJ5_checkBoundsOffCount_9 rfl ?_
  rw [hQ]
  exact j_vret C ⟨rfl, hF⟩ dJ5_checkBoundsOffCount_10
def L_gJ5_inflate_10 (G : GT) (P : AH → Prop) (f0 : Nat) (f2 : Nat) (f4 : Int32) : Nat → GZ → Int32 → Int32 → Int32 → Prop
  | 0, _, _, _, _ => False
  | n + 1, S, z1, z3, z5 => (f4 ≤ z5 → P S.1) ∧ (¬ f4 ≤ z5 → ∃ (n_20 : Nat) (f_21 : Nat → Int32) (v_22 : Int32), aB G S.1 f0 n_20 f_21 ∧ vp_in z1 n_20 ∧ f_21 (Int32.toNatClampNeg z1) = v_22 ∧ (∃ c_23 s_24 : Nat, c_23 ≤ S.2.1 ∧ s_24 ≤ S.2.2 ∧ F_gJ5_putChar G (S.1, c_23, s_24) f2 z3 (v_22 &&& 255) (fun h_26 => nm (α := GZ) (h_26, S.2.1 - c_23, S.2.2 - s_24) (fun S_27 => L_gJ5_inflate_10 G P f0 f2 f4 n S_27 (z1 + 1) (z3 + 1) (z5 + 1)))))
def F_gJ5_inflate (G : GT) (S : GZ) (x0 : Nat) (x1 : Int32) (x2 : Nat) (x3 : Int32) (x4 : Int32) (P : AH → Prop) : Prop := ∃ c_14 s_15 : Nat, c_14 ≤ S.2.1 ∧ s_15 ≤ S.2.2 ∧ F_gJ5_checkBoundsOffCount G (S.1, c_14, s_15) x3 x4 x2 (fun h_17 => nm (α := GZ) (h_17, S.2.1 - c_14, S.2.2 - s_15) (fun S_18 => L_gJ5_inflate_10 G P x0 x2 x4 NF S_18 x1 x3 0))
set_option maxHeartbeats 4000000 in
theorem WL_gJ5_inflate_10 {G : GT} {p : Program} {l : Launch} {e : Env} {s : State} {m : MethodId} {args : Array Value} {below : List Frame} {meth : Method} {c : Code} {Q : State → Prop} {c0 s0 : Nat} (C : Cx G p s m args meth c cJ5_inflate RJ5 6 none) (hG : GOK G) (hTab : TabF G) (hm : FreeG G) (hname : meth.name = yJ5_inflate.name) {P : AH → Prop} (hQ : Q = MQ below (SQ G (fun v h' => v = none ∧ P h')) args s (({ frames := 3, cells := c0, slots := s0, locals := 97 } : Room) : Room).cells (({ frames := 3, cells := c0, slots := s0, locals := 97 } : Room) : Room).slots (fun q => G.1 ≤ q)) {f0 : Nat} {f2 : Nat} {f4 : Int32} :
    ∀ (n : Nat) (S : GZ) (z1 : Int32) (z3 : Int32) (z5 : Int32), L_gJ5_inflate_10 G P f0 f2 f4 n S z1 z3 z5 → J G p l e ({ frames := 3, cells := c0, slots := s0, locals := 97 } : Room) s m args below meth c 6 Q S.2.1 S.2.2 S.1 10 [(0, .ref f0), (1, .int z1), (2, .ref f2), (3, .int z3), (4, .int f4), (5, .int z5)] [] := by
  intro n
  induction n with
  | zero => intro S z1 z3 z5 hF; exact hF.elim
  | succ n ih =>
    intro S z1 z3 z5 hF
    unfold L_gJ5_inflate_10 at hF
    refine j_iload C dJ5_inflate_10 5 rfl ?_
    refine j_iload C dJ5_inflate_12 4 rfl ?_
    refine j_icmp_ge (tgt := 41) C dJ5_inflate_14 (by decide) (fun hc_19 => ?_) (fun hc_19 => ?_)
    · replace hF := hF.1 hc_19
      rw [hQ]
      exact j_vret C ⟨rfl, hF⟩ dJ5_inflate_41
    · replace hF := hF.2 hc_19
      refine j_aload_n C dJ5_inflate_17 rfl 2 rfl ?_
      refine j_iload_n C dJ5_inflate_18 rfl 3 rfl ?_
      refine j_iinc (q := 3) (v := z3 + 1) (L2 := [(3, .int (z3 + 1)), (0, .ref f0), (1, .int z1), (2, .ref f2), (4, .int f4), (5, .int z5)]) C dJ5_inflate_19 rfl rfl (by decide) rfl ?_
      refine j_aload_n C dJ5_inflate_22 rfl 1 rfl ?_
      refine j_iload_n C dJ5_inflate_23 rfl 2 rfl ?_
      refine j_iinc (q := 2) (v := z1 + 1) (L2 := [(1, .int (z1 + 1)), (3, .int (z3 + 1)), (0, .ref f0), (2, .ref f2), (4, .int f4), (5, .int z5)]) C dJ5_inflate_24 rfl rfl (by decide) rfl ?_
      obtain ⟨n_20, f_21, v_22, hg1, hg2, hg3, hF⟩ := hF
      refine jg_bald C hg1 hg2 dJ5_inflate_27 ?_
      rw [hg3]
      refine j_sipush (v := 255) C dJ5_inflate_28 rfl ?_
      refine j_iand C dJ5_inflate_31 ?_
      obtain ⟨c_23, s_24, hc1, hc2, hF⟩ := hF
      refine j_callS (n := 3) (As := [.ref f2, .int z3, .int (v_22 &&& 255)]) (rest := []) C (M_gJ5_putChar G l hG hTab hm (S.1, c_23, s_24) f2 z3 (v_22 &&& 255) _ hF) q815 ⟨q816, q100, q817, by decide +kernel⟩ rfl rfl (Nat.le_of_ble_eq_true rfl) ⟨Nat.le_of_ble_eq_true rfl, Nat.le_of_ble_eq_true rfl⟩ hc1 hc2 dJ5_inflate_32 (kk_v fun h_26 hF => ?_)
      obtain ⟨S_27, eS_27, hF⟩ := nm_intro hF
      refine g_J eS_27 ?_
      refine j_iinc (q := 5) (v := z5 + 1) (L2 := [(5, .int (z5 + 1)), (1, .int (z1 + 1)), (3, .int (z3 + 1)), (0, .ref f0), (2, .ref f2), (4, .int f4)]) C dJ5_inflate_35 rfl rfl (by decide) rfl ?_
      refine j_goto (tgt := 10) C dJ5_inflate_38 (by decide) ?_
      exact J.locals [3, 1, 4, 2, 5, 0] (ih _ _ _ _ hF) rfl
set_option maxHeartbeats 4000000 in
theorem M_gJ5_inflate (G : GT) (l : Launch) (hG : GOK G) (hTab : TabF G) (hm : FreeG G) (S : GZ) (x0 : Nat) (x1 : Int32) (x2 : Nat) (x3 : Int32) (x4 : Int32) (P : AH → Prop) (hF : F_gJ5_inflate G S x0 x1 x2 x3 x4 P) : MT G l yJ5_inflate cJ5_inflate 6 none 3 97 S.2.1 S.2.2 [.ref x0, .int x1, .ref x2, .int x3, .int x4] S.1 (fun v h' => v = none ∧ P h') := by
  refine MT.mk (own := RJ5) (by decide) rfl hG (Nat.le_of_ble_eq_true rfl) ?_
  intro p e s m below meth c args Q hargs hQ C hname
  refine J.loca (L2 := [(0, .ref x0), (1, .int x1), (2, .ref x2), (3, .int x3), (4, .int x4)]) rfl ?_
  unfold F_gJ5_inflate at hF
  refine j_iload_n C dJ5_inflate_0 rfl 3 rfl ?_
  refine j_iload C dJ5_inflate_1 4 rfl ?_
  refine j_aload_n C dJ5_inflate_3 rfl 2 rfl ?_
  obtain ⟨c_14, s_15, hc1, hc2, hF⟩ := hF
  refine j_callS (n := 3) (As := [.int x3, .int x4, .ref x2]) (rest := []) C (M_gJ5_checkBoundsOffCount G l hG hTab hm (S.1, c_14, s_15) x3 x4 x2 _ hF) q852 ⟨q853, q100, q854, by decide +kernel⟩ rfl rfl (Nat.le_of_ble_eq_true rfl) ⟨Nat.le_of_ble_eq_true rfl, Nat.le_of_ble_eq_true rfl⟩ hc1 hc2 dJ5_inflate_4 (kk_v fun h_17 hF => ?_)
  obtain ⟨S_18, eS_18, hF⟩ := nm_intro hF
  refine g_J eS_18 ?_
  refine j_iconst (v := 0) C dJ5_inflate_7 rfl ?_
  refine j_istore (L2 := [(5, .int 0), (0, .ref x0), (1, .int x1), (2, .ref x2), (3, .int x3), (4, .int x4)]) C dJ5_inflate_8 (by decide) rfl ?_
  refine J.locals [1, 2, 3, 4, 5, 0] (WL_gJ5_inflate_10 C hG hTab hm hname hQ NF _ _ _ _ hF) rfl
def F_gJ24_inflate (G : GT) (S : GZ) (x0 : Nat) (x1 : Int32) (x2 : Nat) (x3 : Int32) (x4 : Int32) (P : AH → Prop) : Prop := ∃ c_6 s_7 : Nat, c_6 ≤ S.2.1 ∧ s_7 ≤ S.2.2 ∧ F_gJ5_inflate G (S.1, c_6, s_7) x0 x1 x2 x3 x4 (fun h_9 => nm (α := GZ) (h_9, S.2.1 - c_6, S.2.2 - s_7) (fun S_10 => P S_10.1))
set_option maxHeartbeats 4000000 in
theorem M_gJ24_inflate (G : GT) (l : Launch) (hG : GOK G) (hTab : TabF G) (hm : FreeG G) (S : GZ) (x0 : Nat) (x1 : Int32) (x2 : Nat) (x3 : Int32) (x4 : Int32) (P : AH → Prop) (hF : F_gJ24_inflate G S x0 x1 x2 x3 x4 P) : MT G l yJ24_inflate cJ24_inflate 5 none 4 132 S.2.1 S.2.2 [.ref x0, .int x1, .ref x2, .int x3, .int x4] S.1 (fun v h' => v = none ∧ P h') := by
  refine MT.mk (own := RJ24) (by decide) rfl hG (Nat.le_of_ble_eq_true rfl) ?_
  intro p e s m below meth c args Q hargs hQ C hname
  refine J.loca (L2 := [(0, .ref x0), (1, .int x1), (2, .ref x2), (3, .int x3), (4, .int x4)]) rfl ?_
  unfold F_gJ24_inflate at hF
  refine j_aload_n C dJ24_inflate_0 rfl 0 rfl ?_
  refine j_iload_n C dJ24_inflate_1 rfl 1 rfl ?_
  refine j_aload_n C dJ24_inflate_2 rfl 2 rfl ?_
  refine j_iload_n C dJ24_inflate_3 rfl 3 rfl ?_
  refine j_iload C dJ24_inflate_4 4 rfl ?_
  obtain ⟨c_6, s_7, hc1, hc2, hF⟩ := hF
  refine j_callS (n := 5) (As := [.ref x0, .int x1, .ref x2, .int x3, .int x4]) (rest := []) C (M_gJ5_inflate G l hG hTab hm (S.1, c_6, s_7) x0 x1 x2 x3 x4 _ hF) q849 ⟨q850, q100, q851, by decide +kernel⟩ rfl rfl (Nat.le_of_ble_eq_true rfl) ⟨Nat.le_of_ble_eq_true rfl, Nat.le_of_ble_eq_true rfl⟩ hc1 hc2 dJ24_inflate_6 (kk_v fun h_9 hF => ?_)
  obtain ⟨S_10, eS_10, hF⟩ := nm_intro hF
  refine g_J eS_10 ?_
  rw [hQ]
  exact j_vret C ⟨rfl, hF⟩ dJ24_inflate_9
def F_gJ4_coder (G : GT) (S : GZ) (x0 : Nat) (P : Int32 → AH → Prop) : Prop := ∃ v_3 : Int32, StV G "java/lang/String" "COMPACT_STRINGS" "Z" (.int v_3) ∧ ((v_3 = 0 → P 1 S.1) ∧ (¬ v_3 = 0 → ∃ v_5 : Int32, aF G S.1 x0 14 1 (.int v_5) ∧ ((narrow .byte (.int v_5) = .int v_5) ∧ P v_5 S.1)))
set_option maxHeartbeats 4000000 in
theorem M_gJ4_coder (G : GT) (l : Launch) (hG : GOK G) (hTab : TabF G) (hm : FreeG G) (S : GZ) (x0 : Nat) (P : Int32 → AH → Prop) (hF : F_gJ4_coder G S x0 P) : MT G l yJ4_coder cJ4_coder 1 (some Jvm.ClassFile.FieldType.byte) 0 0 S.2.1 S.2.2 [.ref x0] S.1 (fun v h' => ∃ r : Int32, v = some (.int r) ∧ P r h') := by
  refine MT.mk (own := RJ4) (by decide) rfl hG (Nat.le_of_ble_eq_true rfl) ?_
  intro p e s m below meth c args Q hargs hQ C hname
  refine J.loca (L2 := [(0, .ref x0)]) rfl ?_
  unfold F_gJ4_coder at hF
  obtain ⟨v_3, hgd, hF⟩ := hF
  refine jg_gets C hgd q832 rfl dJ4_coder_0 ?_
  refine j_if_eq (tgt := 13) C dJ4_coder_3 (by decide) (fun hc_4 => ?_) (fun hc_4 => ?_)
  · replace hF := hF.1 hc_4
    refine j_iconst (v := 1) C dJ4_coder_13 rfl ?_
    rw [hQ]
    exact j_iret C rfl ⟨_, rfl, hF⟩ dJ4_coder_14
  · replace hF := hF.2 hc_4
    refine j_aload_n C dJ4_coder_6 rfl 0 rfl ?_
    obtain ⟨v_5, hgd, hF⟩ := hF
    refine jg_get C (T := TJ4) (N := 4) rfl in_J4 1 (by decide) q1504 rfl hgd dJ4_coder_7 ?_
    refine j_goto (tgt := 14) C dJ4_coder_10 (by decide) ?_
    rw [hQ]
    exact j_iret C hF.1 ⟨_, rfl, hF.2⟩ dJ4_coder_14
def F_gJ4_length (G : GT) (S : GZ) (x0 : Nat) (P : Int32 → AH → Prop) : Prop := ∃ v_8 : Nat, aF G S.1 x0 14 0 (.ref v_8) ∧ (∃ n_9 : Nat, aL G S.1 v_8 n_9 ∧ (aC G S.1 x0 14 ∧ ∃ c_10 s_11 : Nat, c_10 ≤ S.2.1 ∧ s_11 ≤ S.2.2 ∧ F_gJ4_coder G (S.1, c_10, s_11) x0 (fun r_12 h_13 => nm (α := GZ) (h_13, S.2.1 - c_10, S.2.2 - s_11) (fun S_14 => P ((Int32.ofNat n_9) >>> (r_12 &&& 31)) S_14.1))))
set_option maxHeartbeats 4000000 in
theorem M_gJ4_length (G : GT) (l : Launch) (hG : GOK G) (hTab : TabF G) (hm : FreeG G) (S : GZ) (x0 : Nat) (P : Int32 → AH → Prop) (hF : F_gJ4_length G S x0 P) : MT G l yJ4_length cJ4_length 1 (some Jvm.ClassFile.FieldType.int) 1 30 S.2.1 S.2.2 [.ref x0] S.1 (fun v h' => ∃ r : Int32, v = some (.int r) ∧ P r h') := by
  refine MT.mk (own := RJ4) (by decide) rfl hG (Nat.le_of_ble_eq_true rfl) ?_
  intro p e s m below meth c args Q hargs hQ C hname
  refine J.loca (L2 := [(0, .ref x0)]) rfl ?_
  unfold F_gJ4_length at hF
  refine j_aload_n C dJ4_length_0 rfl 0 rfl ?_
  obtain ⟨v_8, hgd, hF⟩ := hF
  refine jg_get C (T := TJ4) (N := 4) rfl in_J4 0 (by decide) q1503 rfl hgd dJ4_length_1 ?_
  obtain ⟨n_9, hgd, hF⟩ := hF
  refine jg_alen C hgd dJ4_length_4 ?_
  refine j_aload_n C dJ4_length_5 rfl 0 rfl ?_
  obtain ⟨hrc, hF⟩ := hF
  obtain ⟨c_10, s_11, hc1, hc2, hF⟩ := hF
  refine jg_callV (n := 0) (As := []) (rest := [.int (Int32.ofNat n_9)]) C (M_gJ4_coder G l hG hTab hm (S.1, c_10, s_11) x0 _ hF) q828 ⟨q829, q830, q99, q831, by decide +kernel⟩ rfl hrc rfl rfl (Nat.le_of_ble_eq_true rfl) ⟨Nat.le_of_ble_eq_true rfl, Nat.le_of_ble_eq_true rfl⟩ hc1 hc2 dJ4_length_6 (kk_i fun r_12 h_13 hF => ?_)
  obtain ⟨S_14, eS_14, hF⟩ := nm_intro hF
  refine g_J eS_14 ?_
  refine j_ishr C dJ4_length_9 ?_
  rw [hQ]
  exact j_iret C rfl ⟨_, rfl, hF⟩ dJ4_length_10
def F_gJ2_newCapacity (G : GT) (S : GZ) (x0 : Nat) (x1 : Int32) (P : Int32 → AH → Prop) : Prop := ∃ v_11 : Nat, aF G S.1 x0 13 0 (.ref v_11) ∧ (∃ n_12 : Nat, aL G S.1 v_11 n_12 ∧ (∃ v_13 : Int32, aF G S.1 x0 13 1 (.int v_13) ∧ (∃ v_14 : Int32, aF G S.1 x0 13 1 (.int v_14) ∧ (∃ c_15 s_16 : Nat, c_15 ≤ S.2.1 ∧ s_16 ≤ S.2.2 ∧ F_gJ21_newLength G (S.1, c_15, s_16) (Int32.ofNat n_12) ((x1 <<< (v_13 &&& 31)) - (Int32.ofNat n_12)) ((Int32.ofNat n_12) + (2 <<< (v_14 &&& 31))) (fun r_17 h_18 => nm (α := GZ) (h_18, S.2.1 - c_15, S.2.2 - s_16) (fun S_19 => (r_17 = 2147483647 → False) ∧ (¬ r_17 = 2147483647 → ∃ v_21 : Int32, aF G S_19.1 x0 13 1 (.int v_21) ∧ (P (r_17 >>> (v_21 &&& 31)) S_19.1))))))))
set_option maxHeartbeats 4000000 in
theorem M_gJ2_newCapacity (G : GT) (l : Launch) (hG : GOK G) (hTab : TabF G) (hm : FreeG G) (S : GZ) (x0 : Nat) (x1 : Int32) (P : Int32 → AH → Prop) (hF : F_gJ2_newCapacity G S x0 x1 P) : MT G l yJ2_newCapacity cJ2_newCapacity 6 (some Jvm.ClassFile.FieldType.int) 2 73 S.2.1 S.2.2 [.ref x0, .int x1] S.1 (fun v h' => ∃ r : Int32, v = some (.int r) ∧ P r h') := by
  refine MT.mk (own := RJ2) (by decide) rfl hG (Nat.le_of_ble_eq_true rfl) ?_
  intro p e s m below meth c args Q hargs hQ C hname
  refine J.loca (L2 := [(0, .ref x0), (1, .int x1)]) rfl ?_
  unfold F_gJ2_newCapacity at hF
  refine j_aload_n C dJ2_newCapacity_0 rfl 0 rfl ?_
  obtain ⟨v_11, hgd, hF⟩ := hF
  refine jg_get C (T := TJ3) (N := 4) rfl in_J3 0 (by decide) q239 rfl hgd dJ2_newCapacity_1 ?_
  obtain ⟨n_12, hgd, hF⟩ := hF
  refine jg_alen C hgd dJ2_newCapacity_4 ?_
  refine j_istore_n (L2 := [(2, .int (Int32.ofNat n_12)), (0, .ref x0), (1, .int x1)]) C dJ2_newCapacity_5 rfl (by decide) rfl ?_
  refine j_iload_n C dJ2_newCapacity_6 rfl 2 rfl ?_
  refine j_aload_n C dJ2_newCapacity_7 rfl 1 rfl ?_
  obtain ⟨v_13, hgd, hF⟩ := hF
  refine jg_get C (T := TJ3) (N := 4) rfl in_J3 1 (by decide) q240 rfl hgd dJ2_newCapacity_8 ?_
  refine j_ishl C dJ2_newCapacity_11 ?_
  refine j_istore_n (L2 := [(3, .int (x1 <<< (v_13 &&& 31))), (2, .int (Int32.ofNat n_12)), (0, .ref x0), (1, .int x1)]) C dJ2_newCapacity_12 rfl (by decide) rfl ?_
  refine j_iload_n C dJ2_newCapacity_13 rfl 0 rfl ?_
  refine j_iload_n C dJ2_newCapacity_14 rfl 1 rfl ?_
  refine j_isub C dJ2_newCapacity_15 ?_
  refine j_istore (L2 := [(4, .int ((x1 <<< (v_13 &&& 31)) - (Int32.ofNat n_12))), (3, .int (x1 <<< (v_13 &&& 31))), (2, .int (Int32.ofNat n_12)), (0, .ref x0), (1, .int x1)]) C dJ2_newCapacity_16 (by decide) rfl ?_
  refine j_iload_n C dJ2_newCapacity_18 rfl 2 rfl ?_
  refine j_iload C dJ2_newCapacity_19 0 rfl ?_
  refine j_iload_n C dJ2_newCapacity_21 rfl 2 rfl ?_
  refine j_iconst (v := 2) C dJ2_newCapacity_22 rfl ?_
  refine j_aload_n C dJ2_newCapacity_23 rfl 3 rfl ?_
  obtain ⟨v_14, hgd, hF⟩ := hF
  refine jg_get C (T := TJ3) (N := 4) rfl in_J3 1 (by decide) q240 rfl hgd dJ2_newCapacity_24 ?_
  refine j_ishl C dJ2_newCapacity_27 ?_
  refine j_iadd C dJ2_newCapacity_28 ?_
  obtain ⟨c_15, s_16, hc1, hc2, hF⟩ := hF
  refine j_callS (n := 3) (As := [.int (Int32.ofNat n_12), .int ((x1 <<< (v_13 &&& 31)) - (Int32.ofNat n_12)), .int ((Int32.ofNat n_12) + (2 <<< (v_14 &&& 31)))]) (rest := []) C (M_gJ21_newLength G l hG hTab hm (S.1, c_15, s_16) (Int32.ofNat n_12) ((x1 <<< (v_13 &&& 31)) - (Int32.ofNat n_12)) ((Int32.ofNat n_12) + (2 <<< (v_14 &&& 31))) _ hF) q774 ⟨q775, q127, q776, by decide +kernel⟩ rfl rfl (Nat.le_of_ble_eq_true rfl) ⟨Nat.le_of_ble_eq_true rfl, Nat.le_of_ble_eq_true rfl⟩ hc1 hc2 dJ2_newCapacity_29 (kk_i fun r_17 h_18 hF => ?_)
  obtain ⟨S_19, eS_19, hF⟩ := nm_intro hF
  refine g_J eS_19 ?_
  refine j_istore (L2 := [(5, .int r_17), (4, .int ((x1 <<< (v_13 &&& 31)) - (Int32.ofNat n_12))), (3, .int (x1 <<< (v_13 &&& 31))), (2, .int (Int32.ofNat n_12)), (0, .ref x0), (1, .int x1)]) C dJ2_newCapacity_32 (by decide) rfl ?_
  refine j_iload C dJ2_newCapacity_34 0 rfl ?_
  refine j_ldc C dJ2_newCapacity_36 q782 ?_
  refine j_icmp_ne (tgt := 51) C dJ2_newCapacity_38 (by decide) (fun hc_20 => ?_) (fun hc_20 => ?_)
  · replace hF := hF.2 hc_20
    refine j_iload C dJ2_newCapacity_51 0 rfl ?_
    refine j_aload_n C dJ2_newCapacity_53 rfl 4 rfl ?_
    obtain ⟨v_21, hgd, hF⟩ := hF
    refine jg_get C (T := TJ3) (N := 4) rfl in_J3 1 (by decide) q240 rfl hgd dJ2_newCapacity_54 ?_
    refine j_ishr C dJ2_newCapacity_57 ?_
    rw [hQ]
    exact j_iret C rfl ⟨_, rfl, hF⟩ dJ2_newCapacity_58
  · replace hF := hF.1 hc_20
    exact hF.elim
def F_gJ2_ensureCapacityInternal (G : GT) (S : GZ) (x0 : Nat) (x1 : Int32) (P : AH → Prop) : Prop := ∃ v_18 : Nat, aF G S.1 x0 13 0 (.ref v_18) ∧ (∃ n_19 : Nat, aL G S.1 v_18 n_19 ∧ (∃ v_20 : Int32, aF G S.1 x0 13 1 (.int v_20) ∧ (((x1 - ((Int32.ofNat n_19) >>> (v_20 &&& 31))) ≤ 0 → P S.1) ∧ (¬ (x1 - ((Int32.ofNat n_19) >>> (v_20 &&& 31))) ≤ 0 → ∃ v_22 : Nat, aF G S.1 x0 13 0 (.ref v_22) ∧ (aC G S.1 x0 13 ∧ ∃ c_23 s_24 : Nat, c_23 ≤ S.2.1 ∧ s_24 ≤ S.2.2 ∧ F_gJ2_newCapacity G (S.1, c_23, s_24) x0 x1 (fun r_25 h_26 => nm (α := GZ) (h_26, S.2.1 - c_23, S.2.2 - s_24) (fun S_27 => ∃ v_28 : Int32, aF G S_27.1 x0 13 1 (.int v_28) ∧ (∃ c_29 s_30 : Nat, c_29 ≤ S_27.2.1 ∧ s_30 ≤ S_27.2.2 ∧ F_gJ12_copyOf_3 G (S_27.1, c_29, s_30) v_22 (r_25 <<< (v_28 &&& 31)) (fun r_31 h_32 => nm (α := GZ) (h_32, S_27.2.1 - c_29, S_27.2.2 - s_30) (fun S_33 => ∃ fs_34 : List Value, S_33.1 x0 = some (.inr (13, fs_34)) ∧ 0 < fs_34.length ∧ (nm (α := GZ) (hup S_33.1 x0 (.inr (13, List.set fs_34 0 (.ref r_31))), S_33.2.1, S_33.2.2) (fun S_35 => P S_35.1))))))))))))
set_option maxHeartbeats 4000000 in
theorem M_gJ2_ensureCapacityInternal (G : GT) (l : Launch) (hG : GOK G) (hTab : TabF G) (hm : FreeG G) (S : GZ) (x0 : Nat) (x1 : Int32) (P : AH → Prop) (hF : F_gJ2_ensureCapacityInternal G S x0 x1 P) : MT G l yJ2_ensureCapacityInternal cJ2_ensureCapacityInternal 3 none 3 252 S.2.1 S.2.2 [.ref x0, .int x1] S.1 (fun v h' => v = none ∧ P h') := by
  refine MT.mk (own := RJ2) (by decide) rfl hG (Nat.le_of_ble_eq_true rfl) ?_
  intro p e s m below meth c args Q hargs hQ C hname
  refine J.loca (L2 := [(0, .ref x0), (1, .int x1)]) rfl ?_
  unfold F_gJ2_ensureCapacityInternal at hF
  refine j_aload_n C dJ2_ensureCapacityInternal_0 rfl 0 rfl ?_
  obtain ⟨v_18, hgd, hF⟩ := hF
  refine jg_get C (T := TJ3) (N := 4) rfl in_J3 0 (by decide) q239 rfl hgd dJ2_ensureCapacityInternal_1 ?_
  obtain ⟨n_19, hgd, hF⟩ := hF
  refine jg_alen C hgd dJ2_ensureCapacityInternal_4 ?_
  refine j_aload_n C dJ2_ensureCapacityInternal_5 rfl 0 rfl ?_
  obtain ⟨v_20, hgd, hF⟩ := hF
  refine jg_get C (T := TJ3) (N := 4) rfl in_J3 1 (by decide) q240 rfl hgd dJ2_ensureCapacityInternal_6 ?_
  refine j_ishr C dJ2_ensureCapacityInternal_9 ?_
  refine j_istore_n (L2 := [(2, .int ((Int32.ofNat n_19) >>> (v_20 &&& 31))), (0, .ref x0), (1, .int x1)]) C dJ2_ensureCapacityInternal_10 rfl (by decide) rfl ?_
  refine j_iload_n C dJ2_ensureCapacityInternal_11 rfl 2 rfl ?_
  refine j_iload_n C dJ2_ensureCapacityInternal_12 rfl 0 rfl ?_
  refine j_isub C dJ2_ensureCapacityInternal_13 ?_
  refine j_if_le (tgt := 38) C dJ2_ensureCapacityInternal_14 (by decide) (fun hc_21 => ?_) (fun hc_21 => ?_)
  · replace hF := hF.1 hc_21
    rw [hQ]
    exact j_vret C ⟨rfl, hF⟩ dJ2_ensureCapacityInternal_38
  · replace hF := hF.2 hc_21
    refine j_aload_n C dJ2_ensureCapacityInternal_17 rfl 1 rfl ?_
    refine j_aload_n C dJ2_ensureCapacityInternal_18 rfl 1 rfl ?_
    obtain ⟨v_22, hgd, hF⟩ := hF
    refine jg_get C (T := TJ3) (N := 4) rfl in_J3 0 (by decide) q239 rfl hgd dJ2_ensureCapacityInternal_19 ?_
    refine j_aload_n C dJ2_ensureCapacityInternal_22 rfl 1 rfl ?_
    refine j_iload_n C dJ2_ensureCapacityInternal_23 rfl 2 rfl ?_
    obtain ⟨hrc, hF⟩ := hF
    obtain ⟨c_23, s_24, hc1, hc2, hF⟩ := hF
    refine jg_callP (n := 1) (As := [.int x1]) (rest := [.ref v_22, .ref x0]) C hTab (M_gJ2_newCapacity G l hG hTab hm (S.1, c_23, s_24) x0 x1 _ hF) q770 ⟨q772, q771, q97, q773, q2300, by decide +kernel⟩ hrc rfl rfl (Nat.le_of_ble_eq_true rfl) ⟨Nat.le_of_ble_eq_true rfl, Nat.le_of_ble_eq_true rfl⟩ hc1 hc2 dJ2_ensureCapacityInternal_24 (kk_i fun r_25 h_26 hF => ?_)
    obtain ⟨S_27, eS_27, hF⟩ := nm_intro hF
    refine g_J eS_27 ?_
    refine j_aload_n C dJ2_ensureCapacityInternal_27 rfl 1 rfl ?_
    obtain ⟨v_28, hgd, hF⟩ := hF
    refine jg_get C (T := TJ3) (N := 4) rfl in_J3 1 (by decide) q240 rfl hgd dJ2_ensureCapacityInternal_28 ?_
    refine j_ishl C dJ2_ensureCapacityInternal_31 ?_
    obtain ⟨c_29, s_30, hc1, hc2, hF⟩ := hF
    refine j_callS (n := 2) (As := [.ref v_22, .int (r_25 <<< (v_28 &&& 31))]) (rest := [.ref x0]) C (M_gJ12_copyOf_3 G l hG hTab hm (S_27.1, c_29, s_30) v_22 (r_25 <<< (v_28 &&& 31)) _ hF) q783 ⟨q784, q111, q785, by decide +kernel⟩ rfl rfl (Nat.le_of_ble_eq_true rfl) ⟨Nat.le_of_ble_eq_true rfl, Nat.le_of_ble_eq_true rfl⟩ hc1 hc2 dJ2_ensureCapacityInternal_32 (kk_r fun r_31 h_32 hF => ?_)
    obtain ⟨S_33, eS_33, hF⟩ := nm_intro hF
    refine g_J eS_33 ?_
    obtain ⟨fs_34, hg1, hg2, hF⟩ := hF
    refine j_put C hm hg1 rfl in_J3 tyJ3 tyJ3_ok nmJ3 0 (by decide) q239 rfl rfl rfl rfl hg2 dJ2_ensureCapacityInternal_35 ?_
    obtain ⟨S_35, eS_35, hF⟩ := nm_intro hF
    refine g_J eS_35 ?_
    rw [hQ]
    exact j_vret C ⟨rfl, hF⟩ dJ2_ensureCapacityInternal_38
def F_gJ2_isLatin1 (G : GT) (S : GZ) (x0 : Nat) (P : Int32 → AH → Prop) : Prop := ∃ v_3 : Int32, StV G "java/lang/String" "COMPACT_STRINGS" "Z" (.int v_3) ∧ ((v_3 = 0 → P 0 S.1) ∧ (¬ v_3 = 0 → ∃ v_5 : Int32, aF G S.1 x0 13 1 (.int v_5) ∧ ((v_5 = 0 → P 1 S.1) ∧ (¬ v_5 = 0 → P 0 S.1))))
set_option maxHeartbeats 4000000 in
theorem M_gJ2_isLatin1 (G : GT) (l : Launch) (hG : GOK G) (hTab : TabF G) (hm : FreeG G) (S : GZ) (x0 : Nat) (P : Int32 → AH → Prop) (hF : F_gJ2_isLatin1 G S x0 P) : MT G l yJ2_isLatin1 cJ2_isLatin1 1 (some Jvm.ClassFile.FieldType.boolean) 0 0 S.2.1 S.2.2 [.ref x0] S.1 (fun v h' => ∃ r : Int32, v = some (.int r) ∧ P r h') := by
  refine MT.mk (own := RJ2) (by decide) rfl hG (Nat.le_of_ble_eq_true rfl) ?_
  intro p e s m below meth c args Q hargs hQ C hname
  refine J.loca (L2 := [(0, .ref x0)]) rfl ?_
  unfold F_gJ2_isLatin1 at hF
  obtain ⟨v_3, hgd, hF⟩ := hF
  refine jg_gets C hgd q230 rfl dJ2_isLatin1_0 ?_
  refine j_if_eq (tgt := 17) C dJ2_isLatin1_3 (by decide) (fun hc_4 => ?_) (fun hc_4 => ?_)
  · replace hF := hF.1 hc_4
    refine j_iconst (v := 0) C dJ2_isLatin1_17 rfl ?_
    rw [hQ]
    exact j_iret C rfl ⟨_, rfl, hF⟩ dJ2_isLatin1_18
  · replace hF := hF.2 hc_4
    refine j_aload_n C dJ2_isLatin1_6 rfl 0 rfl ?_
    obtain ⟨v_5, hgd, hF⟩ := hF
    refine jg_get C (T := TJ3) (N := 4) rfl in_J3 1 (by decide) q240 rfl hgd dJ2_isLatin1_7 ?_
    refine j_if_ne (tgt := 17) C dJ2_isLatin1_10 (by decide) (fun hc_6 => ?_) (fun hc_6 => ?_)
    · replace hF := hF.2 hc_6
      refine j_iconst (v := 0) C dJ2_isLatin1_17 rfl ?_
      rw [hQ]
      exact j_iret C rfl ⟨_, rfl, hF⟩ dJ2_isLatin1_18
    · replace hF := hF.1 hc_6
      refine j_iconst (v := 1) C dJ2_isLatin1_13 rfl ?_
      refine j_goto (tgt := 18) C dJ2_isLatin1_14 (by decide) ?_
      rw [hQ]
      exact j_iret C rfl ⟨_, rfl, hF⟩ dJ2_isLatin1_18
def F_gJ5_newBytesLength (G : GT) (S : GZ) (x0 : Int32) (P : Int32 → AH → Prop) : Prop := (0 ≤ x0 → (x0 < 1073741823 → P (x0 <<< (1 &&& 31)) S.1) ∧ (¬ x0 < 1073741823 → False)) ∧ (¬ 0 ≤ x0 → False)
set_option maxHeartbeats 4000000 in
theorem M_gJ5_newBytesLength (G : GT) (l : Launch) (hG : GOK G) (hTab : TabF G) (hm : FreeG G) (S : GZ) (x0 : Int32) (P : Int32 → AH → Prop) (hF : F_gJ5_newBytesLength G S x0 P) : MT G l yJ5_newBytesLength cJ5_newBytesLength 1 (some Jvm.ClassFile.FieldType.int) 0 0 S.2.1 S.2.2 [.int x0] S.1 (fun v h' => ∃ r : Int32, v = some (.int r) ∧ P r h') := by
  refine MT.mk (own := RJ5) (by decide) rfl hG (Nat.le_of_ble_eq_true rfl) ?_
  intro p e s m below meth c args Q hargs hQ C hname
  refine J.loca (L2 := [(0, .int x0)]) rfl ?_
  unfold F_gJ5_newBytesLength at hF
  refine j_iload_n C dJ5_newBytesLength_0 rfl 0 rfl ?_
  refine j_if_ge (tgt := 12) C dJ5_newBytesLength_1 (by decide) (fun hc_1 => ?_) (fun hc_1 => ?_)
  · replace hF := hF.1 hc_1
    refine j_iload_n C dJ5_newBytesLength_12 rfl 0 rfl ?_
    refine j_ldc C dJ5_newBytesLength_13 q238 ?_
    refine j_icmp_lt (tgt := 55) C dJ5_newBytesLength_15 (by decide) (fun hc_2 => ?_) (fun hc_2 => ?_)
    · replace hF := hF.1 hc_2
      refine j_iload_n C dJ5_newBytesLength_55 rfl 0 rfl ?_
      refine j_iconst (v := 1) C dJ5_newBytesLength_56 rfl ?_
      refine j_ishl C dJ5_newBytesLength_57 ?_
      rw [hQ]
      exact j_iret C rfl ⟨_, rfl, hF⟩ dJ5_newBytesLength_58
    · replace hF := hF.2 hc_2
      exact hF.elim
  · replace hF := hF.2 hc_1
    exact hF.elim
def F_gJ5_newBytesFor (G : GT) (S : GZ) (x0 : Int32) (P : Nat → AH → Prop) : Prop := ∃ c_8 s_9 : Nat, c_8 ≤ S.2.1 ∧ s_9 ≤ S.2.2 ∧ F_gJ5_newBytesLength G (S.1, c_8, s_9) x0 (fun r_10 h_11 => nm (α := GZ) (h_11, S.2.1 - c_8, S.2.2 - s_9) (fun S_12 => ¬ (r_10 : Int32) < 0 ∧ 1 ≤ S_12.2.1 ∧ Int32.toNatClampNeg r_10 ≤ S_12.2.2 ∧ Int32.toNatClampNeg r_10 * componentBytes .byte ≤ 536870912 ∧ ∀ q_13 : Nat, S_12.1 q_13 = none → G.1 ≤ q_13 → (nm (α := GZ) (hup S_12.1 q_13 (.inl (G.2.2.1 2, Int32.toNatClampNeg r_10, .inl (fun _ => 0))), S_12.2.1 - 1, S_12.2.2 - Int32.toNatClampNeg r_10) (fun S_14 => P q_13 S_14.1))))
set_option maxHeartbeats 4000000 in
theorem M_gJ5_newBytesFor (G : GT) (l : Launch) (hG : GOK G) (hTab : TabF G) (hm : FreeG G) (S : GZ) (x0 : Int32) (P : Nat → AH → Prop) (hF : F_gJ5_newBytesFor G S x0 P) : MT G l yJ5_newBytesFor cJ5_newBytesFor 1 (some (Jvm.ClassFile.FieldType.array Jvm.ClassFile.FieldType.byte)) 1 30 S.2.1 S.2.2 [.int x0] S.1 (fun v h' => ∃ r : Nat, v = some (.ref r) ∧ P r h') := by
  refine MT.mk (own := RJ5) (by decide) rfl hG (Nat.le_of_ble_eq_true rfl) ?_
  intro p e s m below meth c args Q hargs hQ C hname
  refine J.loca (L2 := [(0, .int x0)]) rfl ?_
  unfold F_gJ5_newBytesFor at hF
  refine j_iload_n C dJ5_newBytesFor_0 rfl 0 rfl ?_
  obtain ⟨c_8, s_9, hc1, hc2, hF⟩ := hF
  refine j_callS (n := 1) (As := [.int x0]) (rest := []) C (M_gJ5_newBytesLength G l hG hTab hm (S.1, c_8, s_9) x0 _ hF) q235 ⟨q236, q100, q237, by decide +kernel⟩ rfl rfl (Nat.le_of_ble_eq_true rfl) ⟨Nat.le_of_ble_eq_true rfl, Nat.le_of_ble_eq_true rfl⟩ hc1 hc2 dJ5_newBytesFor_1 (kk_i fun r_10 h_11 hF => ?_)
  obtain ⟨S_12, eS_12, hF⟩ := nm_intro hF
  refine g_J eS_12 ?_
  obtain ⟨hg1, hg2, hg3, hg4, hF⟩ := hF
  refine j_newa C hm 2 (ty := .byte) rfl (fun _ z => nomatch z) (fun _ => rfl) q253 (Int32.toNatClampNeg r_10, .inl (fun _ => 0)) (fun _ => rfl) hg1 rfl hg4 (bc' := S_12.2.1 - 1) (bs' := S_12.2.2 - Int32.toNatClampNeg r_10) (by omega) (by omega) dJ5_newBytesFor_4 (fun q_13 hq1 hq2 => ?_)
  replace hF := hF q_13 hq1 hq2
  obtain ⟨S_14, eS_14, hF⟩ := nm_intro hF
  refine g_J eS_14 ?_
  rw [hQ]
  exact j_aret C (Or.inr ⟨_, rfl⟩) (Or.inr ⟨_, rfl⟩) ⟨_, rfl, hF⟩ dJ5_newBytesFor_6
def F_gJ2_inflate (G : GT) (S : GZ) (x0 : Nat) (P : AH → Prop) : Prop := aC G S.1 x0 13 ∧ ∃ c_24 s_25 : Nat, c_24 ≤ S.2.1 ∧ s_25 ≤ S.2.2 ∧ F_gJ2_isLatin1 G (S.1, c_24, s_25) x0 (fun r_26 h_27 => nm (α := GZ) (h_27, S.2.1 - c_24, S.2.2 - s_25) (fun S_28 => (r_26 = 0 → P S_28.1) ∧ (¬ r_26 = 0 → ∃ v_30 : Nat, aF G S_28.1 x0 13 0 (.ref v_30) ∧ (∃ n_31 : Nat, aL G S_28.1 v_30 n_31 ∧ (∃ c_32 s_33 : Nat, c_32 ≤ S_28.2.1 ∧ s_33 ≤ S_28.2.2 ∧ F_gJ5_newBytesFor G (S_28.1, c_32, s_33) (Int32.ofNat n_31) (fun r_34 h_35 => nm (α := GZ) (h_35, S_28.2.1 - c_32, S_28.2.2 - s_33) (fun S_36 => ∃ v_37 : Nat, aF G S_36.1 x0 13 0 (.ref v_37) ∧ (∃ v_38 : Int32, aF G S_36.1 x0 13 3 (.int v_38) ∧ (∃ c_39 s_40 : Nat, c_39 ≤ S_36.2.1 ∧ s_40 ≤ S_36.2.2 ∧ F_gJ24_inflate G (S_36.1, c_39, s_40) v_37 0 r_34 0 v_38 (fun h_42 => nm (α := GZ) (h_42, S_36.2.1 - c_39, S_36.2.2 - s_40) (fun S_43 => ∃ fs_44 : List Value, S_43.1 x0 = some (.inr (13, fs_44)) ∧ 0 < fs_44.length ∧ (nm (α := GZ) (hup S_43.1 x0 (.inr (13, List.set fs_44 0 (.ref r_34))), S_43.2.1, S_43.2.2) (fun S_45 => ∃ fs_46 : List Value, S_45.1 x0 = some (.inr (13, fs_46)) ∧ 1 < fs_46.length ∧ (nm (α := GZ) (hup S_45.1 x0 (.inr (13, List.set fs_46 1 (.int 1))), S_45.2.1, S_45.2.2) (fun S_47 => P S_47.1)))))))))))))))
set_option maxHeartbeats 4000000 in
theorem M_gJ2_inflate (G : GT) (l : Launch) (hG : GOK G) (hTab : TabF G) (hm : FreeG G) (S : GZ) (x0 : Nat) (P : AH → Prop) (hF : F_gJ2_inflate G S x0 P) : MT G l yJ2_inflate cJ2_inflate 2 none 5 166 S.2.1 S.2.2 [.ref x0] S.1 (fun v h' => v = none ∧ P h') := by
  refine MT.mk (own := RJ2) (by decide) rfl hG (Nat.le_of_ble_eq_true rfl) ?_
  intro p e s m below meth c args Q hargs hQ C hname
  refine J.loca (L2 := [(0, .ref x0)]) rfl ?_
  unfold F_gJ2_inflate at hF
  refine j_aload_n C dJ2_inflate_0 rfl 0 rfl ?_
  obtain ⟨hrc, hF⟩ := hF
  obtain ⟨c_24, s_25, hc1, hc2, hF⟩ := hF
  refine jg_callU (n := 0) (As := []) (rest := []) C (M_gJ2_isLatin1 G l hG hTab hm (S.1, c_24, s_25) x0 _ hF) q793 ⟨q794, q796, q97, q797, q795, by decide +kernel⟩ rfl hrc rfl rfl (Nat.le_of_ble_eq_true rfl) ⟨Nat.le_of_ble_eq_true rfl, Nat.le_of_ble_eq_true rfl⟩ hc1 hc2 dJ2_inflate_1 (kk_i fun r_26 h_27 hF => ?_)
  obtain ⟨S_28, eS_28, hF⟩ := nm_intro hF
  refine g_J eS_28 ?_
  refine j_if_ne (tgt := 8) C dJ2_inflate_4 (by decide) (fun hc_29 => ?_) (fun hc_29 => ?_)
  · replace hF := hF.2 hc_29
    refine j_aload_n C dJ2_inflate_8 rfl 0 rfl ?_
    obtain ⟨v_30, hgd, hF⟩ := hF
    refine jg_get C (T := TJ3) (N := 4) rfl in_J3 0 (by decide) q239 rfl hgd dJ2_inflate_9 ?_
    obtain ⟨n_31, hgd, hF⟩ := hF
    refine jg_alen C hgd dJ2_inflate_12 ?_
    obtain ⟨c_32, s_33, hc1, hc2, hF⟩ := hF
    refine j_callS (n := 1) (As := [.int (Int32.ofNat n_31)]) (rest := []) C (M_gJ5_newBytesFor G l hG hTab hm (S_28.1, c_32, s_33) (Int32.ofNat n_31) _ hF) q232 ⟨q233, q100, q234, by decide +kernel⟩ rfl rfl (Nat.le_of_ble_eq_true rfl) ⟨Nat.le_of_ble_eq_true rfl, Nat.le_of_ble_eq_true rfl⟩ hc1 hc2 dJ2_inflate_13 (kk_r fun r_34 h_35 hF => ?_)
    obtain ⟨S_36, eS_36, hF⟩ := nm_intro hF
    refine g_J eS_36 ?_
    refine j_astore_n (L2 := [(1, .ref r_34), (0, .ref x0)]) C dJ2_inflate_16 rfl (by decide) rfl ?_
    refine j_aload_n C dJ2_inflate_17 rfl 1 rfl ?_
    obtain ⟨v_37, hgd, hF⟩ := hF
    refine jg_get C (T := TJ3) (N := 4) rfl in_J3 0 (by decide) q239 rfl hgd dJ2_inflate_18 ?_
    refine j_iconst (v := 0) C dJ2_inflate_21 rfl ?_
    refine j_aload_n C dJ2_inflate_22 rfl 0 rfl ?_
    refine j_iconst (v := 0) C dJ2_inflate_23 rfl ?_
    refine j_aload_n C dJ2_inflate_24 rfl 1 rfl ?_
    obtain ⟨v_38, hgd, hF⟩ := hF
    refine jg_get C (T := TJ3) (N := 4) rfl in_J3 3 (by decide) q243 rfl hgd dJ2_inflate_25 ?_
    obtain ⟨c_39, s_40, hc1, hc2, hF⟩ := hF
    refine j_callS (n := 5) (As := [.ref v_37, .int 0, .ref r_34, .int 0, .int v_38]) (rest := []) C (M_gJ24_inflate G l hG hTab hm (S_36.1, c_39, s_40) v_37 0 r_34 0 v_38 _ hF) q846 ⟨q847, q131, q848, by decide +kernel⟩ rfl rfl (Nat.le_of_ble_eq_true rfl) ⟨Nat.le_of_ble_eq_true rfl, Nat.le_of_ble_eq_true rfl⟩ hc1 hc2 dJ2_inflate_28 (kk_v fun h_42 hF => ?_)
    obtain ⟨S_43, eS_43, hF⟩ := nm_intro hF
    refine g_J eS_43 ?_
    refine j_aload_n C dJ2_inflate_31 rfl 1 rfl ?_
    refine j_aload_n C dJ2_inflate_32 rfl 0 rfl ?_
    obtain ⟨fs_44, hg1, hg2, hF⟩ := hF
    refine j_put C hm hg1 rfl in_J3 tyJ3 tyJ3_ok nmJ3 0 (by decide) q239 rfl rfl rfl rfl hg2 dJ2_inflate_33 ?_
    obtain ⟨S_45, eS_45, hF⟩ := nm_intro hF
    refine g_J eS_45 ?_
    refine j_aload_n C dJ2_inflate_36 rfl 1 rfl ?_
    refine j_iconst (v := 1) C dJ2_inflate_37 rfl ?_
    obtain ⟨fs_46, hg1, hg2, hF⟩ := hF
    refine j_put C hm hg1 rfl in_J3 tyJ3 tyJ3_ok nmJ3 1 (by decide) q240 rfl rfl rfl rfl hg2 dJ2_inflate_38 ?_
    obtain ⟨S_47, eS_47, hF⟩ := nm_intro hF
    refine g_J eS_47 ?_
    rw [hQ]
    exact j_vret C ⟨rfl, hF⟩ dJ2_inflate_41
  · replace hF := hF.1 hc_29
    rw [hQ]
    exact j_vret C ⟨rfl, hF⟩ dJ2_inflate_7
def F_gJ2_inflateIfNeededFor (G : GT) (S : GZ) (x0 : Nat) (x1 : Nat) (P : AH → Prop) : Prop := ∃ v_13 : Int32, StV G "java/lang/String" "COMPACT_STRINGS" "Z" (.int v_13) ∧ ((v_13 = 0 → P S.1) ∧ (¬ v_13 = 0 → ∃ v_15 : Int32, aF G S.1 x0 13 1 (.int v_15) ∧ (aC G S.1 x1 14 ∧ ∃ c_16 s_17 : Nat, c_16 ≤ S.2.1 ∧ s_17 ≤ S.2.2 ∧ F_gJ4_coder G (S.1, c_16, s_17) x1 (fun r_18 h_19 => nm (α := GZ) (h_19, S.2.1 - c_16, S.2.2 - s_17) (fun S_20 => (v_15 = r_18 → P S_20.1) ∧ (¬ v_15 = r_18 → aC G S_20.1 x0 13 ∧ ∃ c_22 s_23 : Nat, c_22 ≤ S_20.2.1 ∧ s_23 ≤ S_20.2.2 ∧ F_gJ2_inflate G (S_20.1, c_22, s_23) x0 (fun h_25 => nm (α := GZ) (h_25, S_20.2.1 - c_22, S_20.2.2 - s_23) (fun S_26 => P S_26.1))))))))
set_option maxHeartbeats 4000000 in
theorem M_gJ2_inflateIfNeededFor (G : GT) (l : Launch) (hG : GOK G) (hTab : TabF G) (hm : FreeG G) (S : GZ) (x0 : Nat) (x1 : Nat) (P : AH → Prop) (hF : F_gJ2_inflateIfNeededFor G S x0 x1 P) : MT G l yJ2_inflateIfNeededFor cJ2_inflateIfNeededFor 2 none 6 197 S.2.1 S.2.2 [.ref x0, .ref x1] S.1 (fun v h' => v = none ∧ P h') := by
  refine MT.mk (own := RJ2) (by decide) rfl hG (Nat.le_of_ble_eq_true rfl) ?_
  intro p e s m below meth c args Q hargs hQ C hname
  refine J.loca (L2 := [(0, .ref x0), (1, .ref x1)]) rfl ?_
  unfold F_gJ2_inflateIfNeededFor at hF
  obtain ⟨v_13, hgd, hF⟩ := hF
  refine jg_gets C hgd q230 rfl dJ2_inflateIfNeededFor_0 ?_
  refine j_if_eq (tgt := 21) C dJ2_inflateIfNeededFor_3 (by decide) (fun hc_14 => ?_) (fun hc_14 => ?_)
  · replace hF := hF.1 hc_14
    rw [hQ]
    exact j_vret C ⟨rfl, hF⟩ dJ2_inflateIfNeededFor_21
  · replace hF := hF.2 hc_14
    refine j_aload_n C dJ2_inflateIfNeededFor_6 rfl 0 rfl ?_
    obtain ⟨v_15, hgd, hF⟩ := hF
    refine jg_get C (T := TJ3) (N := 4) rfl in_J3 1 (by decide) q240 rfl hgd dJ2_inflateIfNeededFor_7 ?_
    refine j_aload_n C dJ2_inflateIfNeededFor_10 rfl 1 rfl ?_
    obtain ⟨hrc, hF⟩ := hF
    obtain ⟨c_16, s_17, hc1, hc2, hF⟩ := hF
    refine jg_callV (n := 0) (As := []) (rest := [.int v_15]) C (M_gJ4_coder G l hG hTab hm (S.1, c_16, s_17) x1 _ hF) q841 ⟨q829, q830, q99, q831, by decide +kernel⟩ rfl hrc rfl rfl (Nat.le_of_ble_eq_true rfl) ⟨Nat.le_of_ble_eq_true rfl, Nat.le_of_ble_eq_true rfl⟩ hc1 hc2 dJ2_inflateIfNeededFor_11 (kk_i fun r_18 h_19 hF => ?_)
    obtain ⟨S_20, eS_20, hF⟩ := nm_intro hF
    refine g_J eS_20 ?_
    refine j_icmp_eq (tgt := 21) C dJ2_inflateIfNeededFor_14 (by decide) (fun hc_21 => ?_) (fun hc_21 => ?_)
    · replace hF := hF.1 hc_21
      rw [hQ]
      exact j_vret C ⟨rfl, hF⟩ dJ2_inflateIfNeededFor_21
    · replace hF := hF.2 hc_21
      refine j_aload_n C dJ2_inflateIfNeededFor_17 rfl 0 rfl ?_
      obtain ⟨hrc, hF⟩ := hF
      obtain ⟨c_22, s_23, hc1, hc2, hF⟩ := hF
      refine jg_callP (n := 0) (As := []) (rest := []) C hTab (M_gJ2_inflate G l hG hTab hm (S_20.1, c_22, s_23) x0 _ hF) q842 ⟨q844, q843, q97, q845, q2303, by decide +kernel⟩ hrc rfl rfl (Nat.le_of_ble_eq_true rfl) ⟨Nat.le_of_ble_eq_true rfl, Nat.le_of_ble_eq_true rfl⟩ hc1 hc2 dJ2_inflateIfNeededFor_18 (kk_v fun h_25 hF => ?_)
      obtain ⟨S_26, eS_26, hF⟩ := nm_intro hF
      refine g_J eS_26 ?_
      rw [hQ]
      exact j_vret C ⟨rfl, hF⟩ dJ2_inflateIfNeededFor_21
def F_gJ4_getBytes (G : GT) (S : GZ) (x0 : Nat) (x1 : Nat) (x2 : Int32) (x3 : Int32) (P : AH → Prop) : Prop := aC G S.1 x0 14 ∧ ∃ c_22 s_23 : Nat, c_22 ≤ S.2.1 ∧ s_23 ≤ S.2.2 ∧ F_gJ4_coder G (S.1, c_22, s_23) x0 (fun r_24 h_25 => nm (α := GZ) (h_25, S.2.1 - c_22, S.2.2 - s_23) (fun S_26 => (r_24 = x3 → ∃ v_36 : Nat, aF G S_26.1 x0 14 0 (.ref v_36) ∧ (∃ v_37 : Nat, aF G S_26.1 x0 14 0 (.ref v_37) ∧ (∃ n_38 : Nat, aL G S_26.1 v_37 n_38 ∧ (∃ (n_39 n_40 : Nat) (f_41 g_42 : Nat → Int32), aB G S_26.1 v_36 n_39 f_41 ∧ S_26.1 x1 = some (.inl (G.2.2.1 2, n_40, .inl g_42)) ∧ ¬ (0 : Int32) < 0 ∧ ¬ ((x2 <<< (x3 &&& 31)) : Int32) < 0 ∧ ¬ ((Int32.ofNat n_38) : Int32) < 0 ∧ Int32.toNatClampNeg 0 + Int32.toNatClampNeg (Int32.ofNat n_38) ≤ n_39 ∧ Int32.toNatClampNeg (x2 <<< (x3 &&& 31)) + Int32.toNatClampNeg (Int32.ofNat n_38) ≤ n_40 ∧ (∀ i : Nat, i < Int32.toNatClampNeg (Int32.ofNat n_38) → fits .byte (.int (f_41 (Int32.toNatClampNeg 0 + i))) = true) ∧ (nm (α := GZ) (hup S_26.1 x1 (.inl (G.2.2.1 2, n_40, .inl (va_cpy f_41 g_42 (Int32.toNatClampNeg 0) (Int32.toNatClampNeg (x2 <<< (x3 &&& 31))) (Int32.toNatClampNeg (Int32.ofNat n_38))))), S_26.2.1, S_26.2.2) (fun S_43 => P S_43.1)))))) ∧ (¬ r_24 = x3 → ∃ v_28 : Nat, aF G S_26.1 x0 14 0 (.ref v_28) ∧ (∃ v_29 : Nat, aF G S_26.1 x0 14 0 (.ref v_29) ∧ (∃ n_30 : Nat, aL G S_26.1 v_29 n_30 ∧ (∃ c_31 s_32 : Nat, c_31 ≤ S_26.2.1 ∧ s_32 ≤ S_26.2.2 ∧ F_gJ24_inflate G (S_26.1, c_31, s_32) v_28 0 x1 x2 (Int32.ofNat n_30) (fun h_34 => nm (α := GZ) (h_34, S_26.2.1 - c_31, S_26.2.2 - s_32) (fun S_35 => P S_35.1))))))))
set_option maxHeartbeats 4000000 in
theorem M_gJ4_getBytes (G : GT) (l : Launch) (hG : GOK G) (hTab : TabF G) (hm : FreeG G) (S : GZ) (x0 : Nat) (x1 : Nat) (x2 : Int32) (x3 : Int32) (P : AH → Prop) (hF : F_gJ4_getBytes G S x0 x1 x2 x3 P) : MT G l yJ4_getBytes cJ4_getBytes 4 none 5 220 S.2.1 S.2.2 [.ref x0, .ref x1, .int x2, .int x3] S.1 (fun v h' => v = none ∧ P h') := by
  refine MT.mk (own := RJ4) (by decide) rfl hG (Nat.le_of_ble_eq_true rfl) ?_
  intro p e s m below meth c args Q hargs hQ C hname
  refine J.loca (L2 := [(0, .ref x0), (1, .ref x1), (2, .int x2), (3, .int x3)]) rfl ?_
  unfold F_gJ4_getBytes at hF
  refine j_aload_n C dJ4_getBytes_0 rfl 0 rfl ?_
  obtain ⟨hrc, hF⟩ := hF
  obtain ⟨c_22, s_23, hc1, hc2, hF⟩ := hF
  refine jg_callV (n := 0) (As := []) (rest := []) C (M_gJ4_coder G l hG hTab hm (S.1, c_22, s_23) x0 _ hF) q828 ⟨q829, q830, q99, q831, by decide +kernel⟩ rfl hrc rfl rfl (Nat.le_of_ble_eq_true rfl) ⟨Nat.le_of_ble_eq_true rfl, Nat.le_of_ble_eq_true rfl⟩ hc1 hc2 dJ4_getBytes_1 (kk_i fun r_24 h_25 hF => ?_)
  obtain ⟨S_26, eS_26, hF⟩ := nm_intro hF
  refine g_J eS_26 ?_
  refine j_iload_n C dJ4_getBytes_4 rfl 3 rfl ?_
  refine j_icmp_ne (tgt := 28) C dJ4_getBytes_5 (by decide) (fun hc_27 => ?_) (fun hc_27 => ?_)
  · replace hF := hF.2 hc_27
    refine j_aload_n C dJ4_getBytes_28 rfl 0 rfl ?_
    obtain ⟨v_28, hgd, hF⟩ := hF
    refine jg_get C (T := TJ4) (N := 4) rfl in_J4 0 (by decide) q1503 rfl hgd dJ4_getBytes_29 ?_
    refine j_iconst (v := 0) C dJ4_getBytes_32 rfl ?_
    refine j_aload_n C dJ4_getBytes_33 rfl 1 rfl ?_
    refine j_iload_n C dJ4_getBytes_34 rfl 2 rfl ?_
    refine j_aload_n C dJ4_getBytes_35 rfl 0 rfl ?_
    obtain ⟨v_29, hgd, hF⟩ := hF
    refine jg_get C (T := TJ4) (N := 4) rfl in_J4 0 (by decide) q1503 rfl hgd dJ4_getBytes_36 ?_
    obtain ⟨n_30, hgd, hF⟩ := hF
    refine jg_alen C hgd dJ4_getBytes_39 ?_
    obtain ⟨c_31, s_32, hc1, hc2, hF⟩ := hF
    refine j_callS (n := 5) (As := [.ref v_28, .int 0, .ref x1, .int x2, .int (Int32.ofNat n_30)]) (rest := []) C (M_gJ24_inflate G l hG hTab hm (S_26.1, c_31, s_32) v_28 0 x1 x2 (Int32.ofNat n_30) _ hF) q866 ⟨q847, q131, q848, by decide +kernel⟩ rfl rfl (Nat.le_of_ble_eq_true rfl) ⟨Nat.le_of_ble_eq_true rfl, Nat.le_of_ble_eq_true rfl⟩ hc1 hc2 dJ4_getBytes_40 (kk_v fun h_34 hF => ?_)
    obtain ⟨S_35, eS_35, hF⟩ := nm_intro hF
    refine g_J eS_35 ?_
    rw [hQ]
    exact j_vret C ⟨rfl, hF⟩ dJ4_getBytes_43
  · replace hF := hF.1 hc_27
    refine j_aload_n C dJ4_getBytes_8 rfl 0 rfl ?_
    obtain ⟨v_36, hgd, hF⟩ := hF
    refine jg_get C (T := TJ4) (N := 4) rfl in_J4 0 (by decide) q1503 rfl hgd dJ4_getBytes_9 ?_
    refine j_iconst (v := 0) C dJ4_getBytes_12 rfl ?_
    refine j_aload_n C dJ4_getBytes_13 rfl 1 rfl ?_
    refine j_iload_n C dJ4_getBytes_14 rfl 2 rfl ?_
    refine j_iload_n C dJ4_getBytes_15 rfl 3 rfl ?_
    refine j_ishl C dJ4_getBytes_16 ?_
    refine j_aload_n C dJ4_getBytes_17 rfl 0 rfl ?_
    obtain ⟨v_37, hgd, hF⟩ := hF
    refine jg_get C (T := TJ4) (N := 4) rfl in_J4 0 (by decide) q1503 rfl hgd dJ4_getBytes_18 ?_
    obtain ⟨n_38, hgd, hF⟩ := hF
    refine jg_alen C hgd dJ4_getBytes_21 ?_
    obtain ⟨n_39, n_40, f_41, g_42, hg1, hg2, hg3, hg4, hg5, hg6, hg7, hg8, hF⟩ := hF
    refine jg_copyb C hm q865 hg1 hg2 hg3 hg4 hg5 hg6 hg7 hg8 (Nat.le_of_ble_eq_true rfl) (Nat.le_of_ble_eq_true rfl) dJ4_getBytes_22 ?_
    obtain ⟨S_43, eS_43, hF⟩ := nm_intro hF
    refine g_J eS_43 ?_
    refine j_goto (tgt := 43) C dJ4_getBytes_25 (by decide) ?_
    rw [hQ]
    exact j_vret C ⟨rfl, hF⟩ dJ4_getBytes_43
def F_gJ2_putStringAt (G : GT) (S : GZ) (x0 : Nat) (x1 : Int32) (x2 : Nat) (P : AH → Prop) : Prop := aC G S.1 x0 13 ∧ ∃ c_13 s_14 : Nat, c_13 ≤ S.2.1 ∧ s_14 ≤ S.2.2 ∧ F_gJ2_inflateIfNeededFor G (S.1, c_13, s_14) x0 x2 (fun h_16 => nm (α := GZ) (h_16, S.2.1 - c_13, S.2.2 - s_14) (fun S_17 => ∃ v_18 : Nat, aF G S_17.1 x0 13 0 (.ref v_18) ∧ (∃ v_19 : Int32, aF G S_17.1 x0 13 1 (.int v_19) ∧ (aC G S_17.1 x2 14 ∧ ∃ c_20 s_21 : Nat, c_20 ≤ S_17.2.1 ∧ s_21 ≤ S_17.2.2 ∧ F_gJ4_getBytes G (S_17.1, c_20, s_21) x2 v_18 x1 v_19 (fun h_23 => nm (α := GZ) (h_23, S_17.2.1 - c_20, S_17.2.2 - s_21) (fun S_24 => P S_24.1))))))
set_option maxHeartbeats 4000000 in
theorem M_gJ2_putStringAt (G : GT) (l : Launch) (hG : GOK G) (hTab : TabF G) (hm : FreeG G) (S : GZ) (x0 : Nat) (x1 : Int32) (x2 : Nat) (P : AH → Prop) (hF : F_gJ2_putStringAt G S x0 x1 x2 P) : MT G l yJ2_putStringAt cJ2_putStringAt 3 none 7 253 S.2.1 S.2.2 [.ref x0, .int x1, .ref x2] S.1 (fun v h' => v = none ∧ P h') := by
  refine MT.mk (own := RJ2) (by decide) rfl hG (Nat.le_of_ble_eq_true rfl) ?_
  intro p e s m below meth c args Q hargs hQ C hname
  refine J.loca (L2 := [(0, .ref x0), (1, .int x1), (2, .ref x2)]) rfl ?_
  unfold F_gJ2_putStringAt at hF
  refine j_aload_n C dJ2_putStringAt_0 rfl 0 rfl ?_
  refine j_aload_n C dJ2_putStringAt_1 rfl 2 rfl ?_
  obtain ⟨hrc, hF⟩ := hF
  obtain ⟨c_13, s_14, hc1, hc2, hF⟩ := hF
  refine jg_callP (n := 1) (As := [.ref x2]) (rest := []) C hTab (M_gJ2_inflateIfNeededFor G l hG hTab hm (S.1, c_13, s_14) x0 x2 _ hF) q837 ⟨q839, q838, q97, q840, q2302, by decide +kernel⟩ hrc rfl rfl (Nat.le_of_ble_eq_true rfl) ⟨Nat.le_of_ble_eq_true rfl, Nat.le_of_ble_eq_true rfl⟩ hc1 hc2 dJ2_putStringAt_2 (kk_v fun h_16 hF => ?_)
  obtain ⟨S_17, eS_17, hF⟩ := nm_intro hF
  refine g_J eS_17 ?_
  refine j_aload_n C dJ2_putStringAt_5 rfl 2 rfl ?_
  refine j_aload_n C dJ2_putStringAt_6 rfl 0 rfl ?_
  obtain ⟨v_18, hgd, hF⟩ := hF
  refine jg_get C (T := TJ3) (N := 4) rfl in_J3 0 (by decide) q239 rfl hgd dJ2_putStringAt_7 ?_
  refine j_iload_n C dJ2_putStringAt_10 rfl 1 rfl ?_
  refine j_aload_n C dJ2_putStringAt_11 rfl 0 rfl ?_
  obtain ⟨v_19, hgd, hF⟩ := hF
  refine jg_get C (T := TJ3) (N := 4) rfl in_J3 1 (by decide) q240 rfl hgd dJ2_putStringAt_12 ?_
  obtain ⟨hrc, hF⟩ := hF
  obtain ⟨c_20, s_21, hc1, hc2, hF⟩ := hF
  refine jg_callV (n := 3) (As := [.ref v_18, .int x1, .int v_19]) (rest := []) C (M_gJ4_getBytes G l hG hTab hm (S_17.1, c_20, s_21) x2 v_18 x1 v_19 _ hF) q861 ⟨q862, q863, q99, q864, by decide +kernel⟩ rfl hrc rfl rfl (Nat.le_of_ble_eq_true rfl) ⟨Nat.le_of_ble_eq_true rfl, Nat.le_of_ble_eq_true rfl⟩ hc1 hc2 dJ2_putStringAt_15 (kk_v fun h_23 hF => ?_)
  obtain ⟨S_24, eS_24, hF⟩ := nm_intro hF
  refine g_J eS_24 ?_
  rw [hQ]
  exact j_vret C ⟨rfl, hF⟩ dJ2_putStringAt_18
def F_gJ2_append (G : GT) (S : GZ) (x0 : Nat) (x1 : Nat) (P : Nat → AH → Prop) : Prop := aC G S.1 x1 14 ∧ ∃ c_21 s_22 : Nat, c_21 ≤ S.2.1 ∧ s_22 ≤ S.2.2 ∧ F_gJ4_length G (S.1, c_21, s_22) x1 (fun r_23 h_24 => nm (α := GZ) (h_24, S.2.1 - c_21, S.2.2 - s_22) (fun S_25 => ∃ v_26 : Int32, aF G S_25.1 x0 13 3 (.int v_26) ∧ (aC G S_25.1 x0 13 ∧ ∃ c_27 s_28 : Nat, c_27 ≤ S_25.2.1 ∧ s_28 ≤ S_25.2.2 ∧ F_gJ2_ensureCapacityInternal G (S_25.1, c_27, s_28) x0 (v_26 + r_23) (fun h_30 => nm (α := GZ) (h_30, S_25.2.1 - c_27, S_25.2.2 - s_28) (fun S_31 => ∃ v_32 : Int32, aF G S_31.1 x0 13 3 (.int v_32) ∧ (aC G S_31.1 x0 13 ∧ ∃ c_33 s_34 : Nat, c_33 ≤ S_31.2.1 ∧ s_34 ≤ S_31.2.2 ∧ F_gJ2_putStringAt G (S_31.1, c_33, s_34) x0 v_32 x1 (fun h_36 => nm (α := GZ) (h_36, S_31.2.1 - c_33, S_31.2.2 - s_34) (fun S_37 => ∃ v_38 : Int32, aF G S_37.1 x0 13 3 (.int v_38) ∧ (∃ fs_39 : List Value, S_37.1 x0 = some (.inr (13, fs_39)) ∧ 3 < fs_39.length ∧ (nm (α := GZ) (hup S_37.1 x0 (.inr (13, List.set fs_39 3 (.int (v_38 + r_23)))), S_37.2.1, S_37.2.2) (fun S_40 => P x0 S_40.1)))))))))))
set_option maxHeartbeats 4000000 in
theorem M_gJ2_append (G : GT) (l : Launch) (hG : GOK G) (hTab : TabF G) (hm : FreeG G) (S : GZ) (x0 : Nat) (x1 : Nat) (P : Nat → AH → Prop) (hF : F_gJ2_append G S x0 x1 P) : MT G l yJ2_append cJ2_append 3 (some (Jvm.ClassFile.FieldType.object "java/lang/AbstractStringBuilder")) 8 285 S.2.1 S.2.2 [.ref x0, .ref x1] S.1 (fun v h' => ∃ r : Nat, v = some (.ref r) ∧ P r h') := by
  refine MT.mk (own := RJ2) (by decide) rfl hG (Nat.le_of_ble_eq_true rfl) ?_
  intro p e s m below meth c args Q hargs hQ C hname
  refine J.loca (L2 := [(0, .ref x0), (1, .ref x1)]) rfl ?_
  unfold F_gJ2_append at hF
  refine j_aload_n C dJ2_append_0 rfl 1 rfl ?_
  refine j_ifnonnull (tgt := 9) C dJ2_append_1 (by decide) ?_
  refine j_aload_n C dJ2_append_9 rfl 1 rfl ?_
  obtain ⟨hrc, hF⟩ := hF
  obtain ⟨c_21, s_22, hc1, hc2, hF⟩ := hF
  refine jg_callV (n := 0) (As := []) (rest := []) C (M_gJ4_length G l hG hTab hm (S.1, c_21, s_22) x1 _ hF) q824 ⟨q825, q826, q99, q827, by decide +kernel⟩ rfl hrc rfl rfl (Nat.le_of_ble_eq_true rfl) ⟨Nat.le_of_ble_eq_true rfl, Nat.le_of_ble_eq_true rfl⟩ hc1 hc2 dJ2_append_10 (kk_i fun r_23 h_24 hF => ?_)
  obtain ⟨S_25, eS_25, hF⟩ := nm_intro hF
  refine g_J eS_25 ?_
  refine j_istore_n (L2 := [(2, .int r_23), (0, .ref x0), (1, .ref x1)]) C dJ2_append_13 rfl (by decide) rfl ?_
  refine j_aload_n C dJ2_append_14 rfl 1 rfl ?_
  refine j_aload_n C dJ2_append_15 rfl 1 rfl ?_
  obtain ⟨v_26, hgd, hF⟩ := hF
  refine jg_get C (T := TJ3) (N := 4) rfl in_J3 3 (by decide) q243 rfl hgd dJ2_append_16 ?_
  refine j_iload_n C dJ2_append_19 rfl 0 rfl ?_
  refine j_iadd C dJ2_append_20 ?_
  obtain ⟨hrc, hF⟩ := hF
  obtain ⟨c_27, s_28, hc1, hc2, hF⟩ := hF
  refine jg_callP (n := 1) (As := [.int (v_26 + r_23)]) (rest := []) C hTab (M_gJ2_ensureCapacityInternal G l hG hTab hm (S_25.1, c_27, s_28) x0 (v_26 + r_23) _ hF) q766 ⟨q768, q767, q97, q769, q2299, by decide +kernel⟩ hrc rfl rfl (Nat.le_of_ble_eq_true rfl) ⟨Nat.le_of_ble_eq_true rfl, Nat.le_of_ble_eq_true rfl⟩ hc1 hc2 dJ2_append_21 (kk_v fun h_30 hF => ?_)
  obtain ⟨S_31, eS_31, hF⟩ := nm_intro hF
  refine g_J eS_31 ?_
  refine j_aload_n C dJ2_append_24 rfl 1 rfl ?_
  refine j_aload_n C dJ2_append_25 rfl 1 rfl ?_
  obtain ⟨v_32, hgd, hF⟩ := hF
  refine jg_get C (T := TJ3) (N := 4) rfl in_J3 3 (by decide) q243 rfl hgd dJ2_append_26 ?_
  refine j_aload_n C dJ2_append_29 rfl 2 rfl ?_
  obtain ⟨hrc, hF⟩ := hF
  obtain ⟨c_33, s_34, hc1, hc2, hF⟩ := hF
  refine jg_callP (n := 2) (As := [.int v_32, .ref x1]) (rest := []) C hTab (M_gJ2_putStringAt G l hG hTab hm (S_31.1, c_33, s_34) x0 v_32 x1 _ hF) q833 ⟨q835, q834, q97, q836, q2301, by decide +kernel⟩ hrc rfl rfl (Nat.le_of_ble_eq_true rfl) ⟨Nat.le_of_ble_eq_true rfl, Nat.le_of_ble_eq_true rfl⟩ hc1 hc2 dJ2_append_30 (kk_v fun h_36 hF => ?_)
  obtain ⟨S_37, eS_37, hF⟩ := nm_intro hF
  refine g_J eS_37 ?_
  refine j_aload_n C dJ2_append_33 rfl 1 rfl ?_
  refine j_dup C dJ2_append_34 rfl ?_
  obtain ⟨v_38, hgd, hF⟩ := hF
  refine jg_get C (T := TJ3) (N := 4) rfl in_J3 3 (by decide) q243 rfl hgd dJ2_append_35 ?_
  refine j_iload_n C dJ2_append_38 rfl 0 rfl ?_
  refine j_iadd C dJ2_append_39 ?_
  obtain ⟨fs_39, hg1, hg2, hF⟩ := hF
  refine j_put C hm hg1 rfl in_J3 tyJ3 tyJ3_ok nmJ3 3 (by decide) q243 rfl rfl rfl rfl hg2 dJ2_append_40 ?_
  obtain ⟨S_40, eS_40, hF⟩ := nm_intro hF
  refine g_J eS_40 ?_
  refine j_aload_n C dJ2_append_43 rfl 1 rfl ?_
  rw [hQ]
  exact j_aret C (Or.inl ⟨_, rfl⟩) (Or.inr ⟨_, rfl⟩) ⟨_, rfl, hF⟩ dJ2_append_44
def F_gJ4_checkBoundsBeginEnd (G : GT) (S : GZ) (x0 : Int32) (x1 : Int32) (x2 : Int32) (P : AH → Prop) : Prop := ∃ v_7 : Option Nat, StV G "jdk/internal/util/Preconditions" "SIOOBE_FORMATTER" "Ljava/util/function/BiFunction;" (va_rf v_7) ∧ (∃ c_8 s_9 : Nat, c_8 ≤ S.2.1 ∧ s_9 ≤ S.2.2 ∧ F_gJ23_checkFromToIndex G (S.1, c_8, s_9) x0 x1 x2 v_7 (fun r_10 h_11 => nm (α := GZ) (h_11, S.2.1 - c_8, S.2.2 - s_9) (fun S_12 => P S_12.1)))
set_option maxHeartbeats 4000000 in
theorem M_gJ4_checkBoundsBeginEnd (G : GT) (l : Launch) (hG : GOK G) (hTab : TabF G) (hm : FreeG G) (S : GZ) (x0 : Int32) (x1 : Int32) (x2 : Int32) (P : AH → Prop) (hF : F_gJ4_checkBoundsBeginEnd G S x0 x1 x2 P) : MT G l yJ4_checkBoundsBeginEnd cJ4_checkBoundsBeginEnd 3 none 1 33 S.2.1 S.2.2 [.int x0, .int x1, .int x2] S.1 (fun v h' => v = none ∧ P h') := by
  refine MT.mk (own := RJ4) (by decide) rfl hG (Nat.le_of_ble_eq_true rfl) ?_
  intro p e s m below meth c args Q hargs hQ C hname
  refine J.loca (L2 := [(0, .int x0), (1, .int x1), (2, .int x2)]) rfl ?_
  unfold F_gJ4_checkBoundsBeginEnd at hF
  refine j_iload_n C dJ4_checkBoundsBeginEnd_0 rfl 0 rfl ?_
  refine j_iload_n C dJ4_checkBoundsBeginEnd_1 rfl 1 rfl ?_
  refine j_iload_n C dJ4_checkBoundsBeginEnd_2 rfl 2 rfl ?_
  obtain ⟨v_7, hgd, hF⟩ := hF
  refine jg_gets C hgd q810 rfl dJ4_checkBoundsBeginEnd_3 ?_
  obtain ⟨c_8, s_9, hc1, hc2, hF⟩ := hF
  refine j_callS (n := 4) (As := [.int x0, .int x1, .int x2, va_rf v_7]) (rest := []) C (M_gJ23_checkFromToIndex G l hG hTab hm (S.1, c_8, s_9) x0 x1 x2 v_7 _ hF) q812 ⟨q813, q129, q814, by decide +kernel⟩ rfl rfl (Nat.le_of_ble_eq_true rfl) ⟨Nat.le_of_ble_eq_true rfl, Nat.le_of_ble_eq_true rfl⟩ hc1 hc2 dJ4_checkBoundsBeginEnd_6 (kk_i fun r_10 h_11 hF => ?_)
  obtain ⟨S_12, eS_12, hF⟩ := nm_intro hF
  refine g_J eS_12 ?_
  refine j_pop C dJ4_checkBoundsBeginEnd_9 rfl ?_
  rw [hQ]
  exact j_vret C ⟨rfl, hF⟩ dJ4_checkBoundsBeginEnd_10
def F_gJ5_checkBoundsBeginEnd (G : GT) (S : GZ) (x0 : Int32) (x1 : Int32) (x2 : Nat) (P : AH → Prop) : Prop := ∃ c_11 s_12 : Nat, c_11 ≤ S.2.1 ∧ s_12 ≤ S.2.2 ∧ F_gJ5_length G (S.1, c_11, s_12) x2 (fun r_13 h_14 => nm (α := GZ) (h_14, S.2.1 - c_11, S.2.2 - s_12) (fun S_15 => ∃ c_16 s_17 : Nat, c_16 ≤ S_15.2.1 ∧ s_17 ≤ S_15.2.2 ∧ F_gJ4_checkBoundsBeginEnd G (S_15.1, c_16, s_17) x0 x1 r_13 (fun h_19 => nm (α := GZ) (h_19, S_15.2.1 - c_16, S_15.2.2 - s_17) (fun S_20 => P S_20.1))))
set_option maxHeartbeats 4000000 in
theorem M_gJ5_checkBoundsBeginEnd (G : GT) (l : Launch) (hG : GOK G) (hTab : TabF G) (hm : FreeG G) (S : GZ) (x0 : Int32) (x1 : Int32) (x2 : Nat) (P : AH → Prop) (hF : F_gJ5_checkBoundsBeginEnd G S x0 x1 x2 P) : MT G l yJ5_checkBoundsBeginEnd cJ5_checkBoundsBeginEnd 3 none 2 65 S.2.1 S.2.2 [.int x0, .int x1, .ref x2] S.1 (fun v h' => v = none ∧ P h') := by
  refine MT.mk (own := RJ5) (by decide) rfl hG (Nat.le_of_ble_eq_true rfl) ?_
  intro p e s m below meth c args Q hargs hQ C hname
  refine J.loca (L2 := [(0, .int x0), (1, .int x1), (2, .ref x2)]) rfl ?_
  unfold F_gJ5_checkBoundsBeginEnd at hF
  refine j_iload_n C dJ5_checkBoundsBeginEnd_0 rfl 0 rfl ?_
  refine j_iload_n C dJ5_checkBoundsBeginEnd_1 rfl 1 rfl ?_
  refine j_aload_n C dJ5_checkBoundsBeginEnd_2 rfl 2 rfl ?_
  obtain ⟨c_11, s_12, hc1, hc2, hF⟩ := hF
  refine j_callS (n := 1) (As := [.ref x2]) (rest := [.int x1, .int x0]) C (M_gJ5_length G l hG hTab hm (S.1, c_11, s_12) x2 _ hF) q804 ⟨q805, q100, q806, by decide +kernel⟩ rfl rfl (Nat.le_of_ble_eq_true rfl) ⟨Nat.le_of_ble_eq_true rfl, Nat.le_of_ble_eq_true rfl⟩ hc1 hc2 dJ5_checkBoundsBeginEnd_3 (kk_i fun r_13 h_14 hF => ?_)
  obtain ⟨S_15, eS_15, hF⟩ := nm_intro hF
  refine g_J eS_15 ?_
  obtain ⟨c_16, s_17, hc1, hc2, hF⟩ := hF
  refine j_callS (n := 3) (As := [.int x0, .int x1, .int r_13]) (rest := []) C (M_gJ4_checkBoundsBeginEnd G l hG hTab hm (S_15.1, c_16, s_17) x0 x1 r_13 _ hF) q807 ⟨q808, q99, q809, by decide +kernel⟩ rfl rfl (Nat.le_of_ble_eq_true rfl) ⟨Nat.le_of_ble_eq_true rfl, Nat.le_of_ble_eq_true rfl⟩ hc1 hc2 dJ5_checkBoundsBeginEnd_6 (kk_v fun h_19 hF => ?_)
  obtain ⟨S_20, eS_20, hF⟩ := nm_intro hF
  refine g_J eS_20 ?_
  rw [hQ]
  exact j_vret C ⟨rfl, hF⟩ dJ5_checkBoundsBeginEnd_9
def F_gJ5_getChars (G : GT) (S : GZ) (x0 : Int32) (x1 : Int32) (x2 : Int32) (x3 : Nat) (P : Int32 → AH → Prop) : Prop := ∃ c_12 s_13 : Nat, c_12 ≤ S.2.1 ∧ s_13 ≤ S.2.2 ∧ F_gJ5_checkBoundsBeginEnd G (S.1, c_12, s_13) x1 x2 x3 (fun h_15 => nm (α := GZ) (h_15, S.2.1 - c_12, S.2.2 - s_13) (fun S_16 => ∃ c_17 s_18 : Nat, c_17 ≤ S_16.2.1 ∧ s_18 ≤ S_16.2.2 ∧ F_gJ5_getChars_2 G (S_16.1, c_17, s_18) x0 x2 x3 (fun r_19 h_20 => nm (α := GZ) (h_20, S_16.2.1 - c_17, S_16.2.2 - s_18) (fun S_21 => ∃ v_22 : Int32, StV G "java/lang/StringUTF16" "$assertionsDisabled" "Z" (.int v_22) ∧ ((v_22 = 0 → (x1 = r_19 → P r_19 S_21.1) ∧ (¬ x1 = r_19 → False)) ∧ (¬ v_22 = 0 → P r_19 S_21.1))))))
set_option maxHeartbeats 4000000 in
theorem M_gJ5_getChars (G : GT) (l : Launch) (hG : GOK G) (hTab : TabF G) (hm : FreeG G) (S : GZ) (x0 : Int32) (x1 : Int32) (x2 : Int32) (x3 : Nat) (P : Int32 → AH → Prop) (hF : F_gJ5_getChars G S x0 x1 x2 x3 P) : MT G l yJ5_getChars cJ5_getChars 5 (some Jvm.ClassFile.FieldType.int) 3 98 S.2.1 S.2.2 [.int x0, .int x1, .int x2, .ref x3] S.1 (fun v h' => ∃ r : Int32, v = some (.int r) ∧ P r h') := by
  refine MT.mk (own := RJ5) (by decide) rfl hG (Nat.le_of_ble_eq_true rfl) ?_
  intro p e s m below meth c args Q hargs hQ C hname
  refine J.loca (L2 := [(0, .int x0), (1, .int x1), (2, .int x2), (3, .ref x3)]) rfl ?_
  unfold F_gJ5_getChars at hF
  refine j_iload_n C dJ5_getChars_0 rfl 1 rfl ?_
  refine j_iload_n C dJ5_getChars_1 rfl 2 rfl ?_
  refine j_aload_n C dJ5_getChars_2 rfl 3 rfl ?_
  obtain ⟨c_12, s_13, hc1, hc2, hF⟩ := hF
  refine j_callS (n := 3) (As := [.int x1, .int x2, .ref x3]) (rest := []) C (M_gJ5_checkBoundsBeginEnd G l hG hTab hm (S.1, c_12, s_13) x1 x2 x3 _ hF) q801 ⟨q802, q100, q803, by decide +kernel⟩ rfl rfl (Nat.le_of_ble_eq_true rfl) ⟨Nat.le_of_ble_eq_true rfl, Nat.le_of_ble_eq_true rfl⟩ hc1 hc2 dJ5_getChars_3 (kk_v fun h_15 hF => ?_)
  obtain ⟨S_16, eS_16, hF⟩ := nm_intro hF
  refine g_J eS_16 ?_
  refine j_iload_n C dJ5_getChars_6 rfl 0 rfl ?_
  refine j_iload_n C dJ5_getChars_7 rfl 2 rfl ?_
  refine j_aload_n C dJ5_getChars_8 rfl 3 rfl ?_
  obtain ⟨c_17, s_18, hc1, hc2, hF⟩ := hF
  refine j_callS (n := 3) (As := [.int x0, .int x2, .ref x3]) (rest := []) C (M_gJ5_getChars_2 G l hG hTab hm (S_16.1, c_17, s_18) x0 x2 x3 _ hF) q887 ⟨q888, q100, q889, by decide +kernel⟩ rfl rfl (Nat.le_of_ble_eq_true rfl) ⟨Nat.le_of_ble_eq_true rfl, Nat.le_of_ble_eq_true rfl⟩ hc1 hc2 dJ5_getChars_9 (kk_i fun r_19 h_20 hF => ?_)
  obtain ⟨S_21, eS_21, hF⟩ := nm_intro hF
  refine g_J eS_21 ?_
  refine j_istore (L2 := [(4, .int r_19), (0, .int x0), (1, .int x1), (2, .int x2), (3, .ref x3)]) C dJ5_getChars_12 (by decide) rfl ?_
  obtain ⟨v_22, hgd, hF⟩ := hF
  refine jg_gets C hgd q818 rfl dJ5_getChars_14 ?_
  refine j_if_ne (tgt := 34) C dJ5_getChars_17 (by decide) (fun hc_23 => ?_) (fun hc_23 => ?_)
  · replace hF := hF.2 hc_23
    refine j_iload C dJ5_getChars_34 0 rfl ?_
    rw [hQ]
    exact j_iret C rfl ⟨_, rfl, hF⟩ dJ5_getChars_36
  · replace hF := hF.1 hc_23
    refine j_iload_n C dJ5_getChars_20 rfl 2 rfl ?_
    refine j_iload C dJ5_getChars_21 0 rfl ?_
    refine j_icmp_eq (tgt := 34) C dJ5_getChars_23 (by decide) (fun hc_24 => ?_) (fun hc_24 => ?_)
    · replace hF := hF.1 hc_24
      refine j_iload C dJ5_getChars_34 0 rfl ?_
      rw [hQ]
      exact j_iret C rfl ⟨_, rfl, hF⟩ dJ5_getChars_36
    · replace hF := hF.2 hc_24
      exact hF.elim
def F_gJ2_append_2 (G : GT) (S : GZ) (x0 : Nat) (x1 : Int32) (P : Nat → AH → Prop) : Prop := ∃ v_31 : Int32, aF G S.1 x0 13 3 (.int v_31) ∧ (∃ c_32 s_33 : Nat, c_32 ≤ S.2.1 ∧ s_33 ≤ S.2.2 ∧ F_gJ20_stringSize G (S.1, c_32, s_33) x1 (fun r_34 h_35 => nm (α := GZ) (h_35, S.2.1 - c_32, S.2.2 - s_33) (fun S_36 => aC G S_36.1 x0 13 ∧ ∃ c_37 s_38 : Nat, c_37 ≤ S_36.2.1 ∧ s_38 ≤ S_36.2.2 ∧ F_gJ2_ensureCapacityInternal G (S_36.1, c_37, s_38) x0 (v_31 + r_34) (fun h_40 => nm (α := GZ) (h_40, S_36.2.1 - c_37, S_36.2.2 - s_38) (fun S_41 => aC G S_41.1 x0 13 ∧ ∃ c_42 s_43 : Nat, c_42 ≤ S_41.2.1 ∧ s_43 ≤ S_41.2.2 ∧ F_gJ2_isLatin1 G (S_41.1, c_42, s_43) x0 (fun r_44 h_45 => nm (α := GZ) (h_45, S_41.2.1 - c_42, S_41.2.2 - s_43) (fun S_46 => jn (α := GZ → Prop) (fun S_48 => ∃ fs_49 : List Value, S_48.1 x0 = some (.inr (13, fs_49)) ∧ 3 < fs_49.length ∧ (nm (α := GZ) (hup S_48.1 x0 (.inr (13, List.set fs_49 3 (.int (v_31 + r_34)))), S_48.2.1, S_48.2.2) (fun S_50 => P x0 S_50.1))) (fun K_47 => (r_44 = 0 → ∃ v_52 : Nat, aF G S_46.1 x0 13 0 (.ref v_52) ∧ (∃ c_53 s_54 : Nat, c_53 ≤ S_46.2.1 ∧ s_54 ≤ S_46.2.2 ∧ F_gJ5_getChars G (S_46.1, c_53, s_54) x1 v_31 (v_31 + r_34) v_52 (fun r_55 h_56 => nm (α := GZ) (h_56, S_46.2.1 - c_53, S_46.2.2 - s_54) (fun S_57 => K_47 S_57)))) ∧ (¬ r_44 = 0 → ∃ v_58 : Nat, aF G S_46.1 x0 13 0 (.ref v_58) ∧ (∃ c_59 s_60 : Nat, c_59 ≤ S_46.2.1 ∧ s_60 ≤ S_46.2.2 ∧ F_gJ20_getChars G (S_46.1, c_59, s_60) x1 (v_31 + r_34) v_58 (fun r_61 h_62 => nm (α := GZ) (h_62, S_46.2.1 - c_59, S_46.2.2 - s_60) (fun S_63 => K_47 S_63))))))))))))
set_option maxHeartbeats 4000000 in
theorem M_gJ2_append_2 (G : GT) (l : Launch) (hG : GOK G) (hTab : TabF G) (hm : FreeG G) (S : GZ) (x0 : Nat) (x1 : Int32) (P : Nat → AH → Prop) (hF : F_gJ2_append_2 G S x0 x1 P) : MT G l yJ2_append_2 cJ2_append_2 4 (some (Jvm.ClassFile.FieldType.object "java/lang/AbstractStringBuilder")) 4 284 S.2.1 S.2.2 [.ref x0, .int x1] S.1 (fun v h' => ∃ r : Nat, v = some (.ref r) ∧ P r h') := by
  refine MT.mk (own := RJ2) (by decide) rfl hG (Nat.le_of_ble_eq_true rfl) ?_
  intro p e s m below meth c args Q hargs hQ C hname
  refine J.loca (L2 := [(0, .ref x0), (1, .int x1)]) rfl ?_
  unfold F_gJ2_append_2 at hF
  refine j_aload_n C dJ2_append_2_0 rfl 0 rfl ?_
  obtain ⟨v_31, hgd, hF⟩ := hF
  refine jg_get C (T := TJ3) (N := 4) rfl in_J3 3 (by decide) q243 rfl hgd dJ2_append_2_1 ?_
  refine j_istore_n (L2 := [(2, .int v_31), (0, .ref x0), (1, .int x1)]) C dJ2_append_2_4 rfl (by decide) rfl ?_
  refine j_iload_n C dJ2_append_2_5 rfl 0 rfl ?_
  refine j_iload_n C dJ2_append_2_6 rfl 2 rfl ?_
  obtain ⟨c_32, s_33, hc1, hc2, hF⟩ := hF
  refine j_callS (n := 1) (As := [.int x1]) (rest := [.int v_31]) C (M_gJ20_stringSize G l hG hTab hm (S.1, c_32, s_33) x1 _ hF) q874 ⟨q875, q125, q876, by decide +kernel⟩ rfl rfl (Nat.le_of_ble_eq_true rfl) ⟨Nat.le_of_ble_eq_true rfl, Nat.le_of_ble_eq_true rfl⟩ hc1 hc2 dJ2_append_2_7 (kk_i fun r_34 h_35 hF => ?_)
  obtain ⟨S_36, eS_36, hF⟩ := nm_intro hF
  refine g_J eS_36 ?_
  refine j_iadd C dJ2_append_2_10 ?_
  refine j_istore_n (L2 := [(3, .int (v_31 + r_34)), (2, .int v_31), (0, .ref x0), (1, .int x1)]) C dJ2_append_2_11 rfl (by decide) rfl ?_
  refine j_aload_n C dJ2_append_2_12 rfl 2 rfl ?_
  refine j_iload_n C dJ2_append_2_13 rfl 0 rfl ?_
  obtain ⟨hrc, hF⟩ := hF
  obtain ⟨c_37, s_38, hc1, hc2, hF⟩ := hF
  refine jg_callP (n := 1) (As := [.int (v_31 + r_34)]) (rest := []) C hTab (M_gJ2_ensureCapacityInternal G l hG hTab hm (S_36.1, c_37, s_38) x0 (v_31 + r_34) _ hF) q766 ⟨q768, q767, q97, q769, q2299, by decide +kernel⟩ hrc rfl rfl (Nat.le_of_ble_eq_true rfl) ⟨Nat.le_of_ble_eq_true rfl, Nat.le_of_ble_eq_true rfl⟩ hc1 hc2 dJ2_append_2_14 (kk_v fun h_40 hF => ?_)
  obtain ⟨S_41, eS_41, hF⟩ := nm_intro hF
  refine g_J eS_41 ?_
  refine j_aload_n C dJ2_append_2_17 rfl 2 rfl ?_
  obtain ⟨hrc, hF⟩ := hF
  obtain ⟨c_42, s_43, hc1, hc2, hF⟩ := hF
  refine jg_callU (n := 0) (As := []) (rest := []) C (M_gJ2_isLatin1 G l hG hTab hm (S_41.1, c_42, s_43) x0 _ hF) q793 ⟨q794, q796, q97, q797, q795, by decide +kernel⟩ rfl hrc rfl rfl (Nat.le_of_ble_eq_true rfl) ⟨Nat.le_of_ble_eq_true rfl, Nat.le_of_ble_eq_true rfl⟩ hc1 hc2 dJ2_append_2_18 (kk_i fun r_44 h_45 hF => ?_)
  obtain ⟨S_46, eS_46, hF⟩ := nm_intro hF
  refine g_J eS_46 ?_
  obtain ⟨K_47, hK_47, hF⟩ := jn_intro (M := fun (K : GZ → Prop) => ∀ (S_48 : GZ), K S_48 → J G p l e ({ frames := 4, cells := S.2.1, slots := S.2.2, locals := 284 } : Room) s m args below meth c 4 Q S_48.2.1 S_48.2.2 S_48.1 48 [(0, .ref x0), (3, .int (v_31 + r_34))] []) (hk := by
      intro S_48 hF
      refine j_aload_n C dJ2_append_2_48 rfl 0 rfl ?_
      refine j_iload_n C dJ2_append_2_49 rfl 1 rfl ?_
      obtain ⟨fs_49, hg1, hg2, hF⟩ := hF
      refine j_put C hm hg1 rfl in_J3 tyJ3 tyJ3_ok nmJ3 3 (by decide) q243 rfl rfl rfl rfl hg2 dJ2_append_2_50 ?_
      obtain ⟨S_50, eS_50, hF⟩ := nm_intro hF
      refine g_J eS_50 ?_
      refine j_aload_n C dJ2_append_2_53 rfl 0 rfl ?_
      rw [hQ]
      exact j_aret C (Or.inl ⟨_, rfl⟩) (Or.inr ⟨_, rfl⟩) ⟨_, rfl, hF⟩ dJ2_append_2_54) hF
  refine j_if_eq (tgt := 37) C dJ2_append_2_21 (by decide) (fun hc_51 => ?_) (fun hc_51 => ?_)
  · replace hF := hF.1 hc_51
    refine j_iload_n C dJ2_append_2_37 rfl 3 rfl ?_
    refine j_iload_n C dJ2_append_2_38 rfl 1 rfl ?_
    refine j_iload_n C dJ2_append_2_39 rfl 0 rfl ?_
    refine j_aload_n C dJ2_append_2_40 rfl 2 rfl ?_
    obtain ⟨v_52, hgd, hF⟩ := hF
    refine jg_get C (T := TJ3) (N := 4) rfl in_J3 0 (by decide) q239 rfl hgd dJ2_append_2_41 ?_
    obtain ⟨c_53, s_54, hc1, hc2, hF⟩ := hF
    refine j_callS (n := 4) (As := [.int x1, .int v_31, .int (v_31 + r_34), .ref v_52]) (rest := []) C (M_gJ5_getChars G l hG hTab hm (S_46.1, c_53, s_54) x1 v_31 (v_31 + r_34) v_52 _ hF) q884 ⟨q885, q100, q886, by decide +kernel⟩ rfl rfl (Nat.le_of_ble_eq_true rfl) ⟨Nat.le_of_ble_eq_true rfl, Nat.le_of_ble_eq_true rfl⟩ hc1 hc2 dJ2_append_2_44 (kk_i fun r_55 h_56 hF => ?_)
    obtain ⟨S_57, eS_57, hF⟩ := nm_intro hF
    refine g_J eS_57 ?_
    refine j_pop C dJ2_append_2_47 rfl ?_
    exact J.locals [2, 0] (hK_47 _ hF) rfl
  · replace hF := hF.2 hc_51
    refine j_iload_n C dJ2_append_2_24 rfl 3 rfl ?_
    refine j_iload_n C dJ2_append_2_25 rfl 0 rfl ?_
    refine j_aload_n C dJ2_append_2_26 rfl 2 rfl ?_
    obtain ⟨v_58, hgd, hF⟩ := hF
    refine jg_get C (T := TJ3) (N := 4) rfl in_J3 0 (by decide) q239 rfl hgd dJ2_append_2_27 ?_
    obtain ⟨c_59, s_60, hc1, hc2, hF⟩ := hF
    refine j_callS (n := 3) (As := [.int x1, .int (v_31 + r_34), .ref v_58]) (rest := []) C (M_gJ20_getChars G l hG hTab hm (S_46.1, c_59, s_60) x1 (v_31 + r_34) v_58 _ hF) q877 ⟨q878, q125, q879, by decide +kernel⟩ rfl rfl (Nat.le_of_ble_eq_true rfl) ⟨Nat.le_of_ble_eq_true rfl, Nat.le_of_ble_eq_true rfl⟩ hc1 hc2 dJ2_append_2_30 (kk_i fun r_61 h_62 hF => ?_)
    obtain ⟨S_63, eS_63, hF⟩ := nm_intro hF
    refine g_J eS_63 ?_
    refine j_pop C dJ2_append_2_33 rfl ?_
    refine j_goto (tgt := 48) C dJ2_append_2_34 (by decide) ?_
    exact J.locals [2, 0] (hK_47 _ hF) rfl
def F_gJ5_checkIndex (G : GT) (S : GZ) (x0 : Int32) (x1 : Nat) (P : AH → Prop) : Prop := ∃ c_11 s_12 : Nat, c_11 ≤ S.2.1 ∧ s_12 ≤ S.2.2 ∧ F_gJ5_length G (S.1, c_11, s_12) x1 (fun r_13 h_14 => nm (α := GZ) (h_14, S.2.1 - c_11, S.2.2 - s_12) (fun S_15 => ∃ c_16 s_17 : Nat, c_16 ≤ S_15.2.1 ∧ s_17 ≤ S_15.2.2 ∧ F_gJ4_checkIndex G (S_15.1, c_16, s_17) x0 r_13 (fun h_19 => nm (α := GZ) (h_19, S_15.2.1 - c_16, S_15.2.2 - s_17) (fun S_20 => P S_20.1))))
set_option maxHeartbeats 4000000 in
theorem M_gJ5_checkIndex (G : GT) (l : Launch) (hG : GOK G) (hTab : TabF G) (hm : FreeG G) (S : GZ) (x0 : Int32) (x1 : Nat) (P : AH → Prop) (hF : F_gJ5_checkIndex G S x0 x1 P) : MT G l yJ5_checkIndex cJ5_checkIndex 2 none 2 63 S.2.1 S.2.2 [.int x0, .ref x1] S.1 (fun v h' => v = none ∧ P h') := by
  refine MT.mk (own := RJ5) (by decide) rfl hG (Nat.le_of_ble_eq_true rfl) ?_
  intro p e s m below meth c args Q hargs hQ C hname
  refine J.loca (L2 := [(0, .int x0), (1, .ref x1)]) rfl ?_
  unfold F_gJ5_checkIndex at hF
  refine j_iload_n C dJ5_checkIndex_0 rfl 0 rfl ?_
  refine j_aload_n C dJ5_checkIndex_1 rfl 1 rfl ?_
  obtain ⟨c_11, s_12, hc1, hc2, hF⟩ := hF
  refine j_callS (n := 1) (As := [.ref x1]) (rest := [.int x0]) C (M_gJ5_length G l hG hTab hm (S.1, c_11, s_12) x1 _ hF) q804 ⟨q805, q100, q806, by decide +kernel⟩ rfl rfl (Nat.le_of_ble_eq_true rfl) ⟨Nat.le_of_ble_eq_true rfl, Nat.le_of_ble_eq_true rfl⟩ hc1 hc2 dJ5_checkIndex_2 (kk_i fun r_13 h_14 hF => ?_)
  obtain ⟨S_15, eS_15, hF⟩ := nm_intro hF
  refine g_J eS_15 ?_
  obtain ⟨c_16, s_17, hc1, hc2, hF⟩ := hF
  refine j_callS (n := 2) (As := [.int x0, .int r_13]) (rest := []) C (M_gJ4_checkIndex G l hG hTab hm (S_15.1, c_16, s_17) x0 r_13 _ hF) q912 ⟨q913, q99, q914, by decide +kernel⟩ rfl rfl (Nat.le_of_ble_eq_true rfl) ⟨Nat.le_of_ble_eq_true rfl, Nat.le_of_ble_eq_true rfl⟩ hc1 hc2 dJ5_checkIndex_5 (kk_v fun h_19 hF => ?_)
  obtain ⟨S_20, eS_20, hF⟩ := nm_intro hF
  refine g_J eS_20 ?_
  rw [hQ]
  exact j_vret C ⟨rfl, hF⟩ dJ5_checkIndex_8
def F_gJ5_putCharSB (G : GT) (S : GZ) (x0 : Nat) (x1 : Int32) (x2 : Int32) (P : AH → Prop) : Prop := ∃ c_11 s_12 : Nat, c_11 ≤ S.2.1 ∧ s_12 ≤ S.2.2 ∧ F_gJ5_checkIndex G (S.1, c_11, s_12) x1 x0 (fun h_14 => nm (α := GZ) (h_14, S.2.1 - c_11, S.2.2 - s_12) (fun S_15 => ∃ c_16 s_17 : Nat, c_16 ≤ S_15.2.1 ∧ s_17 ≤ S_15.2.2 ∧ F_gJ5_putChar G (S_15.1, c_16, s_17) x0 x1 x2 (fun h_19 => nm (α := GZ) (h_19, S_15.2.1 - c_16, S_15.2.2 - s_17) (fun S_20 => P S_20.1))))
set_option maxHeartbeats 4000000 in
theorem M_gJ5_putCharSB (G : GT) (l : Launch) (hG : GOK G) (hTab : TabF G) (hm : FreeG G) (S : GZ) (x0 : Nat) (x1 : Int32) (x2 : Int32) (P : AH → Prop) (hF : F_gJ5_putCharSB G S x0 x1 x2 P) : MT G l yJ5_putCharSB cJ5_putCharSB 3 none 3 94 S.2.1 S.2.2 [.ref x0, .int x1, .int x2] S.1 (fun v h' => v = none ∧ P h') := by
  refine MT.mk (own := RJ5) (by decide) rfl hG (Nat.le_of_ble_eq_true rfl) ?_
  intro p e s m below meth c args Q hargs hQ C hname
  refine J.loca (L2 := [(0, .ref x0), (1, .int x1), (2, .int x2)]) rfl ?_
  unfold F_gJ5_putCharSB at hF
  refine j_iload_n C dJ5_putCharSB_0 rfl 1 rfl ?_
  refine j_aload_n C dJ5_putCharSB_1 rfl 0 rfl ?_
  obtain ⟨c_11, s_12, hc1, hc2, hF⟩ := hF
  refine j_callS (n := 2) (As := [.int x1, .ref x0]) (rest := []) C (M_gJ5_checkIndex G l hG hTab hm (S.1, c_11, s_12) x1 x0 _ hF) q909 ⟨q910, q100, q911, by decide +kernel⟩ rfl rfl (Nat.le_of_ble_eq_true rfl) ⟨Nat.le_of_ble_eq_true rfl, Nat.le_of_ble_eq_true rfl⟩ hc1 hc2 dJ5_putCharSB_2 (kk_v fun h_14 hF => ?_)
  obtain ⟨S_15, eS_15, hF⟩ := nm_intro hF
  refine g_J eS_15 ?_
  refine j_aload_n C dJ5_putCharSB_5 rfl 0 rfl ?_
  refine j_iload_n C dJ5_putCharSB_6 rfl 1 rfl ?_
  refine j_iload_n C dJ5_putCharSB_7 rfl 2 rfl ?_
  obtain ⟨c_16, s_17, hc1, hc2, hF⟩ := hF
  refine j_callS (n := 3) (As := [.ref x0, .int x1, .int x2]) (rest := []) C (M_gJ5_putChar G l hG hTab hm (S_15.1, c_16, s_17) x0 x1 x2 _ hF) q815 ⟨q816, q100, q817, by decide +kernel⟩ rfl rfl (Nat.le_of_ble_eq_true rfl) ⟨Nat.le_of_ble_eq_true rfl, Nat.le_of_ble_eq_true rfl⟩ hc1 hc2 dJ5_putCharSB_8 (kk_v fun h_19 hF => ?_)
  obtain ⟨S_20, eS_20, hF⟩ := nm_intro hF
  refine g_J eS_20 ?_
  rw [hQ]
  exact j_vret C ⟨rfl, hF⟩ dJ5_putCharSB_11
def F_gJ2_append_3 (G : GT) (S : GZ) (x0 : Nat) (x1 : Int32) (P : Nat → AH → Prop) : Prop := ∃ v_43 : Int32, aF G S.1 x0 13 3 (.int v_43) ∧ (aC G S.1 x0 13 ∧ ∃ c_44 s_45 : Nat, c_44 ≤ S.2.1 ∧ s_45 ≤ S.2.2 ∧ F_gJ2_ensureCapacityInternal G (S.1, c_44, s_45) x0 (v_43 + 1) (fun h_47 => nm (α := GZ) (h_47, S.2.1 - c_44, S.2.2 - s_45) (fun S_48 => aC G S_48.1 x0 13 ∧ ∃ c_49 s_50 : Nat, c_49 ≤ S_48.2.1 ∧ s_50 ≤ S_48.2.2 ∧ F_gJ2_isLatin1 G (S_48.1, c_49, s_50) x0 (fun r_51 h_52 => nm (α := GZ) (h_52, S_48.2.1 - c_49, S_48.2.2 - s_50) (fun S_53 => jn (α := GZ → Prop) (fun S_55 => aC G S_55.1 x0 13 ∧ ∃ c_56 s_57 : Nat, c_56 ≤ S_55.2.1 ∧ s_57 ≤ S_55.2.2 ∧ F_gJ2_isLatin1 G (S_55.1, c_56, s_57) x0 (fun r_58 h_59 => nm (α := GZ) (h_59, S_55.2.1 - c_56, S_55.2.2 - s_57) (fun S_60 => jn (α := GZ → Prop) (fun S_62 => ∃ v_63 : Nat, aF G S_62.1 x0 13 0 (.ref v_63) ∧ (∃ v_64 : Int32, aF G S_62.1 x0 13 3 (.int v_64) ∧ (∃ fs_65 : List Value, S_62.1 x0 = some (.inr (13, fs_65)) ∧ 3 < fs_65.length ∧ (nm (α := GZ) (hup S_62.1 x0 (.inr (13, List.set fs_65 3 (.int (v_64 + 1)))), S_62.2.1, S_62.2.2) (fun S_66 => ∃ c_67 s_68 : Nat, c_67 ≤ S_66.2.1 ∧ s_68 ≤ S_66.2.2 ∧ F_gJ5_putCharSB G (S_66.1, c_67, s_68) v_63 v_64 x1 (fun h_70 => nm (α := GZ) (h_70, S_66.2.1 - c_67, S_66.2.2 - s_68) (fun S_71 => P x0 S_71.1))))))) (fun K_61 => (r_58 = 0 → K_61 S_60) ∧ (¬ r_58 = 0 → aC G S_60.1 x0 13 ∧ ∃ c_73 s_74 : Nat, c_73 ≤ S_60.2.1 ∧ s_74 ≤ S_60.2.2 ∧ F_gJ2_inflate G (S_60.1, c_73, s_74) x0 (fun h_76 => nm (α := GZ) (h_76, S_60.2.1 - c_73, S_60.2.2 - s_74) (fun S_77 => K_61 S_77))))))) (fun K_54 => (r_51 = 0 → K_54 S_53) ∧ (¬ r_51 = 0 → ∃ c_79 s_80 : Nat, c_79 ≤ S_53.2.1 ∧ s_80 ≤ S_53.2.2 ∧ F_gJ24_canEncode G (S_53.1, c_79, s_80) x1 (fun r_81 h_82 => nm (α := GZ) (h_82, S_53.2.1 - c_79, S_53.2.2 - s_80) (fun S_83 => (r_81 = 0 → K_54 S_83) ∧ (¬ r_81 = 0 → ∃ v_85 : Nat, aF G S_83.1 x0 13 0 (.ref v_85) ∧ (∃ v_86 : Int32, aF G S_83.1 x0 13 3 (.int v_86) ∧ (∃ fs_87 : List Value, S_83.1 x0 = some (.inr (13, fs_87)) ∧ 3 < fs_87.length ∧ (nm (α := GZ) (hup S_83.1 x0 (.inr (13, List.set fs_87 3 (.int (v_86 + 1)))), S_83.2.1, S_83.2.2) (fun S_88 => ∃ (n_89 : Nat) (f_90 : Nat → Int32), S_88.1 v_85 = some (.inl (G.2.2.1 2, n_89, .inl f_90)) ∧ vp_in v_86 n_89 ∧ (nm (α := GZ) (hup S_88.1 v_85 (.inl (G.2.2.1 2, n_89, .inl (upd f_90 (Int32.toNatClampNeg v_86) (vp_nar .byte ((x1).toInt8.toInt32))))), S_88.2.1, S_88.2.2) (fun S_91 => P x0 S_91.1))))))))))))))))
set_option maxHeartbeats 4000000 in
theorem M_gJ2_append_3 (G : GT) (l : Launch) (hG : GOK G) (hTab : TabF G) (hm : FreeG G) (S : GZ) (x0 : Nat) (x1 : Int32) (P : Nat → AH → Prop) (hF : F_gJ2_append_3 G S x0 x1 P) : MT G l yJ2_append_3 cJ2_append_3 2 (some (Jvm.ClassFile.FieldType.object "java/lang/AbstractStringBuilder")) 6 284 S.2.1 S.2.2 [.ref x0, .int x1] S.1 (fun v h' => ∃ r : Nat, v = some (.ref r) ∧ P r h') := by
  refine MT.mk (own := RJ2) (by decide) rfl hG (Nat.le_of_ble_eq_true rfl) ?_
  intro p e s m below meth c args Q hargs hQ C hname
  refine J.loca (L2 := [(0, .ref x0), (1, .int x1)]) rfl ?_
  unfold F_gJ2_append_3 at hF
  refine j_aload_n C dJ2_append_3_0 rfl 0 rfl ?_
  refine j_aload_n C dJ2_append_3_1 rfl 0 rfl ?_
  obtain ⟨v_43, hgd, hF⟩ := hF
  refine jg_get C (T := TJ3) (N := 4) rfl in_J3 3 (by decide) q243 rfl hgd dJ2_append_3_2 ?_
  refine j_iconst (v := 1) C dJ2_append_3_5 rfl ?_
  refine j_iadd C dJ2_append_3_6 ?_
  obtain ⟨hrc, hF⟩ := hF
  obtain ⟨c_44, s_45, hc1, hc2, hF⟩ := hF
  refine jg_callP (n := 1) (As := [.int (v_43 + 1)]) (rest := []) C hTab (M_gJ2_ensureCapacityInternal G l hG hTab hm (S.1, c_44, s_45) x0 (v_43 + 1) _ hF) q766 ⟨q768, q767, q97, q769, q2299, by decide +kernel⟩ hrc rfl rfl (Nat.le_of_ble_eq_true rfl) ⟨Nat.le_of_ble_eq_true rfl, Nat.le_of_ble_eq_true rfl⟩ hc1 hc2 dJ2_append_3_7 (kk_v fun h_47 hF => ?_)
  obtain ⟨S_48, eS_48, hF⟩ := nm_intro hF
  refine g_J eS_48 ?_
  refine j_aload_n C dJ2_append_3_10 rfl 0 rfl ?_
  obtain ⟨hrc, hF⟩ := hF
  obtain ⟨c_49, s_50, hc1, hc2, hF⟩ := hF
  refine jg_callU (n := 0) (As := []) (rest := []) C (M_gJ2_isLatin1 G l hG hTab hm (S_48.1, c_49, s_50) x0 _ hF) q793 ⟨q794, q796, q97, q797, q795, by decide +kernel⟩ rfl hrc rfl rfl (Nat.le_of_ble_eq_true rfl) ⟨Nat.le_of_ble_eq_true rfl, Nat.le_of_ble_eq_true rfl⟩ hc1 hc2 dJ2_append_3_11 (kk_i fun r_51 h_52 hF => ?_)
  obtain ⟨S_53, eS_53, hF⟩ := nm_intro hF
  refine g_J eS_53 ?_
  obtain ⟨K_54, hK_54, hF⟩ := jn_intro (M := fun (K : GZ → Prop) => ∀ (S_55 : GZ), K S_55 → J G p l e ({ frames := 6, cells := S.2.1, slots := S.2.2, locals := 284 } : Room) s m args below meth c 2 Q S_55.2.1 S_55.2.2 S_55.1 45 [(0, .ref x0), (1, .int x1)] []) (hk := by
      intro S_55 hF
      refine j_aload_n C dJ2_append_3_45 rfl 0 rfl ?_
      obtain ⟨hrc, hF⟩ := hF
      obtain ⟨c_56, s_57, hc1, hc2, hF⟩ := hF
      refine jg_callU (n := 0) (As := []) (rest := []) C (M_gJ2_isLatin1 G l hG hTab hm (S_55.1, c_56, s_57) x0 _ hF) q793 ⟨q794, q796, q97, q797, q795, by decide +kernel⟩ rfl hrc rfl rfl (Nat.le_of_ble_eq_true rfl) ⟨Nat.le_of_ble_eq_true rfl, Nat.le_of_ble_eq_true rfl⟩ hc1 hc2 dJ2_append_3_46 (kk_i fun r_58 h_59 hF => ?_)
      obtain ⟨S_60, eS_60, hF⟩ := nm_intro hF
      refine g_J eS_60 ?_
      obtain ⟨K_61, hK_61, hF⟩ := jn_intro (M := fun (K : GZ → Prop) => ∀ (S_62 : GZ), K S_62 → J G p l e ({ frames := 6, cells := S.2.1, slots := S.2.2, locals := 284 } : Room) s m args below meth c 2 Q S_62.2.1 S_62.2.2 S_62.1 56 [(0, .ref x0), (1, .int x1)] []) (hk := by
          intro S_62 hF
          refine j_aload_n C dJ2_append_3_56 rfl 0 rfl ?_
          obtain ⟨v_63, hgd, hF⟩ := hF
          refine jg_get C (T := TJ3) (N := 4) rfl in_J3 0 (by decide) q239 rfl hgd dJ2_append_3_57 ?_
          refine j_aload_n C dJ2_append_3_60 rfl 0 rfl ?_
          refine j_dup C dJ2_append_3_61 rfl ?_
          obtain ⟨v_64, hgd, hF⟩ := hF
          refine jg_get C (T := TJ3) (N := 4) rfl in_J3 3 (by decide) q243 rfl hgd dJ2_append_3_62 ?_
          refine j_dup_x1 C dJ2_append_3_65 rfl rfl ?_
          refine j_iconst (v := 1) C dJ2_append_3_66 rfl ?_
          refine j_iadd C dJ2_append_3_67 ?_
          obtain ⟨fs_65, hg1, hg2, hF⟩ := hF
          refine j_put C hm hg1 rfl in_J3 tyJ3 tyJ3_ok nmJ3 3 (by decide) q243 rfl rfl rfl rfl hg2 dJ2_append_3_68 ?_
          obtain ⟨S_66, eS_66, hF⟩ := nm_intro hF
          refine g_J eS_66 ?_
          refine j_iload_n C dJ2_append_3_71 rfl 1 rfl ?_
          obtain ⟨c_67, s_68, hc1, hc2, hF⟩ := hF
          refine j_callS (n := 3) (As := [.ref v_63, .int v_64, .int x1]) (rest := []) C (M_gJ5_putCharSB G l hG hTab hm (S_66.1, c_67, s_68) v_63 v_64 x1 _ hF) q906 ⟨q907, q100, q908, by decide +kernel⟩ rfl rfl (Nat.le_of_ble_eq_true rfl) ⟨Nat.le_of_ble_eq_true rfl, Nat.le_of_ble_eq_true rfl⟩ hc1 hc2 dJ2_append_3_72 (kk_v fun h_70 hF => ?_)
          obtain ⟨S_71, eS_71, hF⟩ := nm_intro hF
          refine g_J eS_71 ?_
          refine j_aload_n C dJ2_append_3_75 rfl 0 rfl ?_
          rw [hQ]
          exact j_aret C (Or.inl ⟨_, rfl⟩) (Or.inr ⟨_, rfl⟩) ⟨_, rfl, hF⟩ dJ2_append_3_76) hF
      refine j_if_eq (tgt := 56) C dJ2_append_3_49 (by decide) (fun hc_72 => ?_) (fun hc_72 => ?_)
      · replace hF := hF.1 hc_72
        exact J.locals [0, 1] (hK_61 _ hF) rfl
      · replace hF := hF.2 hc_72
        refine j_aload_n C dJ2_append_3_52 rfl 0 rfl ?_
        obtain ⟨hrc, hF⟩ := hF
        obtain ⟨c_73, s_74, hc1, hc2, hF⟩ := hF
        refine jg_callP (n := 0) (As := []) (rest := []) C hTab (M_gJ2_inflate G l hG hTab hm (S_60.1, c_73, s_74) x0 _ hF) q842 ⟨q844, q843, q97, q845, q2303, by decide +kernel⟩ hrc rfl rfl (Nat.le_of_ble_eq_true rfl) ⟨Nat.le_of_ble_eq_true rfl, Nat.le_of_ble_eq_true rfl⟩ hc1 hc2 dJ2_append_3_53 (kk_v fun h_76 hF => ?_)
        obtain ⟨S_77, eS_77, hF⟩ := nm_intro hF
        refine g_J eS_77 ?_
        exact J.locals [0, 1] (hK_61 _ hF) rfl) hF
  refine j_if_eq (tgt := 45) C dJ2_append_3_14 (by decide) (fun hc_78 => ?_) (fun hc_78 => ?_)
  · replace hF := hF.1 hc_78
    exact J.locals [0, 1] (hK_54 _ hF) rfl
  · replace hF := hF.2 hc_78
    refine j_iload_n C dJ2_append_3_17 rfl 1 rfl ?_
    obtain ⟨c_79, s_80, hc1, hc2, hF⟩ := hF
    refine j_callS (n := 1) (As := [.int x1]) (rest := []) C (M_gJ24_canEncode G l hG hTab hm (S_53.1, c_79, s_80) x1 _ hF) q903 ⟨q904, q131, q905, by decide +kernel⟩ rfl rfl (Nat.le_of_ble_eq_true rfl) ⟨Nat.le_of_ble_eq_true rfl, Nat.le_of_ble_eq_true rfl⟩ hc1 hc2 dJ2_append_3_18 (kk_i fun r_81 h_82 hF => ?_)
    obtain ⟨S_83, eS_83, hF⟩ := nm_intro hF
    refine g_J eS_83 ?_
    refine j_if_eq (tgt := 45) C dJ2_append_3_21 (by decide) (fun hc_84 => ?_) (fun hc_84 => ?_)
    · replace hF := hF.1 hc_84
      exact J.locals [0, 1] (hK_54 _ hF) rfl
    · replace hF := hF.2 hc_84
      refine j_aload_n C dJ2_append_3_24 rfl 0 rfl ?_
      obtain ⟨v_85, hgd, hF⟩ := hF
      refine jg_get C (T := TJ3) (N := 4) rfl in_J3 0 (by decide) q239 rfl hgd dJ2_append_3_25 ?_
      refine j_aload_n C dJ2_append_3_28 rfl 0 rfl ?_
      refine j_dup C dJ2_append_3_29 rfl ?_
      obtain ⟨v_86, hgd, hF⟩ := hF
      refine jg_get C (T := TJ3) (N := 4) rfl in_J3 3 (by decide) q243 rfl hgd dJ2_append_3_30 ?_
      refine j_dup_x1 C dJ2_append_3_33 rfl rfl ?_
      refine j_iconst (v := 1) C dJ2_append_3_34 rfl ?_
      refine j_iadd C dJ2_append_3_35 ?_
      obtain ⟨fs_87, hg1, hg2, hF⟩ := hF
      refine j_put C hm hg1 rfl in_J3 tyJ3 tyJ3_ok nmJ3 3 (by decide) q243 rfl rfl rfl rfl hg2 dJ2_append_3_36 ?_
      obtain ⟨S_88, eS_88, hF⟩ := nm_intro hF
      refine g_J eS_88 ?_
      refine j_iload_n C dJ2_append_3_39 rfl 1 rfl ?_
      refine j_i2b C dJ2_append_3_40 ?_
      obtain ⟨n_89, f_90, hg1, hg2, hF⟩ := hF
      refine j_bast C hm hg1 hg2 dJ2_append_3_41 ?_
      obtain ⟨S_91, eS_91, hF⟩ := nm_intro hF
      refine g_J eS_91 ?_
      refine j_goto (tgt := 75) C dJ2_append_3_42 (by decide) ?_
      refine j_aload_n C dJ2_append_3_75 rfl 0 rfl ?_
      rw [hQ]
      exact j_aret C (Or.inl ⟨_, rfl⟩) (Or.inr ⟨_, rfl⟩) ⟨_, rfl, hF⟩ dJ2_append_3_76
def F_gJ5_getChar (G : GT) (S : GZ) (x0 : Nat) (x1 : Int32) (P : Int32 → AH → Prop) : Prop := ∃ v_15 : Int32, StV G "java/lang/StringUTF16" "$assertionsDisabled" "Z" (.int v_15) ∧ (jn (α := GZ → Prop) (fun S_17 => ∃ (n_18 : Nat) (f_19 : Nat → Int32) (v_20 : Int32), aB G S_17.1 x0 n_18 f_19 ∧ vp_in (x1 <<< (1 &&& 31)) n_18 ∧ f_19 (Int32.toNatClampNeg (x1 <<< (1 &&& 31))) = v_20 ∧ (∃ v_21 : Int32, StV G "java/lang/StringUTF16" "HI_BYTE_SHIFT" "I" (.int v_21) ∧ (∃ (n_22 : Nat) (f_23 : Nat → Int32) (v_24 : Int32), aB G S_17.1 x0 n_22 f_23 ∧ vp_in ((x1 <<< (1 &&& 31)) + 1) n_22 ∧ f_23 (Int32.toNatClampNeg ((x1 <<< (1 &&& 31)) + 1)) = v_24 ∧ (∃ v_25 : Int32, StV G "java/lang/StringUTF16" "LO_BYTE_SHIFT" "I" (.int v_25) ∧ ((narrow .char (.int (((((v_20 &&& 255) <<< (v_21 &&& 31)) ||| ((v_24 &&& 255) <<< (v_25 &&& 31))).toUInt32 % 65536).toInt32)) = .int (((((v_20 &&& 255) <<< (v_21 &&& 31)) ||| ((v_24 &&& 255) <<< (v_25 &&& 31))).toUInt32 % 65536).toInt32)) ∧ P (((((v_20 &&& 255) <<< (v_21 &&& 31)) ||| ((v_24 &&& 255) <<< (v_25 &&& 31))).toUInt32 % 65536).toInt32) S_17.1))))) (fun K_16 => (v_15 = 0 → jn (α := GZ → Prop) (fun S_28 => False) (fun K_27 => (x1 < 0 → K_27 S) ∧ (¬ x1 < 0 → ∃ c_30 s_31 : Nat, c_30 ≤ S.2.1 ∧ s_31 ≤ S.2.2 ∧ F_gJ5_length G (S.1, c_30, s_31) x0 (fun r_32 h_33 => nm (α := GZ) (h_33, S.2.1 - c_30, S.2.2 - s_31) (fun S_34 => (x1 < r_32 → K_16 S_34) ∧ (¬ x1 < r_32 → K_27 S_34)))))) ∧ (¬ v_15 = 0 → K_16 S)))
set_option maxHeartbeats 4000000 in
theorem M_gJ5_getChar (G : GT) (l : Launch) (hG : GOK G) (hTab : TabF G) (hm : FreeG G) (S : GZ) (x0 : Nat) (x1 : Int32) (P : Int32 → AH → Prop) (hF : F_gJ5_getChar G S x0 x1 P) : MT G l yJ5_getChar cJ5_getChar 2 (some Jvm.ClassFile.FieldType.char) 1 30 S.2.1 S.2.2 [.ref x0, .int x1] S.1 (fun v h' => ∃ r : Int32, v = some (.int r) ∧ P r h') := by
  refine MT.mk (own := RJ5) (by decide) rfl hG (Nat.le_of_ble_eq_true rfl) ?_
  intro p e s m below meth c args Q hargs hQ C hname
  refine J.loca (L2 := [(0, .ref x0), (1, .int x1)]) rfl ?_
  unfold F_gJ5_getChar at hF
  obtain ⟨v_15, hgd, hF⟩ := hF
  refine jg_gets C hgd q818 rfl dJ5_getChar_0 ?_
  obtain ⟨K_16, hK_16, hF⟩ := jn_intro (M := fun (K : GZ → Prop) => ∀ (S_17 : GZ), K S_17 → J G p l e ({ frames := 1, cells := S.2.1, slots := S.2.2, locals := 30 } : Room) s m args below meth c 2 Q S_17.2.1 S_17.2.2 S_17.1 28 [(0, .ref x0), (1, .int x1)] []) (hk := by
      intro S_17 hF
      refine j_iload_n C dJ5_getChar_28 rfl 1 rfl ?_
      refine j_iconst (v := 1) C dJ5_getChar_29 rfl ?_
      refine j_ishl C dJ5_getChar_30 ?_
      refine j_istore_n (L2 := [(1, .int (x1 <<< (1 &&& 31))), (0, .ref x0)]) C dJ5_getChar_31 rfl (by decide) rfl ?_
      refine j_aload_n C dJ5_getChar_32 rfl 1 rfl ?_
      refine j_iload_n C dJ5_getChar_33 rfl 0 rfl ?_
      refine j_iinc (q := 0) (v := (x1 <<< (1 &&& 31)) + 1) (L2 := [(1, .int ((x1 <<< (1 &&& 31)) + 1)), (0, .ref x0)]) C dJ5_getChar_34 rfl rfl (by decide) rfl ?_
      obtain ⟨n_18, f_19, v_20, hg1, hg2, hg3, hF⟩ := hF
      refine jg_bald C hg1 hg2 dJ5_getChar_37 ?_
      rw [hg3]
      refine j_sipush (v := 255) C dJ5_getChar_38 rfl ?_
      refine j_iand C dJ5_getChar_41 ?_
      obtain ⟨v_21, hgd, hF⟩ := hF
      refine jg_gets C hgd q820 rfl dJ5_getChar_42 ?_
      refine j_ishl C dJ5_getChar_45 ?_
      refine j_aload_n C dJ5_getChar_46 rfl 1 rfl ?_
      refine j_iload_n C dJ5_getChar_47 rfl 0 rfl ?_
      obtain ⟨n_22, f_23, v_24, hg1, hg2, hg3, hF⟩ := hF
      refine jg_bald C hg1 hg2 dJ5_getChar_48 ?_
      rw [hg3]
      refine j_sipush (v := 255) C dJ5_getChar_49 rfl ?_
      refine j_iand C dJ5_getChar_52 ?_
      obtain ⟨v_25, hgd, hF⟩ := hF
      refine jg_gets C hgd q822 rfl dJ5_getChar_53 ?_
      refine j_ishl C dJ5_getChar_56 ?_
      refine j_ior C dJ5_getChar_57 ?_
      refine j_i2c C dJ5_getChar_58 ?_
      rw [hQ]
      exact j_iret C hF.1 ⟨_, rfl, hF.2⟩ dJ5_getChar_59) hF
  refine j_if_ne (tgt := 28) C dJ5_getChar_3 (by decide) (fun hc_26 => ?_) (fun hc_26 => ?_)
  · replace hF := hF.2 hc_26
    exact J.locals [0, 1] (hK_16 _ hF) rfl
  · replace hF := hF.1 hc_26
    refine j_iload_n C dJ5_getChar_6 rfl 1 rfl ?_
    obtain ⟨K_27, hK_27, hF⟩ := jn_intro (M := fun (K : GZ → Prop) => ∀ (S_28 : GZ), K S_28 → J G p l e ({ frames := 1, cells := S.2.1, slots := S.2.2, locals := 30 } : Room) s m args below meth c 2 Q S_28.2.1 S_28.2.2 S_28.1 18 [] []) (hk := by
        intro S_28 hF
        exact hF.elim) hF
    refine j_if_lt (tgt := 18) C dJ5_getChar_7 (by decide) (fun hc_29 => ?_) (fun hc_29 => ?_)
    · replace hF := hF.1 hc_29
      exact J.locals [] (hK_27 _ hF) rfl
    · replace hF := hF.2 hc_29
      refine j_iload_n C dJ5_getChar_10 rfl 1 rfl ?_
      refine j_aload_n C dJ5_getChar_11 rfl 0 rfl ?_
      obtain ⟨c_30, s_31, hc1, hc2, hF⟩ := hF
      refine j_callS (n := 1) (As := [.ref x0]) (rest := [.int x1]) C (M_gJ5_length G l hG hTab hm (S.1, c_30, s_31) x0 _ hF) q804 ⟨q805, q100, q806, by decide +kernel⟩ rfl rfl (Nat.le_of_ble_eq_true rfl) ⟨Nat.le_of_ble_eq_true rfl, Nat.le_of_ble_eq_true rfl⟩ hc1 hc2 dJ5_getChar_12 (kk_i fun r_32 h_33 hF => ?_)
      obtain ⟨S_34, eS_34, hF⟩ := nm_intro hF
      refine g_J eS_34 ?_
      refine j_icmp_lt (tgt := 28) C dJ5_getChar_15 (by decide) (fun hc_35 => ?_) (fun hc_35 => ?_)
      · replace hF := hF.1 hc_35
        exact J.locals [0, 1] (hK_16 _ hF) rfl
      · replace hF := hF.2 hc_35
        exact J.locals [] (hK_27 _ hF) rfl
def F_gJ2_charAt (G : GT) (S : GZ) (x0 : Nat) (x1 : Int32) (P : Int32 → AH → Prop) : Prop := ∃ v_18 : Int32, aF G S.1 x0 13 1 (.int v_18) ∧ (∃ v_19 : Nat, aF G S.1 x0 13 0 (.ref v_19) ∧ (∃ v_20 : Int32, aF G S.1 x0 13 3 (.int v_20) ∧ (∃ n_21 : Nat, aL G S.1 v_19 n_21 ∧ (∃ c_22 s_23 : Nat, c_22 ≤ S.2.1 ∧ s_23 ≤ S.2.2 ∧ F_gJ4_checkIndex G (S.1, c_22, s_23) x1 (if ((Int32.ofNat n_21) >>> (v_18 &&& 31)) < v_20 then ((Int32.ofNat n_21) >>> (v_18 &&& 31)) else v_20) (fun h_25 => nm (α := GZ) (h_25, S.2.1 - c_22, S.2.2 - s_23) (fun S_26 => (v_18 = 0 → ∃ (n_33 : Nat) (f_34 : Nat → Int32) (v_35 : Int32), aB G S_26.1 v_19 n_33 f_34 ∧ vp_in x1 n_33 ∧ f_34 (Int32.toNatClampNeg x1) = v_35 ∧ ((narrow .char (.int (((v_35 &&& 255).toUInt32 % 65536).toInt32)) = .int (((v_35 &&& 255).toUInt32 % 65536).toInt32)) ∧ P (((v_35 &&& 255).toUInt32 % 65536).toInt32) S_26.1)) ∧ (¬ v_18 = 0 → ∃ c_28 s_29 : Nat, c_28 ≤ S_26.2.1 ∧ s_29 ≤ S_26.2.2 ∧ F_gJ5_getChar G (S_26.1, c_28, s_29) v_19 x1 (fun r_30 h_31 => nm (α := GZ) (h_31, S_26.2.1 - c_28, S_26.2.2 - s_29) (fun S_32 => (narrow .char (.int r_30) = .int r_30) ∧ P r_30 S_32.1)))))))))
set_option maxHeartbeats 4000000 in
theorem M_gJ2_charAt (G : GT) (l : Launch) (hG : GOK G) (hTab : TabF G) (hm : FreeG G) (S : GZ) (x0 : Nat) (x1 : Int32) (P : Int32 → AH → Prop) (hF : F_gJ2_charAt G S x0 x1 P) : MT G l yJ2_charAt cJ2_charAt 5 (some Jvm.ClassFile.FieldType.char) 2 63 S.2.1 S.2.2 [.ref x0, .int x1] S.1 (fun v h' => ∃ r : Int32, v = some (.int r) ∧ P r h') := by
  refine MT.mk (own := RJ2) (by decide) rfl hG (Nat.le_of_ble_eq_true rfl) ?_
  intro p e s m below meth c args Q hargs hQ C hname
  refine J.loca (L2 := [(0, .ref x0), (1, .int x1)]) rfl ?_
  unfold F_gJ2_charAt at hF
  refine j_aload_n C dJ2_charAt_0 rfl 0 rfl ?_
  obtain ⟨v_18, hgd, hF⟩ := hF
  refine jg_get C (T := TJ3) (N := 4) rfl in_J3 1 (by decide) q240 rfl hgd dJ2_charAt_1 ?_
  refine j_istore_n (L2 := [(2, .int v_18), (0, .ref x0), (1, .int x1)]) C dJ2_charAt_4 rfl (by decide) rfl ?_
  refine j_aload_n C dJ2_charAt_5 rfl 1 rfl ?_
  obtain ⟨v_19, hgd, hF⟩ := hF
  refine jg_get C (T := TJ3) (N := 4) rfl in_J3 0 (by decide) q239 rfl hgd dJ2_charAt_6 ?_
  refine j_astore_n (L2 := [(3, .ref v_19), (2, .int v_18), (0, .ref x0), (1, .int x1)]) C dJ2_charAt_9 rfl (by decide) rfl ?_
  refine j_aload_n C dJ2_charAt_10 rfl 2 rfl ?_
  obtain ⟨v_20, hgd, hF⟩ := hF
  refine jg_get C (T := TJ3) (N := 4) rfl in_J3 3 (by decide) q243 rfl hgd dJ2_charAt_11 ?_
  refine j_aload_n C dJ2_charAt_14 rfl 0 rfl ?_
  obtain ⟨n_21, hgd, hF⟩ := hF
  refine jg_alen C hgd dJ2_charAt_15 ?_
  refine j_iload_n C dJ2_charAt_16 rfl 1 rfl ?_
  refine j_ishr C dJ2_charAt_17 ?_
  refine j_mmin C (Nat.le_of_ble_eq_true rfl) (Nat.le_of_ble_eq_true rfl) q1748 (Nat.le_of_ble_eq_true rfl) q648 q107 q649 dJ2_charAt_18 ?_
  refine j_istore (L2 := [(4, .int (if ((Int32.ofNat n_21) >>> (v_18 &&& 31)) < v_20 then ((Int32.ofNat n_21) >>> (v_18 &&& 31)) else v_20)), (3, .ref v_19), (2, .int v_18), (0, .ref x0), (1, .int x1)]) C dJ2_charAt_21 (by decide) rfl ?_
  refine j_iload_n C dJ2_charAt_23 rfl 4 rfl ?_
  refine j_iload C dJ2_charAt_24 0 rfl ?_
  obtain ⟨c_22, s_23, hc1, hc2, hF⟩ := hF
  refine j_callS (n := 2) (As := [.int x1, .int (if ((Int32.ofNat n_21) >>> (v_18 &&& 31)) < v_20 then ((Int32.ofNat n_21) >>> (v_18 &&& 31)) else v_20)]) (rest := []) C (M_gJ4_checkIndex G l hG hTab hm (S.1, c_22, s_23) x1 (if ((Int32.ofNat n_21) >>> (v_18 &&& 31)) < v_20 then ((Int32.ofNat n_21) >>> (v_18 &&& 31)) else v_20) _ hF) q1749 ⟨q913, q99, q914, by decide +kernel⟩ rfl rfl (Nat.le_of_ble_eq_true rfl) ⟨Nat.le_of_ble_eq_true rfl, Nat.le_of_ble_eq_true rfl⟩ hc1 hc2 dJ2_charAt_26 (kk_v fun h_25 hF => ?_)
  obtain ⟨S_26, eS_26, hF⟩ := nm_intro hF
  refine g_J eS_26 ?_
  refine j_iload_n C dJ2_charAt_29 rfl 2 rfl ?_
  refine j_if_ne (tgt := 42) C dJ2_charAt_30 (by decide) (fun hc_27 => ?_) (fun hc_27 => ?_)
  · replace hF := hF.2 hc_27
    refine j_aload_n C dJ2_charAt_42 rfl 1 rfl ?_
    refine j_iload_n C dJ2_charAt_43 rfl 4 rfl ?_
    obtain ⟨c_28, s_29, hc1, hc2, hF⟩ := hF
    refine j_callS (n := 2) (As := [.ref v_19, .int x1]) (rest := []) C (M_gJ5_getChar G l hG hTab hm (S_26.1, c_28, s_29) v_19 x1 _ hF) q1750 ⟨q1497, q100, q1498, by decide +kernel⟩ rfl rfl (Nat.le_of_ble_eq_true rfl) ⟨Nat.le_of_ble_eq_true rfl, Nat.le_of_ble_eq_true rfl⟩ hc1 hc2 dJ2_charAt_44 (kk_i fun r_30 h_31 hF => ?_)
    obtain ⟨S_32, eS_32, hF⟩ := nm_intro hF
    refine g_J eS_32 ?_
    rw [hQ]
    exact j_iret C hF.1 ⟨_, rfl, hF.2⟩ dJ2_charAt_47
  · replace hF := hF.1 hc_27
    refine j_aload_n C dJ2_charAt_33 rfl 1 rfl ?_
    refine j_iload_n C dJ2_charAt_34 rfl 4 rfl ?_
    obtain ⟨n_33, f_34, v_35, hg1, hg2, hg3, hF⟩ := hF
    refine jg_bald C hg1 hg2 dJ2_charAt_35 ?_
    rw [hg3]
    refine j_sipush (v := 255) C dJ2_charAt_36 rfl ?_
    refine j_iand C dJ2_charAt_39 ?_
    refine j_i2c C dJ2_charAt_40 ?_
    rw [hQ]
    exact j_iret C hF.1 ⟨_, rfl, hF.2⟩ dJ2_charAt_41
def F_gJ2_getValue (G : GT) (S : GZ) (x0 : Nat) (P : Nat → AH → Prop) : Prop := ∃ v_2 : Nat, aF G S.1 x0 13 0 (.ref v_2) ∧ (P v_2 S.1)
set_option maxHeartbeats 4000000 in
theorem M_gJ2_getValue (G : GT) (l : Launch) (hG : GOK G) (hTab : TabF G) (hm : FreeG G) (S : GZ) (x0 : Nat) (P : Nat → AH → Prop) (hF : F_gJ2_getValue G S x0 P) : MT G l yJ2_getValue cJ2_getValue 1 (some (Jvm.ClassFile.FieldType.array Jvm.ClassFile.FieldType.byte)) 0 0 S.2.1 S.2.2 [.ref x0] S.1 (fun v h' => ∃ r : Nat, v = some (.ref r) ∧ P r h') := by
  refine MT.mk (own := RJ2) (by decide) rfl hG (Nat.le_of_ble_eq_true rfl) ?_
  intro p e s m below meth c args Q hargs hQ C hname
  refine J.loca (L2 := [(0, .ref x0)]) rfl ?_
  unfold F_gJ2_getValue at hF
  refine j_aload_n C dJ2_getValue_0 rfl 0 rfl ?_
  obtain ⟨v_2, hgd, hF⟩ := hF
  refine jg_get C (T := TJ3) (N := 4) rfl in_J3 0 (by decide) q239 rfl hgd dJ2_getValue_1 ?_
  rw [hQ]
  exact j_aret C (Or.inr ⟨_, rfl⟩) (Or.inr ⟨_, rfl⟩) ⟨_, rfl, hF⟩ dJ2_getValue_4
def F_gJ2_init (G : GT) (S : GZ) (x0 : Nat) (x1 : Int32) (P : AH → Prop) : Prop := ∃ v_17 : Int32, StV G "java/lang/String" "COMPACT_STRINGS" "Z" (.int v_17) ∧ ((v_17 = 0 → ∃ c_19 s_20 : Nat, c_19 ≤ S.2.1 ∧ s_20 ≤ S.2.2 ∧ F_gJ5_newBytesFor G (S.1, c_19, s_20) x1 (fun r_21 h_22 => nm (α := GZ) (h_22, S.2.1 - c_19, S.2.2 - s_20) (fun S_23 => ∃ fs_24 : List Value, S_23.1 x0 = some (.inr (13, fs_24)) ∧ 0 < fs_24.length ∧ (nm (α := GZ) (hup S_23.1 x0 (.inr (13, List.set fs_24 0 (.ref r_21))), S_23.2.1, S_23.2.2) (fun S_25 => ∃ fs_26 : List Value, S_25.1 x0 = some (.inr (13, fs_26)) ∧ 1 < fs_26.length ∧ (nm (α := GZ) (hup S_25.1 x0 (.inr (13, List.set fs_26 1 (.int 1))), S_25.2.1, S_25.2.2) (fun S_27 => P S_27.1))))))) ∧ (¬ v_17 = 0 → ¬ (x1 : Int32) < 0 ∧ 1 ≤ S.2.1 ∧ Int32.toNatClampNeg x1 ≤ S.2.2 ∧ Int32.toNatClampNeg x1 * componentBytes .byte ≤ 536870912 ∧ ∀ q_28 : Nat, S.1 q_28 = none → G.1 ≤ q_28 → (nm (α := GZ) (hup S.1 q_28 (.inl (G.2.2.1 2, Int32.toNatClampNeg x1, .inl (fun _ => 0))), S.2.1 - 1, S.2.2 - Int32.toNatClampNeg x1) (fun S_29 => ∃ fs_30 : List Value, S_29.1 x0 = some (.inr (13, fs_30)) ∧ 0 < fs_30.length ∧ (nm (α := GZ) (hup S_29.1 x0 (.inr (13, List.set fs_30 0 (.ref q_28))), S_29.2.1, S_29.2.2) (fun S_31 => ∃ fs_32 : List Value, S_31.1 x0 = some (.inr (13, fs_32)) ∧ 1 < fs_32.length ∧ (nm (α := GZ) (hup S_31.1 x0 (.inr (13, List.set fs_32 1 (.int 0))), S_31.2.1, S_31.2.2) (fun S_33 => P S_33.1))))))))
set_option maxHeartbeats 4000000 in
theorem M_gJ2_init (G : GT) (l : Launch) (hG : GOK G) (hTab : TabF G) (hm : FreeG G) (S : GZ) (x0 : Nat) (x1 : Int32) (P : AH → Prop) (hF : F_gJ2_init G S x0 x1 P) : MT G l yJ2_init cJ2_init 2 none 2 60 S.2.1 S.2.2 [.ref x0, .int x1] S.1 (fun v h' => v = none ∧ P h') := by
  refine MT.mk (own := RJ2) (by decide) rfl hG (Nat.le_of_ble_eq_true rfl) ?_
  intro p e s m below meth c args Q hargs hQ C hname
  refine J.loca (L2 := [(0, .ref x0), (1, .int x1)]) rfl ?_
  unfold F_gJ2_init at hF
  refine j_aload_n C dJ2_init_0 rfl 0 rfl ?_
  refine j_objInit C q229 q142 q143 (Nat.le_of_ble_eq_true rfl) (Nat.le_of_ble_eq_true rfl) dJ2_init_1 ?_
  obtain ⟨v_17, hgd, hF⟩ := hF
  refine jg_gets C hgd q230 rfl dJ2_init_4 ?_
  refine j_if_eq (tgt := 25) C dJ2_init_7 (by decide) (fun hc_18 => ?_) (fun hc_18 => ?_)
  · replace hF := hF.1 hc_18
    refine j_aload_n C dJ2_init_25 rfl 0 rfl ?_
    refine j_iload_n C dJ2_init_26 rfl 1 rfl ?_
    obtain ⟨c_19, s_20, hc1, hc2, hF⟩ := hF
    refine j_callS (n := 1) (As := [.int x1]) (rest := [.ref x0]) C (M_gJ5_newBytesFor G l hG hTab hm (S.1, c_19, s_20) x1 _ hF) q232 ⟨q233, q100, q234, by decide +kernel⟩ rfl rfl (Nat.le_of_ble_eq_true rfl) ⟨Nat.le_of_ble_eq_true rfl, Nat.le_of_ble_eq_true rfl⟩ hc1 hc2 dJ2_init_27 (kk_r fun r_21 h_22 hF => ?_)
    obtain ⟨S_23, eS_23, hF⟩ := nm_intro hF
    refine g_J eS_23 ?_
    obtain ⟨fs_24, hg1, hg2, hF⟩ := hF
    refine j_put C hm hg1 rfl in_J3 tyJ3 tyJ3_ok nmJ3 0 (by decide) q239 rfl rfl rfl rfl hg2 dJ2_init_30 ?_
    obtain ⟨S_25, eS_25, hF⟩ := nm_intro hF
    refine g_J eS_25 ?_
    refine j_aload_n C dJ2_init_33 rfl 0 rfl ?_
    refine j_iconst (v := 1) C dJ2_init_34 rfl ?_
    obtain ⟨fs_26, hg1, hg2, hF⟩ := hF
    refine j_put C hm hg1 rfl in_J3 tyJ3 tyJ3_ok nmJ3 1 (by decide) q240 rfl rfl rfl rfl hg2 dJ2_init_35 ?_
    obtain ⟨S_27, eS_27, hF⟩ := nm_intro hF
    refine g_J eS_27 ?_
    rw [hQ]
    exact j_vret C ⟨rfl, hF⟩ dJ2_init_38
  · replace hF := hF.2 hc_18
    refine j_aload_n C dJ2_init_10 rfl 0 rfl ?_
    refine j_iload_n C dJ2_init_11 rfl 1 rfl ?_
    obtain ⟨hg1, hg2, hg3, hg4, hF⟩ := hF
    refine j_newa C hm 2 (ty := .byte) rfl (fun _ z => nomatch z) (fun _ => rfl) q253 (Int32.toNatClampNeg x1, .inl (fun _ => 0)) (fun _ => rfl) hg1 rfl hg4 (bc' := S.2.1 - 1) (bs' := S.2.2 - Int32.toNatClampNeg x1) (by omega) (by omega) dJ2_init_12 (fun q_28 hq1 hq2 => ?_)
    replace hF := hF q_28 hq1 hq2
    obtain ⟨S_29, eS_29, hF⟩ := nm_intro hF
    refine g_J eS_29 ?_
    obtain ⟨fs_30, hg1, hg2, hF⟩ := hF
    refine j_put C hm hg1 rfl in_J3 tyJ3 tyJ3_ok nmJ3 0 (by decide) q239 rfl rfl rfl rfl hg2 dJ2_init_14 ?_
    obtain ⟨S_31, eS_31, hF⟩ := nm_intro hF
    refine g_J eS_31 ?_
    refine j_aload_n C dJ2_init_17 rfl 0 rfl ?_
    refine j_iconst (v := 0) C dJ2_init_18 rfl ?_
    obtain ⟨fs_32, hg1, hg2, hF⟩ := hF
    refine j_put C hm hg1 rfl in_J3 tyJ3 tyJ3_ok nmJ3 1 (by decide) q240 rfl rfl rfl rfl hg2 dJ2_init_19 ?_
    obtain ⟨S_33, eS_33, hF⟩ := nm_intro hF
    refine g_J eS_33 ?_
    refine j_goto (tgt := 38) C dJ2_init_22 (by decide) ?_
    rw [hQ]
    exact j_vret C ⟨rfl, hF⟩ dJ2_init_38
def F_gJ2_length (G : GT) (S : GZ) (x0 : Nat) (P : Int32 → AH → Prop) : Prop := ∃ v_2 : Int32, aF G S.1 x0 13 3 (.int v_2) ∧ (P v_2 S.1)
set_option maxHeartbeats 4000000 in
theorem M_gJ2_length (G : GT) (l : Launch) (hG : GOK G) (hTab : TabF G) (hm : FreeG G) (S : GZ) (x0 : Nat) (P : Int32 → AH → Prop) (hF : F_gJ2_length G S x0 P) : MT G l yJ2_length cJ2_length 1 (some Jvm.ClassFile.FieldType.int) 0 0 S.2.1 S.2.2 [.ref x0] S.1 (fun v h' => ∃ r : Int32, v = some (.int r) ∧ P r h') := by
  refine MT.mk (own := RJ2) (by decide) rfl hG (Nat.le_of_ble_eq_true rfl) ?_
  intro p e s m below meth c args Q hargs hQ C hname
  refine J.loca (L2 := [(0, .ref x0)]) rfl ?_
  unfold F_gJ2_length at hF
  refine j_aload_n C dJ2_length_0 rfl 0 rfl ?_
  obtain ⟨v_2, hgd, hF⟩ := hF
  refine jg_get C (T := TJ3) (N := 4) rfl in_J3 3 (by decide) q243 rfl hgd dJ2_length_1 ?_
  rw [hQ]
  exact j_iret C rfl ⟨_, rfl, hF⟩ dJ2_length_4
def F_gJ5_fillNull (G : GT) (S : GZ) (x0 : Nat) (x1 : Int32) (x2 : Int32) (P : AH → Prop) : Prop := ∃ c_6 s_7 : Nat, c_6 ≤ S.2.1 ∧ s_7 ≤ S.2.2 ∧ F_gJ12_fill G (S.1, c_6, s_7) x0 (x1 <<< (1 &&& 31)) (x2 <<< (1 &&& 31)) 0 (fun h_9 => nm (α := GZ) (h_9, S.2.1 - c_6, S.2.2 - s_7) (fun S_10 => P S_10.1))
set_option maxHeartbeats 4000000 in
theorem M_gJ5_fillNull (G : GT) (l : Launch) (hG : GOK G) (hTab : TabF G) (hm : FreeG G) (S : GZ) (x0 : Nat) (x1 : Int32) (x2 : Int32) (P : AH → Prop) (hF : F_gJ5_fillNull G S x0 x1 x2 P) : MT G l yJ5_fillNull cJ5_fillNull 3 none 2 66 S.2.1 S.2.2 [.ref x0, .int x1, .int x2] S.1 (fun v h' => v = none ∧ P h') := by
  refine MT.mk (own := RJ5) (by decide) rfl hG (Nat.le_of_ble_eq_true rfl) ?_
  intro p e s m below meth c args Q hargs hQ C hname
  refine J.loca (L2 := [(0, .ref x0), (1, .int x1), (2, .int x2)]) rfl ?_
  unfold F_gJ5_fillNull at hF
  refine j_aload_n C dJ5_fillNull_0 rfl 0 rfl ?_
  refine j_iload_n C dJ5_fillNull_1 rfl 1 rfl ?_
  refine j_iconst (v := 1) C dJ5_fillNull_2 rfl ?_
  refine j_ishl C dJ5_fillNull_3 ?_
  refine j_iload_n C dJ5_fillNull_4 rfl 2 rfl ?_
  refine j_iconst (v := 1) C dJ5_fillNull_5 rfl ?_
  refine j_ishl C dJ5_fillNull_6 ?_
  refine j_iconst (v := 0) C dJ5_fillNull_7 rfl ?_
  obtain ⟨c_6, s_7, hc1, hc2, hF⟩ := hF
  refine j_callS (n := 4) (As := [.ref x0, .int (x1 <<< (1 &&& 31)), .int (x2 <<< (1 &&& 31)), .int 0]) (rest := []) C (M_gJ12_fill G l hG hTab hm (S.1, c_6, s_7) x0 (x1 <<< (1 &&& 31)) (x2 <<< (1 &&& 31)) 0 _ hF) q1572 ⟨q1551, q111, q1552, by decide +kernel⟩ rfl rfl (Nat.le_of_ble_eq_true rfl) ⟨Nat.le_of_ble_eq_true rfl, Nat.le_of_ble_eq_true rfl⟩ hc1 hc2 dJ5_fillNull_8 (kk_v fun h_9 hF => ?_)
  obtain ⟨S_10, eS_10, hF⟩ := nm_intro hF
  refine g_J eS_10 ?_
  rw [hQ]
  exact j_vret C ⟨rfl, hF⟩ dJ5_fillNull_11
def F_gJ2_setLength (G : GT) (S : GZ) (x0 : Nat) (x1 : Int32) (P : AH → Prop) : Prop := (0 ≤ x1 → aC G S.1 x0 13 ∧ ∃ c_32 s_33 : Nat, c_32 ≤ S.2.1 ∧ s_33 ≤ S.2.2 ∧ F_gJ2_ensureCapacityInternal G (S.1, c_32, s_33) x0 x1 (fun h_35 => nm (α := GZ) (h_35, S.2.1 - c_32, S.2.2 - s_33) (fun S_36 => ∃ v_37 : Int32, aF G S_36.1 x0 13 3 (.int v_37) ∧ ((x1 ≤ v_37 → ∃ v_39 : Int32, aF G S_36.1 x0 13 3 (.int v_39) ∧ ((v_39 ≤ x1 → ∃ fs_41 : List Value, S_36.1 x0 = some (.inr (13, fs_41)) ∧ 3 < fs_41.length ∧ (nm (α := GZ) (hup S_36.1 x0 (.inr (13, List.set fs_41 3 (.int x1))), S_36.2.1, S_36.2.2) (fun S_42 => P S_42.1))) ∧ (¬ v_39 ≤ x1 → ∃ fs_43 : List Value, S_36.1 x0 = some (.inr (13, fs_43)) ∧ 2 < fs_43.length ∧ (nm (α := GZ) (hup S_36.1 x0 (.inr (13, List.set fs_43 2 (.int 1))), S_36.2.1, S_36.2.2) (fun S_44 => ∃ fs_45 : List Value, S_44.1 x0 = some (.inr (13, fs_45)) ∧ 3 < fs_45.length ∧ (nm (α := GZ) (hup S_44.1 x0 (.inr (13, List.set fs_45 3 (.int x1))), S_44.2.1, S_44.2.2) (fun S_46 => P S_46.1))))))) ∧ (¬ x1 ≤ v_37 → aC G S_36.1 x0 13 ∧ ∃ c_47 s_48 : Nat, c_47 ≤ S_36.2.1 ∧ s_48 ≤ S_36.2.2 ∧ F_gJ2_isLatin1 G (S_36.1, c_47, s_48) x0 (fun r_49 h_50 => nm (α := GZ) (h_50, S_36.2.1 - c_47, S_36.2.2 - s_48) (fun S_51 => (r_49 = 0 → ∃ v_53 : Nat, aF G S_51.1 x0 13 0 (.ref v_53) ∧ (∃ v_54 : Int32, aF G S_51.1 x0 13 3 (.int v_54) ∧ (∃ c_55 s_56 : Nat, c_55 ≤ S_51.2.1 ∧ s_56 ≤ S_51.2.2 ∧ F_gJ5_fillNull G (S_51.1, c_55, s_56) v_53 v_54 x1 (fun h_58 => nm (α := GZ) (h_58, S_51.2.1 - c_55, S_51.2.2 - s_56) (fun S_59 => ∃ fs_60 : List Value, S_59.1 x0 = some (.inr (13, fs_60)) ∧ 3 < fs_60.length ∧ (nm (α := GZ) (hup S_59.1 x0 (.inr (13, List.set fs_60 3 (.int x1))), S_59.2.1, S_59.2.2) (fun S_61 => P S_61.1))))))) ∧ (¬ r_49 = 0 → ∃ v_62 : Nat, aF G S_51.1 x0 13 0 (.ref v_62) ∧ (∃ v_63 : Int32, aF G S_51.1 x0 13 3 (.int v_63) ∧ (∃ c_64 s_65 : Nat, c_64 ≤ S_51.2.1 ∧ s_65 ≤ S_51.2.2 ∧ F_gJ24_fillNull G (S_51.1, c_64, s_65) v_62 v_63 x1 (fun h_67 => nm (α := GZ) (h_67, S_51.2.1 - c_64, S_51.2.2 - s_65) (fun S_68 => ∃ fs_69 : List Value, S_68.1 x0 = some (.inr (13, fs_69)) ∧ 3 < fs_69.length ∧ (nm (α := GZ) (hup S_68.1 x0 (.inr (13, List.set fs_69 3 (.int x1))), S_68.2.1, S_68.2.2) (fun S_70 => P S_70.1)))))))))))))) ∧ (¬ 0 ≤ x1 → False)
set_option maxHeartbeats 4000000 in
theorem M_gJ2_setLength (G : GT) (l : Launch) (hG : GOK G) (hTab : TabF G) (hm : FreeG G) (S : GZ) (x0 : Nat) (x1 : Int32) (P : AH → Prop) (hF : F_gJ2_setLength G S x0 x1 P) : MT G l yJ2_setLength cJ2_setLength 2 none 4 284 S.2.1 S.2.2 [.ref x0, .int x1] S.1 (fun v h' => v = none ∧ P h') := by
  refine MT.mk (own := RJ2) (by decide) rfl hG (Nat.le_of_ble_eq_true rfl) ?_
  intro p e s m below meth c args Q hargs hQ C hname
  refine J.loca (L2 := [(0, .ref x0), (1, .int x1)]) rfl ?_
  unfold F_gJ2_setLength at hF
  refine j_iload_n C dJ2_setLength_0 rfl 1 rfl ?_
  refine j_if_ge (tgt := 13) C dJ2_setLength_1 (by decide) (fun hc_31 => ?_) (fun hc_31 => ?_)
  · replace hF := hF.1 hc_31
    refine j_aload_n C dJ2_setLength_13 rfl 0 rfl ?_
    refine j_iload_n C dJ2_setLength_14 rfl 1 rfl ?_
    obtain ⟨hrc, hF⟩ := hF
    obtain ⟨c_32, s_33, hc1, hc2, hF⟩ := hF
    refine jg_callP (n := 1) (As := [.int x1]) (rest := []) C hTab (M_gJ2_ensureCapacityInternal G l hG hTab hm (S.1, c_32, s_33) x0 x1 _ hF) q766 ⟨q768, q767, q97, q769, q2299, by decide +kernel⟩ hrc rfl rfl (Nat.le_of_ble_eq_true rfl) ⟨Nat.le_of_ble_eq_true rfl, Nat.le_of_ble_eq_true rfl⟩ hc1 hc2 dJ2_setLength_15 (kk_v fun h_35 hF => ?_)
    obtain ⟨S_36, eS_36, hF⟩ := nm_intro hF
    refine g_J eS_36 ?_
    refine j_aload_n C dJ2_setLength_18 rfl 0 rfl ?_
    obtain ⟨v_37, hgd, hF⟩ := hF
    refine jg_get C (T := TJ3) (N := 4) rfl in_J3 3 (by decide) q243 rfl hgd dJ2_setLength_19 ?_
    refine j_iload_n C dJ2_setLength_22 rfl 1 rfl ?_
    refine j_icmp_ge (tgt := 63) C dJ2_setLength_23 (by decide) (fun hc_38 => ?_) (fun hc_38 => ?_)
    · replace hF := hF.1 hc_38
      refine j_aload_n C dJ2_setLength_63 rfl 0 rfl ?_
      obtain ⟨v_39, hgd, hF⟩ := hF
      refine jg_get C (T := TJ3) (N := 4) rfl in_J3 3 (by decide) q243 rfl hgd dJ2_setLength_64 ?_
      refine j_iload_n C dJ2_setLength_67 rfl 1 rfl ?_
      refine j_icmp_le (tgt := 76) C dJ2_setLength_68 (by decide) (fun hc_40 => ?_) (fun hc_40 => ?_)
      · replace hF := hF.1 hc_40
        refine j_aload_n C dJ2_setLength_76 rfl 0 rfl ?_
        refine j_iload_n C dJ2_setLength_77 rfl 1 rfl ?_
        obtain ⟨fs_41, hg1, hg2, hF⟩ := hF
        refine j_put C hm hg1 rfl in_J3 tyJ3 tyJ3_ok nmJ3 3 (by decide) q243 rfl rfl rfl rfl hg2 dJ2_setLength_78 ?_
        obtain ⟨S_42, eS_42, hF⟩ := nm_intro hF
        refine g_J eS_42 ?_
        rw [hQ]
        exact j_vret C ⟨rfl, hF⟩ dJ2_setLength_81
      · replace hF := hF.2 hc_40
        refine j_aload_n C dJ2_setLength_71 rfl 0 rfl ?_
        refine j_iconst (v := 1) C dJ2_setLength_72 rfl ?_
        obtain ⟨fs_43, hg1, hg2, hF⟩ := hF
        refine j_put C hm hg1 rfl in_J3 tyJ3 tyJ3_ok nmJ3 2 (by decide) q241 rfl rfl rfl rfl hg2 dJ2_setLength_73 ?_
        obtain ⟨S_44, eS_44, hF⟩ := nm_intro hF
        refine g_J eS_44 ?_
        refine j_aload_n C dJ2_setLength_76 rfl 0 rfl ?_
        refine j_iload_n C dJ2_setLength_77 rfl 1 rfl ?_
        obtain ⟨fs_45, hg1, hg2, hF⟩ := hF
        refine j_put C hm hg1 rfl in_J3 tyJ3 tyJ3_ok nmJ3 3 (by decide) q243 rfl rfl rfl rfl hg2 dJ2_setLength_78 ?_
        obtain ⟨S_46, eS_46, hF⟩ := nm_intro hF
        refine g_J eS_46 ?_
        rw [hQ]
        exact j_vret C ⟨rfl, hF⟩ dJ2_setLength_81
    · replace hF := hF.2 hc_38
      refine j_aload_n C dJ2_setLength_26 rfl 0 rfl ?_
      obtain ⟨hrc, hF⟩ := hF
      obtain ⟨c_47, s_48, hc1, hc2, hF⟩ := hF
      refine jg_callU (n := 0) (As := []) (rest := []) C (M_gJ2_isLatin1 G l hG hTab hm (S_36.1, c_47, s_48) x0 _ hF) q793 ⟨q794, q796, q97, q797, q795, by decide +kernel⟩ rfl hrc rfl rfl (Nat.le_of_ble_eq_true rfl) ⟨Nat.le_of_ble_eq_true rfl, Nat.le_of_ble_eq_true rfl⟩ hc1 hc2 dJ2_setLength_27 (kk_i fun r_49 h_50 hF => ?_)
      obtain ⟨S_51, eS_51, hF⟩ := nm_intro hF
      refine g_J eS_51 ?_
      refine j_if_eq (tgt := 48) C dJ2_setLength_30 (by decide) (fun hc_52 => ?_) (fun hc_52 => ?_)
      · replace hF := hF.1 hc_52
        refine j_aload_n C dJ2_setLength_48 rfl 0 rfl ?_
        obtain ⟨v_53, hgd, hF⟩ := hF
        refine jg_get C (T := TJ3) (N := 4) rfl in_J3 0 (by decide) q239 rfl hgd dJ2_setLength_49 ?_
        refine j_aload_n C dJ2_setLength_52 rfl 0 rfl ?_
        obtain ⟨v_54, hgd, hF⟩ := hF
        refine jg_get C (T := TJ3) (N := 4) rfl in_J3 3 (by decide) q243 rfl hgd dJ2_setLength_53 ?_
        refine j_iload_n C dJ2_setLength_56 rfl 1 rfl ?_
        obtain ⟨c_55, s_56, hc1, hc2, hF⟩ := hF
        refine j_callS (n := 3) (As := [.ref v_53, .int v_54, .int x1]) (rest := []) C (M_gJ5_fillNull G l hG hTab hm (S_51.1, c_55, s_56) v_53 v_54 x1 _ hF) q1569 ⟨q1570, q100, q1571, by decide +kernel⟩ rfl rfl (Nat.le_of_ble_eq_true rfl) ⟨Nat.le_of_ble_eq_true rfl, Nat.le_of_ble_eq_true rfl⟩ hc1 hc2 dJ2_setLength_57 (kk_v fun h_58 hF => ?_)
        obtain ⟨S_59, eS_59, hF⟩ := nm_intro hF
        refine g_J eS_59 ?_
        refine j_goto (tgt := 76) C dJ2_setLength_60 (by decide) ?_
        refine j_aload_n C dJ2_setLength_76 rfl 0 rfl ?_
        refine j_iload_n C dJ2_setLength_77 rfl 1 rfl ?_
        obtain ⟨fs_60, hg1, hg2, hF⟩ := hF
        refine j_put C hm hg1 rfl in_J3 tyJ3 tyJ3_ok nmJ3 3 (by decide) q243 rfl rfl rfl rfl hg2 dJ2_setLength_78 ?_
        obtain ⟨S_61, eS_61, hF⟩ := nm_intro hF
        refine g_J eS_61 ?_
        rw [hQ]
        exact j_vret C ⟨rfl, hF⟩ dJ2_setLength_81
      · replace hF := hF.2 hc_52
        refine j_aload_n C dJ2_setLength_33 rfl 0 rfl ?_
        obtain ⟨v_62, hgd, hF⟩ := hF
        refine jg_get C (T := TJ3) (N := 4) rfl in_J3 0 (by decide) q239 rfl hgd dJ2_setLength_34 ?_
        refine j_aload_n C dJ2_setLength_37 rfl 0 rfl ?_
        obtain ⟨v_63, hgd, hF⟩ := hF
        refine jg_get C (T := TJ3) (N := 4) rfl in_J3 3 (by decide) q243 rfl hgd dJ2_setLength_38 ?_
        refine j_iload_n C dJ2_setLength_41 rfl 1 rfl ?_
        obtain ⟨c_64, s_65, hc1, hc2, hF⟩ := hF
        refine j_callS (n := 3) (As := [.ref v_62, .int v_63, .int x1]) (rest := []) C (M_gJ24_fillNull G l hG hTab hm (S_51.1, c_64, s_65) v_62 v_63 x1 _ hF) q1547 ⟨q1548, q131, q1549, by decide +kernel⟩ rfl rfl (Nat.le_of_ble_eq_true rfl) ⟨Nat.le_of_ble_eq_true rfl, Nat.le_of_ble_eq_true rfl⟩ hc1 hc2 dJ2_setLength_42 (kk_v fun h_67 hF => ?_)
        obtain ⟨S_68, eS_68, hF⟩ := nm_intro hF
        refine g_J eS_68 ?_
        refine j_goto (tgt := 76) C dJ2_setLength_45 (by decide) ?_
        refine j_aload_n C dJ2_setLength_76 rfl 0 rfl ?_
        refine j_iload_n C dJ2_setLength_77 rfl 1 rfl ?_
        obtain ⟨fs_69, hg1, hg2, hF⟩ := hF
        refine j_put C hm hg1 rfl in_J3 tyJ3 tyJ3_ok nmJ3 3 (by decide) q243 rfl rfl rfl rfl hg2 dJ2_setLength_78 ?_
        obtain ⟨S_70, eS_70, hF⟩ := nm_intro hF
        refine g_J eS_70 ?_
        rw [hQ]
        exact j_vret C ⟨rfl, hF⟩ dJ2_setLength_81
  · replace hF := hF.2 hc_31
    exact hF.elim
def F_gJ3_append (G : GT) (S : GZ) (x0 : Nat) (x1 : Nat) (P : Nat → AH → Prop) : Prop := aC G S.1 x0 13 ∧ ∃ c_6 s_7 : Nat, c_6 ≤ S.2.1 ∧ s_7 ≤ S.2.2 ∧ F_gJ2_append G (S.1, c_6, s_7) x0 x1 (fun r_8 h_9 => nm (α := GZ) (h_9, S.2.1 - c_6, S.2.2 - s_7) (fun S_10 => P x0 S_10.1))
set_option maxHeartbeats 4000000 in
theorem M_gJ3_append (G : GT) (l : Launch) (hG : GOK G) (hTab : TabF G) (hm : FreeG G) (S : GZ) (x0 : Nat) (x1 : Nat) (P : Nat → AH → Prop) (hF : F_gJ3_append G S x0 x1 P) : MT G l yJ3_append cJ3_append 2 (some (Jvm.ClassFile.FieldType.object "java/lang/StringBuilder")) 9 317 S.2.1 S.2.2 [.ref x0, .ref x1] S.1 (fun v h' => ∃ r : Nat, v = some (.ref r) ∧ P r h') := by
  refine MT.mk (own := RJ3) (by decide) rfl hG (Nat.le_of_ble_eq_true rfl) ?_
  intro p e s m below meth c args Q hargs hQ C hname
  refine J.loca (L2 := [(0, .ref x0), (1, .ref x1)]) rfl ?_
  unfold F_gJ3_append at hF
  refine j_aload_n C dJ3_append_0 rfl 0 rfl ?_
  refine j_aload_n C dJ3_append_1 rfl 1 rfl ?_
  obtain ⟨hrc, hF⟩ := hF
  obtain ⟨c_6, s_7, hc1, hc2, hF⟩ := hF
  refine jg_callSU (n := 1) (As := [.ref x1]) (rest := []) C (M_gJ2_append G l hG hTab hm (S.1, c_6, s_7) x0 x1 _ hF) q759 ⟨q760, q252, q97, q761, q2297, by decide +kernel⟩ rfl hrc rfl rfl (Nat.le_of_ble_eq_true rfl) ⟨Nat.le_of_ble_eq_true rfl, Nat.le_of_ble_eq_true rfl⟩ hc1 hc2 dJ3_append_2 (kk_r fun r_8 h_9 hF => ?_)
  obtain ⟨S_10, eS_10, hF⟩ := nm_intro hF
  refine g_J eS_10 ?_
  refine j_pop C dJ3_append_5 rfl ?_
  refine j_aload_n C dJ3_append_6 rfl 0 rfl ?_
  rw [hQ]
  exact j_aret C (Or.inl ⟨_, rfl⟩) (Or.inr ⟨_, rfl⟩) ⟨_, rfl, hF⟩ dJ3_append_7
def F_gJ3_append_2 (G : GT) (S : GZ) (x0 : Nat) (x1 : Int32) (P : Nat → AH → Prop) : Prop := aC G S.1 x0 13 ∧ ∃ c_6 s_7 : Nat, c_6 ≤ S.2.1 ∧ s_7 ≤ S.2.2 ∧ F_gJ2_append_2 G (S.1, c_6, s_7) x0 x1 (fun r_8 h_9 => nm (α := GZ) (h_9, S.2.1 - c_6, S.2.2 - s_7) (fun S_10 => P x0 S_10.1))
set_option maxHeartbeats 4000000 in
theorem M_gJ3_append_2 (G : GT) (l : Launch) (hG : GOK G) (hTab : TabF G) (hm : FreeG G) (S : GZ) (x0 : Nat) (x1 : Int32) (P : Nat → AH → Prop) (hF : F_gJ3_append_2 G S x0 x1 P) : MT G l yJ3_append_2 cJ3_append_2 2 (some (Jvm.ClassFile.FieldType.object "java/lang/StringBuilder")) 5 317 S.2.1 S.2.2 [.ref x0, .int x1] S.1 (fun v h' => ∃ r : Nat, v = some (.ref r) ∧ P r h') := by
  refine MT.mk (own := RJ3) (by decide) rfl hG (Nat.le_of_ble_eq_true rfl) ?_
  intro p e s m below meth c args Q hargs hQ C hname
  refine J.loca (L2 := [(0, .ref x0), (1, .int x1)]) rfl ?_
  unfold F_gJ3_append_2 at hF
  refine j_aload_n C dJ3_append_2_0 rfl 0 rfl ?_
  refine j_iload_n C dJ3_append_2_1 rfl 1 rfl ?_
  obtain ⟨hrc, hF⟩ := hF
  obtain ⟨c_6, s_7, hc1, hc2, hF⟩ := hF
  refine jg_callSU (n := 1) (As := [.int x1]) (rest := []) C (M_gJ2_append_2 G l hG hTab hm (S.1, c_6, s_7) x0 x1 _ hF) q871 ⟨q872, q252, q97, q873, q2304, by decide +kernel⟩ rfl hrc rfl rfl (Nat.le_of_ble_eq_true rfl) ⟨Nat.le_of_ble_eq_true rfl, Nat.le_of_ble_eq_true rfl⟩ hc1 hc2 dJ3_append_2_2 (kk_r fun r_8 h_9 hF => ?_)
  obtain ⟨S_10, eS_10, hF⟩ := nm_intro hF
  refine g_J eS_10 ?_
  refine j_pop C dJ3_append_2_5 rfl ?_
  refine j_aload_n C dJ3_append_2_6 rfl 0 rfl ?_
  rw [hQ]
  exact j_aret C (Or.inl ⟨_, rfl⟩) (Or.inr ⟨_, rfl⟩) ⟨_, rfl, hF⟩ dJ3_append_2_7
def F_gJ3_append_3 (G : GT) (S : GZ) (x0 : Nat) (x1 : Int32) (P : Nat → AH → Prop) : Prop := aC G S.1 x0 13 ∧ ∃ c_6 s_7 : Nat, c_6 ≤ S.2.1 ∧ s_7 ≤ S.2.2 ∧ F_gJ2_append_3 G (S.1, c_6, s_7) x0 x1 (fun r_8 h_9 => nm (α := GZ) (h_9, S.2.1 - c_6, S.2.2 - s_7) (fun S_10 => P x0 S_10.1))
set_option maxHeartbeats 4000000 in
theorem M_gJ3_append_3 (G : GT) (l : Launch) (hG : GOK G) (hTab : TabF G) (hm : FreeG G) (S : GZ) (x0 : Nat) (x1 : Int32) (P : Nat → AH → Prop) (hF : F_gJ3_append_3 G S x0 x1 P) : MT G l yJ3_append_3 cJ3_append_3 2 (some (Jvm.ClassFile.FieldType.object "java/lang/StringBuilder")) 7 315 S.2.1 S.2.2 [.ref x0, .int x1] S.1 (fun v h' => ∃ r : Nat, v = some (.ref r) ∧ P r h') := by
  refine MT.mk (own := RJ3) (by decide) rfl hG (Nat.le_of_ble_eq_true rfl) ?_
  intro p e s m below meth c args Q hargs hQ C hname
  refine J.loca (L2 := [(0, .ref x0), (1, .int x1)]) rfl ?_
  unfold F_gJ3_append_3 at hF
  refine j_aload_n C dJ3_append_3_0 rfl 0 rfl ?_
  refine j_iload_n C dJ3_append_3_1 rfl 1 rfl ?_
  obtain ⟨hrc, hF⟩ := hF
  obtain ⟨c_6, s_7, hc1, hc2, hF⟩ := hF
  refine jg_callSU (n := 1) (As := [.int x1]) (rest := []) C (M_gJ2_append_3 G l hG hTab hm (S.1, c_6, s_7) x0 x1 _ hF) q900 ⟨q901, q252, q97, q902, q2305, by decide +kernel⟩ rfl hrc rfl rfl (Nat.le_of_ble_eq_true rfl) ⟨Nat.le_of_ble_eq_true rfl, Nat.le_of_ble_eq_true rfl⟩ hc1 hc2 dJ3_append_3_2 (kk_r fun r_8 h_9 hF => ?_)
  obtain ⟨S_10, eS_10, hF⟩ := nm_intro hF
  refine g_J eS_10 ?_
  refine j_pop C dJ3_append_3_5 rfl ?_
  refine j_aload_n C dJ3_append_3_6 rfl 0 rfl ?_
  rw [hQ]
  exact j_aret C (Or.inl ⟨_, rfl⟩) (Or.inr ⟨_, rfl⟩) ⟨_, rfl, hF⟩ dJ3_append_3_7
def F_gJ3_charAt (G : GT) (S : GZ) (x0 : Nat) (x1 : Int32) (P : Int32 → AH → Prop) : Prop := aC G S.1 x0 13 ∧ ∃ c_6 s_7 : Nat, c_6 ≤ S.2.1 ∧ s_7 ≤ S.2.2 ∧ F_gJ2_charAt G (S.1, c_6, s_7) x0 x1 (fun r_8 h_9 => nm (α := GZ) (h_9, S.2.1 - c_6, S.2.2 - s_7) (fun S_10 => (narrow .char (.int r_8) = .int r_8) ∧ P r_8 S_10.1))
set_option maxHeartbeats 4000000 in
theorem M_gJ3_charAt (G : GT) (l : Launch) (hG : GOK G) (hTab : TabF G) (hm : FreeG G) (S : GZ) (x0 : Nat) (x1 : Int32) (P : Int32 → AH → Prop) (hF : F_gJ3_charAt G S x0 x1 P) : MT G l yJ3_charAt cJ3_charAt 2 (some Jvm.ClassFile.FieldType.char) 3 97 S.2.1 S.2.2 [.ref x0, .int x1] S.1 (fun v h' => ∃ r : Int32, v = some (.int r) ∧ P r h') := by
  refine MT.mk (own := RJ3) (by decide) rfl hG (Nat.le_of_ble_eq_true rfl) ?_
  intro p e s m below meth c args Q hargs hQ C hname
  refine J.loca (L2 := [(0, .ref x0), (1, .int x1)]) rfl ?_
  unfold F_gJ3_charAt at hF
  refine j_aload_n C dJ3_charAt_0 rfl 0 rfl ?_
  refine j_iload_n C dJ3_charAt_1 rfl 1 rfl ?_
  obtain ⟨hrc, hF⟩ := hF
  obtain ⟨c_6, s_7, hc1, hc2, hF⟩ := hF
  refine jg_callSU (n := 1) (As := [.int x1]) (rest := []) C (M_gJ2_charAt G l hG hTab hm (S.1, c_6, s_7) x0 x1 _ hF) q1745 ⟨q1746, q252, q97, q1747, q2310, by decide +kernel⟩ rfl hrc rfl rfl (Nat.le_of_ble_eq_true rfl) ⟨Nat.le_of_ble_eq_true rfl, Nat.le_of_ble_eq_true rfl⟩ hc1 hc2 dJ3_charAt_2 (kk_i fun r_8 h_9 hF => ?_)
  obtain ⟨S_10, eS_10, hF⟩ := nm_intro hF
  refine g_J eS_10 ?_
  rw [hQ]
  exact j_iret C hF.1 ⟨_, rfl, hF.2⟩ dJ3_charAt_5
def F_gJ3_init (G : GT) (S : GZ) (x0 : Nat) (P : AH → Prop) : Prop := ∃ c_6 s_7 : Nat, c_6 ≤ S.2.1 ∧ s_7 ≤ S.2.2 ∧ F_gJ2_init G (S.1, c_6, s_7) x0 16 (fun h_9 => nm (α := GZ) (h_9, S.2.1 - c_6, S.2.2 - s_7) (fun S_10 => P S_10.1))
set_option maxHeartbeats 4000000 in
theorem M_gJ3_init (G : GT) (l : Launch) (hG : GOK G) (hTab : TabF G) (hm : FreeG G) (S : GZ) (x0 : Nat) (P : AH → Prop) (hF : F_gJ3_init G S x0 P) : MT G l yJ3_init cJ3_init 1 none 3 91 S.2.1 S.2.2 [.ref x0] S.1 (fun v h' => v = none ∧ P h') := by
  refine MT.mk (own := RJ3) (by decide) rfl hG (Nat.le_of_ble_eq_true rfl) ?_
  intro p e s m below meth c args Q hargs hQ C hname
  refine J.loca (L2 := [(0, .ref x0)]) rfl ?_
  unfold F_gJ3_init at hF
  refine j_aload_n C dJ3_init_0 rfl 0 rfl ?_
  refine j_bipush (v := 16) C dJ3_init_1 rfl ?_
  obtain ⟨c_6, s_7, hc1, hc2, hF⟩ := hF
  refine j_callI (n := 1) (As := [.int 16]) (rest := []) C (M_gJ2_init G l hG hTab hm (S.1, c_6, s_7) x0 16 _ hF) q226 ⟨q227, q97, q228, rfl, by decide +kernel⟩ rfl rfl (Nat.le_of_ble_eq_true rfl) ⟨Nat.le_of_ble_eq_true rfl, Nat.le_of_ble_eq_true rfl⟩ hc1 hc2 dJ3_init_3 (kk_v fun h_9 hF => ?_)
  obtain ⟨S_10, eS_10, hF⟩ := nm_intro hF
  refine g_J eS_10 ?_
  rw [hQ]
  exact j_vret C ⟨rfl, hF⟩ dJ3_init_6
def F_gJ3_length (G : GT) (S : GZ) (x0 : Nat) (P : Int32 → AH → Prop) : Prop := aC G S.1 x0 13 ∧ ∃ c_6 s_7 : Nat, c_6 ≤ S.2.1 ∧ s_7 ≤ S.2.2 ∧ F_gJ2_length G (S.1, c_6, s_7) x0 (fun r_8 h_9 => nm (α := GZ) (h_9, S.2.1 - c_6, S.2.2 - s_7) (fun S_10 => P r_8 S_10.1))
set_option maxHeartbeats 4000000 in
theorem M_gJ3_length (G : GT) (l : Launch) (hG : GOK G) (hTab : TabF G) (hm : FreeG G) (S : GZ) (x0 : Nat) (P : Int32 → AH → Prop) (hF : F_gJ3_length G S x0 P) : MT G l yJ3_length cJ3_length 1 (some Jvm.ClassFile.FieldType.int) 1 30 S.2.1 S.2.2 [.ref x0] S.1 (fun v h' => ∃ r : Int32, v = some (.int r) ∧ P r h') := by
  refine MT.mk (own := RJ3) (by decide) rfl hG (Nat.le_of_ble_eq_true rfl) ?_
  intro p e s m below meth c args Q hargs hQ C hname
  refine J.loca (L2 := [(0, .ref x0)]) rfl ?_
  unfold F_gJ3_length at hF
  refine j_aload_n C dJ3_length_0 rfl 0 rfl ?_
  obtain ⟨hrc, hF⟩ := hF
  obtain ⟨c_6, s_7, hc1, hc2, hF⟩ := hF
  refine jg_callSU (n := 0) (As := []) (rest := []) C (M_gJ2_length G l hG hTab hm (S.1, c_6, s_7) x0 _ hF) q937 ⟨q938, q252, q97, q939, q2306, by decide +kernel⟩ rfl hrc rfl rfl (Nat.le_of_ble_eq_true rfl) ⟨Nat.le_of_ble_eq_true rfl, Nat.le_of_ble_eq_true rfl⟩ hc1 hc2 dJ3_length_1 (kk_i fun r_8 h_9 hF => ?_)
  obtain ⟨S_10, eS_10, hF⟩ := nm_intro hF
  refine g_J eS_10 ?_
  rw [hQ]
  exact j_iret C rfl ⟨_, rfl, hF⟩ dJ3_length_4
def F_gJ3_setLength (G : GT) (S : GZ) (x0 : Nat) (x1 : Int32) (P : AH → Prop) : Prop := aC G S.1 x0 13 ∧ ∃ c_6 s_7 : Nat, c_6 ≤ S.2.1 ∧ s_7 ≤ S.2.2 ∧ F_gJ2_setLength G (S.1, c_6, s_7) x0 x1 (fun h_9 => nm (α := GZ) (h_9, S.2.1 - c_6, S.2.2 - s_7) (fun S_10 => P S_10.1))
set_option maxHeartbeats 4000000 in
theorem M_gJ3_setLength (G : GT) (l : Launch) (hG : GOK G) (hTab : TabF G) (hm : FreeG G) (S : GZ) (x0 : Nat) (x1 : Int32) (P : AH → Prop) (hF : F_gJ3_setLength G S x0 x1 P) : MT G l yJ3_setLength cJ3_setLength 2 none 5 315 S.2.1 S.2.2 [.ref x0, .int x1] S.1 (fun v h' => v = none ∧ P h') := by
  refine MT.mk (own := RJ3) (by decide) rfl hG (Nat.le_of_ble_eq_true rfl) ?_
  intro p e s m below meth c args Q hargs hQ C hname
  refine J.loca (L2 := [(0, .ref x0), (1, .int x1)]) rfl ?_
  unfold F_gJ3_setLength at hF
  refine j_aload_n C dJ3_setLength_0 rfl 0 rfl ?_
  refine j_iload_n C dJ3_setLength_1 rfl 1 rfl ?_
  obtain ⟨hrc, hF⟩ := hF
  obtain ⟨c_6, s_7, hc1, hc2, hF⟩ := hF
  refine jg_callSU (n := 1) (As := [.int x1]) (rest := []) C (M_gJ2_setLength G l hG hTab hm (S.1, c_6, s_7) x0 x1 _ hF) q1525 ⟨q1526, q252, q97, q1527, q2309, by decide +kernel⟩ rfl hrc rfl rfl (Nat.le_of_ble_eq_true rfl) ⟨Nat.le_of_ble_eq_true rfl, Nat.le_of_ble_eq_true rfl⟩ hc1 hc2 dJ3_setLength_2 (kk_v fun h_9 hF => ?_)
  obtain ⟨S_10, eS_10, hF⟩ := nm_intro hF
  refine g_J eS_10 ?_
  rw [hQ]
  exact j_vret C ⟨rfl, hF⟩ dJ3_setLength_5
def L_gJ5_compress_2_10 (G : GT) (P : Int32 → AH → Prop) (f0 : Nat) (f2 : Nat) (f4 : Int32) : Nat → GZ → Int32 → Int32 → Int32 → Prop
  | 0, _, _, _, _ => False
  | n + 1, S, z1, z3, z5 => (f4 ≤ z5 → P f4 S.1) ∧ (¬ f4 ≤ z5 → ∃ c_20 s_21 : Nat, c_20 ≤ S.2.1 ∧ s_21 ≤ S.2.2 ∧ F_gJ5_getChar G (S.1, c_20, s_21) f0 z1 (fun r_22 h_23 => nm (α := GZ) (h_23, S.2.1 - c_20, S.2.2 - s_21) (fun S_24 => (r_22 ≤ 255 → ∃ (n_26 : Nat) (f_27 : Nat → Int32), S_24.1 f2 = some (.inl (G.2.2.1 2, n_26, .inl f_27)) ∧ vp_in z3 n_26 ∧ (nm (α := GZ) (hup S_24.1 f2 (.inl (G.2.2.1 2, n_26, .inl (upd f_27 (Int32.toNatClampNeg z3) (vp_nar .byte ((r_22).toInt8.toInt32))))), S_24.2.1, S_24.2.2) (fun S_28 => L_gJ5_compress_2_10 G P f0 f2 f4 n S_28 (z1 + 1) (z3 + 1) (z5 + 1)))) ∧ (¬ r_22 ≤ 255 → P z5 S_24.1))))
def F_gJ5_compress_2 (G : GT) (S : GZ) (x0 : Nat) (x1 : Int32) (x2 : Nat) (x3 : Int32) (x4 : Int32) (P : Int32 → AH → Prop) : Prop := ∃ c_14 s_15 : Nat, c_14 ≤ S.2.1 ∧ s_15 ≤ S.2.2 ∧ F_gJ5_checkBoundsOffCount G (S.1, c_14, s_15) x1 x4 x0 (fun h_17 => nm (α := GZ) (h_17, S.2.1 - c_14, S.2.2 - s_15) (fun S_18 => L_gJ5_compress_2_10 G P x0 x2 x4 NF S_18 x1 x3 0))
set_option maxHeartbeats 4000000 in
theorem WL_gJ5_compress_2_10 {G : GT} {p : Program} {l : Launch} {e : Env} {s : State} {m : MethodId} {args : Array Value} {below : List Frame} {meth : Method} {c : Code} {Q : State → Prop} {c0 s0 : Nat} (C : Cx G p s m args meth c cJ5_compress_2 RJ5 7 (some Jvm.ClassFile.FieldType.int)) (hG : GOK G) (hTab : TabF G) (hm : FreeG G) (hname : meth.name = yJ5_compress_2.name) {P : Int32 → AH → Prop} (hQ : Q = MQ below (SQ G (fun v h' => ∃ r : Int32, v = some (.int r) ∧ P r h')) args s (({ frames := 3, cells := c0, slots := s0, locals := 97 } : Room) : Room).cells (({ frames := 3, cells := c0, slots := s0, locals := 97 } : Room) : Room).slots (fun q => G.1 ≤ q)) {f0 : Nat} {f2 : Nat} {f4 : Int32} :
    ∀ (n : Nat) (S : GZ) (z1 : Int32) (z3 : Int32) (z5 : Int32), L_gJ5_compress_2_10 G P f0 f2 f4 n S z1 z3 z5 → J G p l e ({ frames := 3, cells := c0, slots := s0, locals := 97 } : Room) s m args below meth c 7 Q S.2.1 S.2.2 S.1 10 [(0, .ref f0), (1, .int z1), (2, .ref f2), (3, .int z3), (4, .int f4), (5, .int z5)] [] := by
  intro n
  induction n with
  | zero => intro S z1 z3 z5 hF; exact hF.elim
  | succ n ih =>
    intro S z1 z3 z5 hF
    unfold L_gJ5_compress_2_10 at hF
    refine j_iload C dJ5_compress_2_10 5 rfl ?_
    refine j_iload C dJ5_compress_2_12 4 rfl ?_
    refine j_icmp_ge (tgt := 53) C dJ5_compress_2_14 (by decide) (fun hc_19 => ?_) (fun hc_19 => ?_)
    · replace hF := hF.1 hc_19
      refine j_iload C dJ5_compress_2_53 4 rfl ?_
      rw [hQ]
      exact j_iret C rfl ⟨_, rfl, hF⟩ dJ5_compress_2_55
    · replace hF := hF.2 hc_19
      refine j_aload_n C dJ5_compress_2_17 rfl 0 rfl ?_
      refine j_iload_n C dJ5_compress_2_18 rfl 1 rfl ?_
      obtain ⟨c_20, s_21, hc1, hc2, hF⟩ := hF
      refine j_callS (n := 2) (As := [.ref f0, .int z1]) (rest := []) C (M_gJ5_getChar G l hG hTab hm (S.1, c_20, s_21) f0 z1 _ hF) q1496 ⟨q1497, q100, q1498, by decide +kernel⟩ rfl rfl (Nat.le_of_ble_eq_true rfl) ⟨Nat.le_of_ble_eq_true rfl, Nat.le_of_ble_eq_true rfl⟩ hc1 hc2 dJ5_compress_2_19 (kk_i fun r_22 h_23 hF => ?_)
      obtain ⟨S_24, eS_24, hF⟩ := nm_intro hF
      refine g_J eS_24 ?_
      refine j_istore (L2 := [(6, .int r_22), (0, .ref f0), (1, .int z1), (2, .ref f2), (3, .int z3), (4, .int f4), (5, .int z5)]) C dJ5_compress_2_22 (by decide) rfl ?_
      refine j_iload C dJ5_compress_2_24 0 rfl ?_
      refine j_sipush (v := 255) C dJ5_compress_2_26 rfl ?_
      refine j_icmp_le (tgt := 35) C dJ5_compress_2_29 (by decide) (fun hc_25 => ?_) (fun hc_25 => ?_)
      · replace hF := hF.1 hc_25
        refine j_aload_n C dJ5_compress_2_35 rfl 3 rfl ?_
        refine j_iload_n C dJ5_compress_2_36 rfl 4 rfl ?_
        refine j_iload C dJ5_compress_2_37 0 rfl ?_
        refine j_i2b C dJ5_compress_2_39 ?_
        obtain ⟨n_26, f_27, hg1, hg2, hF⟩ := hF
        refine j_bast C hm hg1 hg2 dJ5_compress_2_40 ?_
        obtain ⟨S_28, eS_28, hF⟩ := nm_intro hF
        refine g_J eS_28 ?_
        refine j_iinc (q := 2) (v := z1 + 1) (L2 := [(1, .int (z1 + 1)), (6, .int r_22), (0, .ref f0), (2, .ref f2), (3, .int z3), (4, .int f4), (5, .int z5)]) C dJ5_compress_2_41 rfl rfl (by decide) rfl ?_
        refine j_iinc (q := 4) (v := z3 + 1) (L2 := [(3, .int (z3 + 1)), (1, .int (z1 + 1)), (6, .int r_22), (0, .ref f0), (2, .ref f2), (4, .int f4), (5, .int z5)]) C dJ5_compress_2_44 rfl rfl (by decide) rfl ?_
        refine j_iinc (q := 6) (v := z5 + 1) (L2 := [(5, .int (z5 + 1)), (3, .int (z3 + 1)), (1, .int (z1 + 1)), (6, .int r_22), (0, .ref f0), (2, .ref f2), (4, .int f4)]) C dJ5_compress_2_47 rfl rfl (by decide) rfl ?_
        refine j_goto (tgt := 10) C dJ5_compress_2_50 (by decide) ?_
        exact J.locals [4, 2, 5, 1, 6, 0] (ih _ _ _ _ hF) rfl
      · replace hF := hF.2 hc_25
        refine j_iload C dJ5_compress_2_32 6 rfl ?_
        rw [hQ]
        exact j_iret C rfl ⟨_, rfl, hF⟩ dJ5_compress_2_34
set_option maxHeartbeats 4000000 in
theorem M_gJ5_compress_2 (G : GT) (l : Launch) (hG : GOK G) (hTab : TabF G) (hm : FreeG G) (S : GZ) (x0 : Nat) (x1 : Int32) (x2 : Nat) (x3 : Int32) (x4 : Int32) (P : Int32 → AH → Prop) (hF : F_gJ5_compress_2 G S x0 x1 x2 x3 x4 P) : MT G l yJ5_compress_2 cJ5_compress_2 7 (some Jvm.ClassFile.FieldType.int) 3 97 S.2.1 S.2.2 [.ref x0, .int x1, .ref x2, .int x3, .int x4] S.1 (fun v h' => ∃ r : Int32, v = some (.int r) ∧ P r h') := by
  refine MT.mk (own := RJ5) (by decide) rfl hG (Nat.le_of_ble_eq_true rfl) ?_
  intro p e s m below meth c args Q hargs hQ C hname
  refine J.loca (L2 := [(0, .ref x0), (1, .int x1), (2, .ref x2), (3, .int x3), (4, .int x4)]) rfl ?_
  unfold F_gJ5_compress_2 at hF
  refine j_iload_n C dJ5_compress_2_0 rfl 1 rfl ?_
  refine j_iload C dJ5_compress_2_1 4 rfl ?_
  refine j_aload_n C dJ5_compress_2_3 rfl 0 rfl ?_
  obtain ⟨c_14, s_15, hc1, hc2, hF⟩ := hF
  refine j_callS (n := 3) (As := [.int x1, .int x4, .ref x0]) (rest := []) C (M_gJ5_checkBoundsOffCount G l hG hTab hm (S.1, c_14, s_15) x1 x4 x0 _ hF) q852 ⟨q853, q100, q854, by decide +kernel⟩ rfl rfl (Nat.le_of_ble_eq_true rfl) ⟨Nat.le_of_ble_eq_true rfl, Nat.le_of_ble_eq_true rfl⟩ hc1 hc2 dJ5_compress_2_4 (kk_v fun h_17 hF => ?_)
  obtain ⟨S_18, eS_18, hF⟩ := nm_intro hF
  refine g_J eS_18 ?_
  refine j_iconst (v := 0) C dJ5_compress_2_7 rfl ?_
  refine j_istore (L2 := [(5, .int 0), (0, .ref x0), (1, .int x1), (2, .ref x2), (3, .int x3), (4, .int x4)]) C dJ5_compress_2_8 (by decide) rfl ?_
  refine J.locals [1, 2, 3, 4, 5, 0] (WL_gJ5_compress_2_10 C hG hTab hm hname hQ NF _ _ _ _ hF) rfl
def F_gJ5_compress (G : GT) (S : GZ) (x0 : Nat) (x1 : Int32) (x2 : Int32) (P : Nat → AH → Prop) : Prop := ¬ (x2 : Int32) < 0 ∧ 1 ≤ S.2.1 ∧ Int32.toNatClampNeg x2 ≤ S.2.2 ∧ Int32.toNatClampNeg x2 * componentBytes .byte ≤ 536870912 ∧ ∀ q_28 : Nat, S.1 q_28 = none → G.1 ≤ q_28 → (nm (α := GZ) (hup S.1 q_28 (.inl (G.2.2.1 2, Int32.toNatClampNeg x2, .inl (fun _ => 0))), S.2.1 - 1, S.2.2 - Int32.toNatClampNeg x2) (fun S_29 => ∃ c_30 s_31 : Nat, c_30 ≤ S_29.2.1 ∧ s_31 ≤ S_29.2.2 ∧ F_gJ5_compress_2 G (S_29.1, c_30, s_31) x0 x1 q_28 0 x2 (fun r_32 h_33 => nm (α := GZ) (h_33, S_29.2.1 - c_30, S_29.2.2 - s_31) (fun S_34 => (r_32 = x2 → P q_28 S_34.1) ∧ (¬ r_32 = x2 → ∃ c_36 s_37 : Nat, c_36 ≤ S_34.2.1 ∧ s_37 ≤ S_34.2.2 ∧ F_gJ5_newBytesLength G (S_34.1, c_36, s_37) (x1 + x2) (fun r_38 h_39 => nm (α := GZ) (h_39, S_34.2.1 - c_36, S_34.2.2 - s_37) (fun S_40 => ∃ c_41 s_42 : Nat, c_41 ≤ S_40.2.1 ∧ s_42 ≤ S_40.2.2 ∧ F_gJ12_copyOfRange G (S_40.1, c_41, s_42) x0 (x1 <<< (1 &&& 31)) r_38 (fun r_43 h_44 => nm (α := GZ) (h_44, S_40.2.1 - c_41, S_40.2.2 - s_42) (fun S_45 => ∃ c_46 s_47 : Nat, c_46 ≤ S_45.2.1 ∧ s_47 ≤ S_45.2.2 ∧ F_gJ5_getChar G (S_45.1, c_46, s_47) r_43 r_32 (fun r_48 h_49 => nm (α := GZ) (h_49, S_45.2.1 - c_46, S_45.2.2 - s_47) (fun S_50 => (255 < r_48 → P r_43 S_50.1) ∧ (¬ 255 < r_48 → ∃ c_52 s_53 : Nat, c_52 ≤ S_50.2.1 ∧ s_53 ≤ S_50.2.2 ∧ F_gJ5_compress_2 G (S_50.1, c_52, s_53) r_43 0 q_28 0 x2 (fun r_54 h_55 => nm (α := GZ) (h_55, S_50.2.1 - c_52, S_50.2.2 - s_53) (fun S_56 => (r_54 = x2 → P q_28 S_56.1) ∧ (¬ r_54 = x2 → P r_43 S_56.1)))))))))))))))
set_option maxHeartbeats 4000000 in
theorem M_gJ5_compress (G : GT) (l : Launch) (hG : GOK G) (hTab : TabF G) (hm : FreeG G) (S : GZ) (x0 : Nat) (x1 : Int32) (x2 : Int32) (P : Nat → AH → Prop) (hF : F_gJ5_compress G S x0 x1 x2 P) : MT G l yJ5_compress cJ5_compress 6 (some (Jvm.ClassFile.FieldType.array Jvm.ClassFile.FieldType.byte)) 4 286 S.2.1 S.2.2 [.ref x0, .int x1, .int x2] S.1 (fun v h' => ∃ r : Nat, v = some (.ref r) ∧ P r h') := by
  refine MT.mk (own := RJ5) (by decide) rfl hG (Nat.le_of_ble_eq_true rfl) ?_
  intro p e s m below meth c args Q hargs hQ C hname
  refine J.loca (L2 := [(0, .ref x0), (1, .int x1), (2, .int x2)]) rfl ?_
  unfold F_gJ5_compress at hF
  refine j_iload_n C dJ5_compress_0 rfl 2 rfl ?_
  obtain ⟨hg1, hg2, hg3, hg4, hF⟩ := hF
  refine j_newa C hm 2 (ty := .byte) rfl (fun _ z => nomatch z) (fun _ => rfl) q253 (Int32.toNatClampNeg x2, .inl (fun _ => 0)) (fun _ => rfl) hg1 rfl hg4 (bc' := S.2.1 - 1) (bs' := S.2.2 - Int32.toNatClampNeg x2) (by omega) (by omega) dJ5_compress_1 (fun q_28 hq1 hq2 => ?_)
  replace hF := hF q_28 hq1 hq2
  obtain ⟨S_29, eS_29, hF⟩ := nm_intro hF
  refine g_J eS_29 ?_
  refine j_astore_n (L2 := [(3, .ref q_28), (0, .ref x0), (1, .int x1), (2, .int x2)]) C dJ5_compress_3 rfl (by decide) rfl ?_
  refine j_aload_n C dJ5_compress_4 rfl 1 rfl ?_
  refine j_iload_n C dJ5_compress_5 rfl 2 rfl ?_
  refine j_aload_n C dJ5_compress_6 rfl 0 rfl ?_
  refine j_iconst (v := 0) C dJ5_compress_7 rfl ?_
  refine j_iload_n C dJ5_compress_8 rfl 3 rfl ?_
  obtain ⟨c_30, s_31, hc1, hc2, hF⟩ := hF
  refine j_callS (n := 5) (As := [.ref x0, .int x1, .ref q_28, .int 0, .int x2]) (rest := []) C (M_gJ5_compress_2 G l hG hTab hm (S_29.1, c_30, s_31) x0 x1 q_28 0 x2 _ hF) q1493 ⟨q1494, q100, q1495, by decide +kernel⟩ rfl rfl (Nat.le_of_ble_eq_true rfl) ⟨Nat.le_of_ble_eq_true rfl, Nat.le_of_ble_eq_true rfl⟩ hc1 hc2 dJ5_compress_9 (kk_i fun r_32 h_33 hF => ?_)
  obtain ⟨S_34, eS_34, hF⟩ := nm_intro hF
  refine g_J eS_34 ?_
  refine j_istore (L2 := [(4, .int r_32), (3, .ref q_28), (0, .ref x0), (1, .int x1), (2, .int x2)]) C dJ5_compress_12 (by decide) rfl ?_
  refine j_iload C dJ5_compress_14 0 rfl ?_
  refine j_iload_n C dJ5_compress_16 rfl 4 rfl ?_
  refine j_icmp_eq (tgt := 64) C dJ5_compress_17 (by decide) (fun hc_35 => ?_) (fun hc_35 => ?_)
  · replace hF := hF.1 hc_35
    refine j_aload_n C dJ5_compress_64 rfl 1 rfl ?_
    rw [hQ]
    exact j_aret C (Or.inr ⟨_, rfl⟩) (Or.inr ⟨_, rfl⟩) ⟨_, rfl, hF⟩ dJ5_compress_65
  · replace hF := hF.2 hc_35
    refine j_aload_n C dJ5_compress_20 rfl 2 rfl ?_
    refine j_iload_n C dJ5_compress_21 rfl 3 rfl ?_
    refine j_iconst (v := 1) C dJ5_compress_22 rfl ?_
    refine j_ishl C dJ5_compress_23 ?_
    refine j_iload_n C dJ5_compress_24 rfl 3 rfl ?_
    refine j_iload_n C dJ5_compress_25 rfl 4 rfl ?_
    refine j_iadd C dJ5_compress_26 ?_
    obtain ⟨c_36, s_37, hc1, hc2, hF⟩ := hF
    refine j_callS (n := 1) (As := [.int (x1 + x2)]) (rest := [.int (x1 <<< (1 &&& 31)), .ref x0]) C (M_gJ5_newBytesLength G l hG hTab hm (S_34.1, c_36, s_37) (x1 + x2) _ hF) q235 ⟨q236, q100, q237, by decide +kernel⟩ rfl rfl (Nat.le_of_ble_eq_true rfl) ⟨Nat.le_of_ble_eq_true rfl, Nat.le_of_ble_eq_true rfl⟩ hc1 hc2 dJ5_compress_27 (kk_i fun r_38 h_39 hF => ?_)
    obtain ⟨S_40, eS_40, hF⟩ := nm_intro hF
    refine g_J eS_40 ?_
    obtain ⟨c_41, s_42, hc1, hc2, hF⟩ := hF
    refine j_callS (n := 3) (As := [.ref x0, .int (x1 <<< (1 &&& 31)), .int r_38]) (rest := []) C (M_gJ12_copyOfRange G l hG hTab hm (S_40.1, c_41, s_42) x0 (x1 <<< (1 &&& 31)) r_38 _ hF) q1499 ⟨q1471, q111, q1472, by decide +kernel⟩ rfl rfl (Nat.le_of_ble_eq_true rfl) ⟨Nat.le_of_ble_eq_true rfl, Nat.le_of_ble_eq_true rfl⟩ hc1 hc2 dJ5_compress_30 (kk_r fun r_43 h_44 hF => ?_)
    obtain ⟨S_45, eS_45, hF⟩ := nm_intro hF
    refine g_J eS_45 ?_
    refine j_astore (L2 := [(5, .ref r_43), (4, .int r_32), (3, .ref q_28), (0, .ref x0), (1, .int x1), (2, .int x2)]) C dJ5_compress_33 (by decide) rfl ?_
    refine j_aload C dJ5_compress_35 0 rfl ?_
    refine j_iload C dJ5_compress_37 1 rfl ?_
    obtain ⟨c_46, s_47, hc1, hc2, hF⟩ := hF
    refine j_callS (n := 2) (As := [.ref r_43, .int r_32]) (rest := []) C (M_gJ5_getChar G l hG hTab hm (S_45.1, c_46, s_47) r_43 r_32 _ hF) q1496 ⟨q1497, q100, q1498, by decide +kernel⟩ rfl rfl (Nat.le_of_ble_eq_true rfl) ⟨Nat.le_of_ble_eq_true rfl, Nat.le_of_ble_eq_true rfl⟩ hc1 hc2 dJ5_compress_39 (kk_i fun r_48 h_49 hF => ?_)
    obtain ⟨S_50, eS_50, hF⟩ := nm_intro hF
    refine g_J eS_50 ?_
    refine j_sipush (v := 255) C dJ5_compress_42 rfl ?_
    refine j_icmp_gt (tgt := 61) C dJ5_compress_45 (by decide) (fun hc_51 => ?_) (fun hc_51 => ?_)
    · replace hF := hF.1 hc_51
      refine j_aload C dJ5_compress_61 0 rfl ?_
      rw [hQ]
      exact j_aret C (Or.inr ⟨_, rfl⟩) (Or.inr ⟨_, rfl⟩) ⟨_, rfl, hF⟩ dJ5_compress_63
    · replace hF := hF.2 hc_51
      refine j_aload C dJ5_compress_48 0 rfl ?_
      refine j_iconst (v := 0) C dJ5_compress_50 rfl ?_
      refine j_aload_n C dJ5_compress_51 rfl 2 rfl ?_
      refine j_iconst (v := 0) C dJ5_compress_52 rfl ?_
      refine j_iload_n C dJ5_compress_53 rfl 5 rfl ?_
      obtain ⟨c_52, s_53, hc1, hc2, hF⟩ := hF
      refine j_callS (n := 5) (As := [.ref r_43, .int 0, .ref q_28, .int 0, .int x2]) (rest := []) C (M_gJ5_compress_2 G l hG hTab hm (S_50.1, c_52, s_53) r_43 0 q_28 0 x2 _ hF) q1493 ⟨q1494, q100, q1495, by decide +kernel⟩ rfl rfl (Nat.le_of_ble_eq_true rfl) ⟨Nat.le_of_ble_eq_true rfl, Nat.le_of_ble_eq_true rfl⟩ hc1 hc2 dJ5_compress_54 (kk_i fun r_54 h_55 hF => ?_)
      obtain ⟨S_56, eS_56, hF⟩ := nm_intro hF
      refine g_J eS_56 ?_
      refine j_iload_n C dJ5_compress_57 rfl 5 rfl ?_
      refine j_icmp_eq (tgt := 64) C dJ5_compress_58 (by decide) (fun hc_57 => ?_) (fun hc_57 => ?_)
      · replace hF := hF.1 hc_57
        refine j_aload_n C dJ5_compress_64 rfl 2 rfl ?_
        rw [hQ]
        exact j_aret C (Or.inr ⟨_, rfl⟩) (Or.inr ⟨_, rfl⟩) ⟨_, rfl, hF⟩ dJ5_compress_65
      · replace hF := hF.2 hc_57
        refine j_aload C dJ5_compress_61 0 rfl ?_
        rw [hQ]
        exact j_aret C (Or.inr ⟨_, rfl⟩) (Or.inr ⟨_, rfl⟩) ⟨_, rfl, hF⟩ dJ5_compress_63
def F_gJ5_coderFromArrayLen (G : GT) (S : GZ) (x0 : Nat) (x1 : Int32) (P : Int32 → AH → Prop) : Prop := ∃ n_2 : Nat, aL G S.1 x0 n_2 ∧ ((narrow .byte (.int ((((x1 - (Int32.ofNat n_2) : Int32).toUInt32 >>> ((31 : Int32).toUInt32 &&& Int32.toUInt32 31)).toInt32).toInt8.toInt32)) = .int ((((x1 - (Int32.ofNat n_2) : Int32).toUInt32 >>> ((31 : Int32).toUInt32 &&& Int32.toUInt32 31)).toInt32).toInt8.toInt32)) ∧ P ((((x1 - (Int32.ofNat n_2) : Int32).toUInt32 >>> ((31 : Int32).toUInt32 &&& Int32.toUInt32 31)).toInt32).toInt8.toInt32) S.1)
set_option maxHeartbeats 4000000 in
theorem M_gJ5_coderFromArrayLen (G : GT) (l : Launch) (hG : GOK G) (hTab : TabF G) (hm : FreeG G) (S : GZ) (x0 : Nat) (x1 : Int32) (P : Int32 → AH → Prop) (hF : F_gJ5_coderFromArrayLen G S x0 x1 P) : MT G l yJ5_coderFromArrayLen cJ5_coderFromArrayLen 2 (some Jvm.ClassFile.FieldType.byte) 0 0 S.2.1 S.2.2 [.ref x0, .int x1] S.1 (fun v h' => ∃ r : Int32, v = some (.int r) ∧ P r h') := by
  refine MT.mk (own := RJ5) (by decide) rfl hG (Nat.le_of_ble_eq_true rfl) ?_
  intro p e s m below meth c args Q hargs hQ C hname
  refine J.loca (L2 := [(0, .ref x0), (1, .int x1)]) rfl ?_
  unfold F_gJ5_coderFromArrayLen at hF
  refine j_iload_n C dJ5_coderFromArrayLen_0 rfl 1 rfl ?_
  refine j_aload_n C dJ5_coderFromArrayLen_1 rfl 0 rfl ?_
  obtain ⟨n_2, hgd, hF⟩ := hF
  refine jg_alen C hgd dJ5_coderFromArrayLen_2 ?_
  refine j_isub C dJ5_coderFromArrayLen_3 ?_
  refine j_bipush (v := 31) C dJ5_coderFromArrayLen_4 rfl ?_
  refine j_iushr C dJ5_coderFromArrayLen_6 ?_
  refine j_i2b C dJ5_coderFromArrayLen_7 ?_
  rw [hQ]
  exact j_iret C hF.1 ⟨_, rfl, hF.2⟩ dJ5_coderFromArrayLen_8
def F_gJ4_init_2 (G : GT) (S : GZ) (x0 : Nat) (x1 : Nat) (x2 : Option Nat) (P : AH → Prop) : Prop := aC G S.1 x1 13 ∧ ∃ c_51 s_52 : Nat, c_51 ≤ S.2.1 ∧ s_52 ≤ S.2.2 ∧ F_gJ2_getValue G (S.1, c_51, s_52) x1 (fun r_53 h_54 => nm (α := GZ) (h_54, S.2.1 - c_51, S.2.2 - s_52) (fun S_55 => aC G S_55.1 x1 13 ∧ ∃ c_56 s_57 : Nat, c_56 ≤ S_55.2.1 ∧ s_57 ≤ S_55.2.2 ∧ F_gJ3_length G (S_55.1, c_56, s_57) x1 (fun r_58 h_59 => nm (α := GZ) (h_59, S_55.2.1 - c_56, S_55.2.2 - s_57) (fun S_60 => aC G S_60.1 x1 13 ∧ ∃ c_61 s_62 : Nat, c_61 ≤ S_60.2.1 ∧ s_62 ≤ S_60.2.2 ∧ F_gJ2_isLatin1 G (S_60.1, c_61, s_62) x1 (fun r_63 h_64 => nm (α := GZ) (h_64, S_60.2.1 - c_61, S_60.2.2 - s_62) (fun S_65 => (r_63 = 0 → ∃ v_67 : Int32, StV G "java/lang/String" "COMPACT_STRINGS" "Z" (.int v_67) ∧ (jn (α := GZ → Prop) (fun S_69 => ∃ fs_70 : List Value, S_69.1 x0 = some (.inr (14, fs_70)) ∧ 1 < fs_70.length ∧ (nm (α := GZ) (hup S_69.1 x0 (.inr (14, List.set fs_70 1 (.int 1))), S_69.2.1, S_69.2.2) (fun S_71 => ∃ c_72 s_73 : Nat, c_72 ≤ S_71.2.1 ∧ s_73 ≤ S_71.2.2 ∧ F_gJ12_copyOfRange G (S_71.1, c_72, s_73) r_53 0 (r_58 <<< (1 &&& 31)) (fun r_74 h_75 => nm (α := GZ) (h_75, S_71.2.1 - c_72, S_71.2.2 - s_73) (fun S_76 => ∃ fs_77 : List Value, S_76.1 x0 = some (.inr (14, fs_77)) ∧ 0 < fs_77.length ∧ (nm (α := GZ) (hup S_76.1 x0 (.inr (14, List.set fs_77 0 (.ref r_74))), S_76.2.1, S_76.2.2) (fun S_78 => P S_78.1))))))) (fun K_68 => (v_67 = 0 → K_68 S_65) ∧ (¬ v_67 = 0 → ∃ v_80 : Int32, aF G S_65.1 x1 13 2 (.int v_80) ∧ ((v_80 = 0 → K_68 S_65) ∧ (¬ v_80 = 0 → ∃ c_82 s_83 : Nat, c_82 ≤ S_65.2.1 ∧ s_83 ≤ S_65.2.2 ∧ F_gJ5_compress G (S_65.1, c_82, s_83) r_53 0 r_58 (fun r_84 h_85 => nm (α := GZ) (h_85, S_65.2.1 - c_82, S_65.2.2 - s_83) (fun S_86 => ∃ fs_87 : List Value, S_86.1 x0 = some (.inr (14, fs_87)) ∧ 0 < fs_87.length ∧ (nm (α := GZ) (hup S_86.1 x0 (.inr (14, List.set fs_87 0 (.ref r_84))), S_86.2.1, S_86.2.2) (fun S_88 => ∃ v_89 : Nat, aF G S_88.1 x0 14 0 (.ref v_89) ∧ (∃ c_90 s_91 : Nat, c_90 ≤ S_88.2.1 ∧ s_91 ≤ S_88.2.2 ∧ F_gJ5_coderFromArrayLen G (S_88.1, c_90, s_91) v_89 r_58 (fun r_92 h_93 => nm (α := GZ) (h_93, S_88.2.1 - c_90, S_88.2.2 - s_91) (fun S_94 => ∃ fs_95 : List Value, S_94.1 x0 = some (.inr (14, fs_95)) ∧ 1 < fs_95.length ∧ narrow .byte (.int r_92) = .int r_92 ∧ fits .byte (.int r_92) = true ∧ (nm (α := GZ) (hup S_94.1 x0 (.inr (14, List.set fs_95 1 (.int r_92))), S_94.2.1, S_94.2.2) (fun S_96 => P S_96.1))))))))))))))) ∧ (¬ r_63 = 0 → ∃ fs_97 : List Value, S_65.1 x0 = some (.inr (14, fs_97)) ∧ 1 < fs_97.length ∧ (nm (α := GZ) (hup S_65.1 x0 (.inr (14, List.set fs_97 1 (.int 0))), S_65.2.1, S_65.2.2) (fun S_98 => ∃ c_99 s_100 : Nat, c_99 ≤ S_98.2.1 ∧ s_100 ≤ S_98.2.2 ∧ F_gJ12_copyOfRange G (S_98.1, c_99, s_100) r_53 0 r_58 (fun r_101 h_102 => nm (α := GZ) (h_102, S_98.2.1 - c_99, S_98.2.2 - s_100) (fun S_103 => ∃ fs_104 : List Value, S_103.1 x0 = some (.inr (14, fs_104)) ∧ 0 < fs_104.length ∧ (nm (α := GZ) (hup S_103.1 x0 (.inr (14, List.set fs_104 0 (.ref r_101))), S_103.2.1, S_103.2.2) (fun S_105 => P S_105.1)))))))))))))
set_option maxHeartbeats 4000000 in
theorem M_gJ4_init_2 (G : GT) (l : Launch) (hG : GOK G) (hTab : TabF G) (hm : FreeG G) (S : GZ) (x0 : Nat) (x1 : Nat) (x2 : Option Nat) (P : AH → Prop) (hF : F_gJ4_init_2 G S x0 x1 x2 P) : MT G l yJ4_init_2 cJ4_init_2 5 none 5 321 S.2.1 S.2.2 [.ref x0, .ref x1, va_rf x2] S.1 (fun v h' => v = none ∧ P h') := by
  refine MT.mk (own := RJ4) (by decide) rfl hG (by cases x2 <;> exact Nat.le_of_ble_eq_true rfl) ?_
  intro p e s m below meth c args Q hargs hQ C hname
  refine J.loca (L2 := [(0, .ref x0), (1, .ref x1), (2, va_rf x2)]) rfl ?_
  unfold F_gJ4_init_2 at hF
  refine j_aload_n C dJ4_init_2_0 rfl 0 rfl ?_
  refine j_objInit C q1462 q142 q143 (Nat.le_of_ble_eq_true rfl) (Nat.le_of_ble_eq_true rfl) dJ4_init_2_1 ?_
  refine j_aload_n C dJ4_init_2_4 rfl 1 rfl ?_
  obtain ⟨hrc, hF⟩ := hF
  obtain ⟨c_51, s_52, hc1, hc2, hF⟩ := hF
  refine jg_callU (n := 0) (As := []) (rest := []) C (M_gJ2_getValue G l hG hTab hm (S.1, c_51, s_52) x1 _ hF) q1463 ⟨q1464, q1466, q97, q1467, q1465, by decide +kernel⟩ rfl hrc rfl rfl (Nat.le_of_ble_eq_true rfl) ⟨Nat.le_of_ble_eq_true rfl, Nat.le_of_ble_eq_true rfl⟩ hc1 hc2 dJ4_init_2_5 (kk_r fun r_53 h_54 hF => ?_)
  obtain ⟨S_55, eS_55, hF⟩ := nm_intro hF
  refine g_J eS_55 ?_
  refine j_astore_n (L2 := [(3, .ref r_53), (0, .ref x0), (1, .ref x1), (2, va_rf x2)]) C dJ4_init_2_8 rfl (by decide) (by cases x2 <;> rfl) ?_
  refine j_aload_n C dJ4_init_2_9 rfl 2 rfl ?_
  obtain ⟨hrc, hF⟩ := hF
  obtain ⟨c_56, s_57, hc1, hc2, hF⟩ := hF
  refine jg_callO (n := 0) (As := []) (rest := []) C (M_gJ3_length G l hG hTab hm (S_55.1, c_56, s_57) x1 _ hF) q1468 ⟨q938, ⟨_, _, _, q939⟩, q934, q2308, q98, q936, q2306, by decide +kernel⟩ rfl hrc rfl rfl (Nat.le_of_ble_eq_true rfl) ⟨Nat.le_of_ble_eq_true rfl, Nat.le_of_ble_eq_true rfl⟩ hc1 hc2 dJ4_init_2_10 (kk_i fun r_58 h_59 hF => ?_)
  obtain ⟨S_60, eS_60, hF⟩ := nm_intro hF
  refine g_J eS_60 ?_
  refine j_istore (L2 := [(4, .int r_58), (3, .ref r_53), (0, .ref x0), (1, .ref x1), (2, va_rf x2)]) C dJ4_init_2_13 (by decide) rfl ?_
  refine j_aload_n C dJ4_init_2_15 rfl 3 rfl ?_
  obtain ⟨hrc, hF⟩ := hF
  obtain ⟨c_61, s_62, hc1, hc2, hF⟩ := hF
  refine jg_callU (n := 0) (As := []) (rest := []) C (M_gJ2_isLatin1 G l hG hTab hm (S_60.1, c_61, s_62) x1 _ hF) q1469 ⟨q794, q796, q97, q797, q795, by decide +kernel⟩ rfl hrc rfl rfl (Nat.le_of_ble_eq_true rfl) ⟨Nat.le_of_ble_eq_true rfl, Nat.le_of_ble_eq_true rfl⟩ hc1 hc2 dJ4_init_2_16 (kk_i fun r_63 h_64 hF => ?_)
  obtain ⟨S_65, eS_65, hF⟩ := nm_intro hF
  refine g_J eS_65 ?_
  refine j_if_eq (tgt := 41) C dJ4_init_2_19 (by decide) (fun hc_66 => ?_) (fun hc_66 => ?_)
  · replace hF := hF.1 hc_66
    obtain ⟨v_67, hgd, hF⟩ := hF
    refine jg_gets C hgd q832 rfl dJ4_init_2_41 ?_
    obtain ⟨K_68, hK_68, hF⟩ := jn_intro (M := fun (K : GZ → Prop) => ∀ (S_69 : GZ), K S_69 → J G p l e ({ frames := 5, cells := S.2.1, slots := S.2.2, locals := 321 } : Room) s m args below meth c 5 Q S_69.2.1 S_69.2.2 S_69.1 79 [(0, .ref x0), (3, .ref r_53), (4, .int r_58)] []) (hk := by
        intro S_69 hF
        refine j_aload_n C dJ4_init_2_79 rfl 0 rfl ?_
        refine j_iconst (v := 1) C dJ4_init_2_80 rfl ?_
        obtain ⟨fs_70, hg1, hg2, hF⟩ := hF
        refine j_putF C hm hg1 rfl in_J4 tyJ4 tyJ4_ok nmJ4 1 (by decide) q1504 rfl rfl hname rfl rfl rfl hg2 dJ4_init_2_81 ?_
        obtain ⟨S_71, eS_71, hF⟩ := nm_intro hF
        refine g_J eS_71 ?_
        refine j_aload_n C dJ4_init_2_84 rfl 0 rfl ?_
        refine j_aload_n C dJ4_init_2_85 rfl 1 rfl ?_
        refine j_iconst (v := 0) C dJ4_init_2_86 rfl ?_
        refine j_iload C dJ4_init_2_87 2 rfl ?_
        refine j_iconst (v := 1) C dJ4_init_2_89 rfl ?_
        refine j_ishl C dJ4_init_2_90 ?_
        obtain ⟨c_72, s_73, hc1, hc2, hF⟩ := hF
        refine j_callS (n := 3) (As := [.ref r_53, .int 0, .int (r_58 <<< (1 &&& 31))]) (rest := [.ref x0]) C (M_gJ12_copyOfRange G l hG hTab hm (S_71.1, c_72, s_73) r_53 0 (r_58 <<< (1 &&& 31)) _ hF) q1470 ⟨q1471, q111, q1472, by decide +kernel⟩ rfl rfl (Nat.le_of_ble_eq_true rfl) ⟨Nat.le_of_ble_eq_true rfl, Nat.le_of_ble_eq_true rfl⟩ hc1 hc2 dJ4_init_2_91 (kk_r fun r_74 h_75 hF => ?_)
        obtain ⟨S_76, eS_76, hF⟩ := nm_intro hF
        refine g_J eS_76 ?_
        obtain ⟨fs_77, hg1, hg2, hF⟩ := hF
        refine j_putF C hm hg1 rfl in_J4 tyJ4 tyJ4_ok nmJ4 0 (by decide) q1503 rfl rfl hname rfl rfl rfl hg2 dJ4_init_2_94 ?_
        obtain ⟨S_78, eS_78, hF⟩ := nm_intro hF
        refine g_J eS_78 ?_
        rw [hQ]
        exact j_vret C ⟨rfl, hF⟩ dJ4_init_2_97) hF
    refine j_if_eq (tgt := 79) C dJ4_init_2_44 (by decide) (fun hc_79 => ?_) (fun hc_79 => ?_)
    · replace hF := hF.1 hc_79
      exact J.locals [2, 1, 0] (hK_68 _ hF) rfl
    · replace hF := hF.2 hc_79
      refine j_aload_n C dJ4_init_2_47 rfl 3 rfl ?_
      obtain ⟨v_80, hgd, hF⟩ := hF
      refine jg_get C (T := TJ3) (N := 4) rfl in_J3 2 (by decide) q242 rfl hgd dJ4_init_2_48 ?_
      refine j_if_eq (tgt := 79) C dJ4_init_2_51 (by decide) (fun hc_81 => ?_) (fun hc_81 => ?_)
      · replace hF := hF.1 hc_81
        exact J.locals [2, 1, 0] (hK_68 _ hF) rfl
      · replace hF := hF.2 hc_81
        refine j_aload_n C dJ4_init_2_54 rfl 2 rfl ?_
        refine j_aload_n C dJ4_init_2_55 rfl 1 rfl ?_
        refine j_iconst (v := 0) C dJ4_init_2_56 rfl ?_
        refine j_iload C dJ4_init_2_57 0 rfl ?_
        obtain ⟨c_82, s_83, hc1, hc2, hF⟩ := hF
        refine j_callS (n := 3) (As := [.ref r_53, .int 0, .int r_58]) (rest := [.ref x0]) C (M_gJ5_compress G l hG hTab hm (S_65.1, c_82, s_83) r_53 0 r_58 _ hF) q1490 ⟨q1491, q100, q1492, by decide +kernel⟩ rfl rfl (Nat.le_of_ble_eq_true rfl) ⟨Nat.le_of_ble_eq_true rfl, Nat.le_of_ble_eq_true rfl⟩ hc1 hc2 dJ4_init_2_59 (kk_r fun r_84 h_85 hF => ?_)
        obtain ⟨S_86, eS_86, hF⟩ := nm_intro hF
        refine g_J eS_86 ?_
        obtain ⟨fs_87, hg1, hg2, hF⟩ := hF
        refine j_putF C hm hg1 rfl in_J4 tyJ4 tyJ4_ok nmJ4 0 (by decide) q1503 rfl rfl hname rfl rfl rfl hg2 dJ4_init_2_62 ?_
        obtain ⟨S_88, eS_88, hF⟩ := nm_intro hF
        refine g_J eS_88 ?_
        refine j_aload_n C dJ4_init_2_65 rfl 2 rfl ?_
        refine j_aload_n C dJ4_init_2_66 rfl 2 rfl ?_
        obtain ⟨v_89, hgd, hF⟩ := hF
        refine jg_get C (T := TJ4) (N := 4) rfl in_J4 0 (by decide) q1503 rfl hgd dJ4_init_2_67 ?_
        refine j_iload C dJ4_init_2_70 0 rfl ?_
        obtain ⟨c_90, s_91, hc1, hc2, hF⟩ := hF
        refine j_callS (n := 2) (As := [.ref v_89, .int r_58]) (rest := [.ref x0]) C (M_gJ5_coderFromArrayLen G l hG hTab hm (S_88.1, c_90, s_91) v_89 r_58 _ hF) q1500 ⟨q1501, q100, q1502, by decide +kernel⟩ rfl rfl (Nat.le_of_ble_eq_true rfl) ⟨Nat.le_of_ble_eq_true rfl, Nat.le_of_ble_eq_true rfl⟩ hc1 hc2 dJ4_init_2_72 (kk_i fun r_92 h_93 hF => ?_)
        obtain ⟨S_94, eS_94, hF⟩ := nm_intro hF
        refine g_J eS_94 ?_
        obtain ⟨fs_95, hg1, hg2, hg3, hg4, hF⟩ := hF
        refine j_putF C hm hg1 rfl in_J4 tyJ4 tyJ4_ok nmJ4 1 (by decide) q1504 rfl rfl hname rfl hg3 hg4 hg2 dJ4_init_2_75 ?_
        obtain ⟨S_96, eS_96, hF⟩ := nm_intro hF
        refine g_J eS_96 ?_
        rw [hQ]
        exact j_vret C ⟨rfl, hF⟩ dJ4_init_2_78
  · replace hF := hF.2 hc_66
    refine j_aload_n C dJ4_init_2_22 rfl 2 rfl ?_
    refine j_iconst (v := 0) C dJ4_init_2_23 rfl ?_
    obtain ⟨fs_97, hg1, hg2, hF⟩ := hF
    refine j_putF C hm hg1 rfl in_J4 tyJ4 tyJ4_ok nmJ4 1 (by decide) q1504 rfl rfl hname rfl rfl rfl hg2 dJ4_init_2_24 ?_
    obtain ⟨S_98, eS_98, hF⟩ := nm_intro hF
    refine g_J eS_98 ?_
    refine j_aload_n C dJ4_init_2_27 rfl 2 rfl ?_
    refine j_aload_n C dJ4_init_2_28 rfl 1 rfl ?_
    refine j_iconst (v := 0) C dJ4_init_2_29 rfl ?_
    refine j_iload C dJ4_init_2_30 0 rfl ?_
    obtain ⟨c_99, s_100, hc1, hc2, hF⟩ := hF
    refine j_callS (n := 3) (As := [.ref r_53, .int 0, .int r_58]) (rest := [.ref x0]) C (M_gJ12_copyOfRange G l hG hTab hm (S_98.1, c_99, s_100) r_53 0 r_58 _ hF) q1470 ⟨q1471, q111, q1472, by decide +kernel⟩ rfl rfl (Nat.le_of_ble_eq_true rfl) ⟨Nat.le_of_ble_eq_true rfl, Nat.le_of_ble_eq_true rfl⟩ hc1 hc2 dJ4_init_2_32 (kk_r fun r_101 h_102 hF => ?_)
    obtain ⟨S_103, eS_103, hF⟩ := nm_intro hF
    refine g_J eS_103 ?_
    obtain ⟨fs_104, hg1, hg2, hF⟩ := hF
    refine j_putF C hm hg1 rfl in_J4 tyJ4 tyJ4_ok nmJ4 0 (by decide) q1503 rfl rfl hname rfl rfl rfl hg2 dJ4_init_2_35 ?_
    obtain ⟨S_105, eS_105, hF⟩ := nm_intro hF
    refine g_J eS_105 ?_
    refine j_goto (tgt := 97) C dJ4_init_2_38 (by decide) ?_
    rw [hQ]
    exact j_vret C ⟨rfl, hF⟩ dJ4_init_2_97
def F_gJ4_init (G : GT) (S : GZ) (x0 : Nat) (x1 : Nat) (P : AH → Prop) : Prop := ∃ c_6 s_7 : Nat, c_6 ≤ S.2.1 ∧ s_7 ≤ S.2.2 ∧ F_gJ4_init_2 G (S.1, c_6, s_7) x0 x1 none (fun h_9 => nm (α := GZ) (h_9, S.2.1 - c_6, S.2.2 - s_7) (fun S_10 => P S_10.1))
set_option maxHeartbeats 4000000 in
theorem M_gJ4_init (G : GT) (l : Launch) (hG : GOK G) (hTab : TabF G) (hm : FreeG G) (S : GZ) (x0 : Nat) (x1 : Nat) (P : AH → Prop) (hF : F_gJ4_init G S x0 x1 P) : MT G l yJ4_init cJ4_init 2 none 6 355 S.2.1 S.2.2 [.ref x0, .ref x1] S.1 (fun v h' => v = none ∧ P h') := by
  refine MT.mk (own := RJ4) (by decide) rfl hG (Nat.le_of_ble_eq_true rfl) ?_
  intro p e s m below meth c args Q hargs hQ C hname
  refine J.loca (L2 := [(0, .ref x0), (1, .ref x1)]) rfl ?_
  unfold F_gJ4_init at hF
  refine j_aload_n C dJ4_init_0 rfl 0 rfl ?_
  refine j_aload_n C dJ4_init_1 rfl 1 rfl ?_
  refine j_null C dJ4_init_2 ?_
  obtain ⟨c_6, s_7, hc1, hc2, hF⟩ := hF
  refine j_callI (n := 2) (As := [.ref x1, va_rf none]) (rest := []) C (M_gJ4_init_2 G l hG hTab hm (S.1, c_6, s_7) x0 x1 none _ hF) q1459 ⟨q1460, q99, q1461, rfl, by decide +kernel⟩ rfl rfl (Nat.le_of_ble_eq_true rfl) ⟨Nat.le_of_ble_eq_true rfl, Nat.le_of_ble_eq_true rfl⟩ hc1 hc2 dJ4_init_3 (kk_v fun h_9 hF => ?_)
  obtain ⟨S_10, eS_10, hF⟩ := nm_intro hF
  refine g_J eS_10 ?_
  rw [hQ]
  exact j_vret C ⟨rfl, hF⟩ dJ4_init_6
def F_gJ3_toString (G : GT) (S : GZ) (x0 : Nat) (P : Nat → AH → Prop) : Prop := 1 ≤ S.2.1 ∧ 4 ≤ S.2.2 ∧ ∀ q_8 : Nat, S.1 q_8 = none → G.1 ≤ q_8 → (nm (α := GZ) (hup S.1 q_8 (.inr (14, [.null, .int 0, .int 0, .int 0])), S.2.1 - 1, S.2.2 - 4) (fun S_9 => ∃ c_10 s_11 : Nat, c_10 ≤ S_9.2.1 ∧ s_11 ≤ S_9.2.2 ∧ F_gJ4_init G (S_9.1, c_10, s_11) q_8 x0 (fun h_13 => nm (α := GZ) (h_13, S_9.2.1 - c_10, S_9.2.2 - s_11) (fun S_14 => P q_8 S_14.1))))
set_option maxHeartbeats 4000000 in
theorem M_gJ3_toString (G : GT) (l : Launch) (hG : GOK G) (hTab : TabF G) (hm : FreeG G) (S : GZ) (x0 : Nat) (P : Nat → AH → Prop) (hF : F_gJ3_toString G S x0 P) : MT G l yJ3_toString cJ3_toString 1 (some (Jvm.ClassFile.FieldType.object "java/lang/String")) 7 386 S.2.1 S.2.2 [.ref x0] S.1 (fun v h' => ∃ r : Nat, v = some (.ref r) ∧ P r h') := by
  refine MT.mk (own := RJ3) (by decide) rfl hG (Nat.le_of_ble_eq_true rfl) ?_
  intro p e s m below meth c args Q hargs hQ C hname
  refine J.loca (L2 := [(0, .ref x0)]) rfl ?_
  unfold F_gJ3_toString at hF
  obtain ⟨hg1, hg2, hF⟩ := hF
  refine j_new C hm (ci := 14) (Cn := RJ4) (T := TJ4) (N := 4) rfl in_J4 tyJ4 tyJ4_ok q1455 q1092 q99 [.null, .int 0, .int 0, .int 0] (fun j hj => by rcases (show j = 0 ∨ j = 1 ∨ j = 2 ∨ j = 3 by omega) with rfl | rfl | rfl | rfl <;> rfl) (bc' := S.2.1 - 1) (bs' := S.2.2 - 4) (by omega) (by omega) dJ3_toString_0 (fun q_8 hq1 hq2 => ?_)
  replace hF := hF q_8 hq1 hq2
  obtain ⟨S_9, eS_9, hF⟩ := nm_intro hF
  refine g_J eS_9 ?_
  refine j_dup C dJ3_toString_3 rfl ?_
  refine j_aload_n C dJ3_toString_4 rfl 0 rfl ?_
  obtain ⟨c_10, s_11, hc1, hc2, hF⟩ := hF
  refine j_callI (n := 1) (As := [.ref x0]) (rest := [.ref q_8]) C (M_gJ4_init G l hG hTab hm (S_9.1, c_10, s_11) q_8 x0 _ hF) q1456 ⟨q1457, q99, q1458, rfl, by decide +kernel⟩ rfl rfl (Nat.le_of_ble_eq_true rfl) ⟨Nat.le_of_ble_eq_true rfl, Nat.le_of_ble_eq_true rfl⟩ hc1 hc2 dJ3_toString_5 (kk_v fun h_13 hF => ?_)
  obtain ⟨S_14, eS_14, hF⟩ := nm_intro hF
  refine g_J eS_14 ?_
  rw [hQ]
  exact j_aret C (Or.inl ⟨_, rfl⟩) (Or.inr ⟨_, rfl⟩) ⟨_, rfl, hF⟩ dJ3_toString_8
def F_gJ4_isLatin1 (G : GT) (S : GZ) (x0 : Nat) (P : Int32 → AH → Prop) : Prop := ∃ v_3 : Int32, StV G "java/lang/String" "COMPACT_STRINGS" "Z" (.int v_3) ∧ ((v_3 = 0 → P 0 S.1) ∧ (¬ v_3 = 0 → ∃ v_5 : Int32, aF G S.1 x0 14 1 (.int v_5) ∧ ((v_5 = 0 → P 1 S.1) ∧ (¬ v_5 = 0 → P 0 S.1))))
set_option maxHeartbeats 4000000 in
theorem M_gJ4_isLatin1 (G : GT) (l : Launch) (hG : GOK G) (hTab : TabF G) (hm : FreeG G) (S : GZ) (x0 : Nat) (P : Int32 → AH → Prop) (hF : F_gJ4_isLatin1 G S x0 P) : MT G l yJ4_isLatin1 cJ4_isLatin1 1 (some Jvm.ClassFile.FieldType.boolean) 0 0 S.2.1 S.2.2 [.ref x0] S.1 (fun v h' => ∃ r : Int32, v = some (.int r) ∧ P r h') := by
  refine MT.mk (own := RJ4) (by decide) rfl hG (Nat.le_of_ble_eq_true rfl) ?_
  intro p e s m below meth c args Q hargs hQ C hname
  refine J.loca (L2 := [(0, .ref x0)]) rfl ?_
  unfold F_gJ4_isLatin1 at hF
  obtain ⟨v_3, hgd, hF⟩ := hF
  refine jg_gets C hgd q832 rfl dJ4_isLatin1_0 ?_
  refine j_if_eq (tgt := 17) C dJ4_isLatin1_3 (by decide) (fun hc_4 => ?_) (fun hc_4 => ?_)
  · replace hF := hF.1 hc_4
    refine j_iconst (v := 0) C dJ4_isLatin1_17 rfl ?_
    rw [hQ]
    exact j_iret C rfl ⟨_, rfl, hF⟩ dJ4_isLatin1_18
  · replace hF := hF.2 hc_4
    refine j_aload_n C dJ4_isLatin1_6 rfl 0 rfl ?_
    obtain ⟨v_5, hgd, hF⟩ := hF
    refine jg_get C (T := TJ4) (N := 4) rfl in_J4 1 (by decide) q1504 rfl hgd dJ4_isLatin1_7 ?_
    refine j_if_ne (tgt := 17) C dJ4_isLatin1_10 (by decide) (fun hc_6 => ?_) (fun hc_6 => ?_)
    · replace hF := hF.2 hc_6
      refine j_iconst (v := 0) C dJ4_isLatin1_17 rfl ?_
      rw [hQ]
      exact j_iret C rfl ⟨_, rfl, hF⟩ dJ4_isLatin1_18
    · replace hF := hF.1 hc_6
      refine j_iconst (v := 1) C dJ4_isLatin1_13 rfl ?_
      refine j_goto (tgt := 18) C dJ4_isLatin1_14 (by decide) ?_
      rw [hQ]
      exact j_iret C rfl ⟨_, rfl, hF⟩ dJ4_isLatin1_18
def F_gJ5_charAt (G : GT) (S : GZ) (x0 : Nat) (x1 : Int32) (P : Int32 → AH → Prop) : Prop := ∃ c_11 s_12 : Nat, c_11 ≤ S.2.1 ∧ s_12 ≤ S.2.2 ∧ F_gJ5_checkIndex G (S.1, c_11, s_12) x1 x0 (fun h_14 => nm (α := GZ) (h_14, S.2.1 - c_11, S.2.2 - s_12) (fun S_15 => ∃ c_16 s_17 : Nat, c_16 ≤ S_15.2.1 ∧ s_17 ≤ S_15.2.2 ∧ F_gJ5_getChar G (S_15.1, c_16, s_17) x0 x1 (fun r_18 h_19 => nm (α := GZ) (h_19, S_15.2.1 - c_16, S_15.2.2 - s_17) (fun S_20 => (narrow .char (.int r_18) = .int r_18) ∧ P r_18 S_20.1))))
set_option maxHeartbeats 4000000 in
theorem M_gJ5_charAt (G : GT) (l : Launch) (hG : GOK G) (hTab : TabF G) (hm : FreeG G) (S : GZ) (x0 : Nat) (x1 : Int32) (P : Int32 → AH → Prop) (hF : F_gJ5_charAt G S x0 x1 P) : MT G l yJ5_charAt cJ5_charAt 2 (some Jvm.ClassFile.FieldType.char) 3 94 S.2.1 S.2.2 [.ref x0, .int x1] S.1 (fun v h' => ∃ r : Int32, v = some (.int r) ∧ P r h') := by
  refine MT.mk (own := RJ5) (by decide) rfl hG (Nat.le_of_ble_eq_true rfl) ?_
  intro p e s m below meth c args Q hargs hQ C hname
  refine J.loca (L2 := [(0, .ref x0), (1, .int x1)]) rfl ?_
  unfold F_gJ5_charAt at hF
  refine j_iload_n C dJ5_charAt_0 rfl 1 rfl ?_
  refine j_aload_n C dJ5_charAt_1 rfl 0 rfl ?_
  obtain ⟨c_11, s_12, hc1, hc2, hF⟩ := hF
  refine j_callS (n := 2) (As := [.int x1, .ref x0]) (rest := []) C (M_gJ5_checkIndex G l hG hTab hm (S.1, c_11, s_12) x1 x0 _ hF) q909 ⟨q910, q100, q911, by decide +kernel⟩ rfl rfl (Nat.le_of_ble_eq_true rfl) ⟨Nat.le_of_ble_eq_true rfl, Nat.le_of_ble_eq_true rfl⟩ hc1 hc2 dJ5_charAt_2 (kk_v fun h_14 hF => ?_)
  obtain ⟨S_15, eS_15, hF⟩ := nm_intro hF
  refine g_J eS_15 ?_
  refine j_aload_n C dJ5_charAt_5 rfl 0 rfl ?_
  refine j_iload_n C dJ5_charAt_6 rfl 1 rfl ?_
  obtain ⟨c_16, s_17, hc1, hc2, hF⟩ := hF
  refine j_callS (n := 2) (As := [.ref x0, .int x1]) (rest := []) C (M_gJ5_getChar G l hG hTab hm (S_15.1, c_16, s_17) x0 x1 _ hF) q1496 ⟨q1497, q100, q1498, by decide +kernel⟩ rfl rfl (Nat.le_of_ble_eq_true rfl) ⟨Nat.le_of_ble_eq_true rfl, Nat.le_of_ble_eq_true rfl⟩ hc1 hc2 dJ5_charAt_7 (kk_i fun r_18 h_19 hF => ?_)
  obtain ⟨S_20, eS_20, hF⟩ := nm_intro hF
  refine g_J eS_20 ?_
  rw [hQ]
  exact j_iret C hF.1 ⟨_, rfl, hF.2⟩ dJ5_charAt_10
def F_gJ4_charAt (G : GT) (S : GZ) (x0 : Nat) (x1 : Int32) (P : Int32 → AH → Prop) : Prop := aC G S.1 x0 14 ∧ ∃ c_18 s_19 : Nat, c_18 ≤ S.2.1 ∧ s_19 ≤ S.2.2 ∧ F_gJ4_isLatin1 G (S.1, c_18, s_19) x0 (fun r_20 h_21 => nm (α := GZ) (h_21, S.2.1 - c_18, S.2.2 - s_19) (fun S_22 => (r_20 = 0 → ∃ v_24 : Nat, aF G S_22.1 x0 14 0 (.ref v_24) ∧ (∃ c_25 s_26 : Nat, c_25 ≤ S_22.2.1 ∧ s_26 ≤ S_22.2.2 ∧ F_gJ5_charAt G (S_22.1, c_25, s_26) v_24 x1 (fun r_27 h_28 => nm (α := GZ) (h_28, S_22.2.1 - c_25, S_22.2.2 - s_26) (fun S_29 => (narrow .char (.int r_27) = .int r_27) ∧ P r_27 S_29.1)))) ∧ (¬ r_20 = 0 → ∃ v_30 : Nat, aF G S_22.1 x0 14 0 (.ref v_30) ∧ (∃ c_31 s_32 : Nat, c_31 ≤ S_22.2.1 ∧ s_32 ≤ S_22.2.2 ∧ F_gJ24_charAt G (S_22.1, c_31, s_32) v_30 x1 (fun r_33 h_34 => nm (α := GZ) (h_34, S_22.2.1 - c_31, S_22.2.2 - s_32) (fun S_35 => (narrow .char (.int r_33) = .int r_33) ∧ P r_33 S_35.1))))))
set_option maxHeartbeats 4000000 in
theorem M_gJ4_charAt (G : GT) (l : Launch) (hG : GOK G) (hTab : TabF G) (hm : FreeG G) (S : GZ) (x0 : Nat) (x1 : Int32) (P : Int32 → AH → Prop) (hF : F_gJ4_charAt G S x0 x1 P) : MT G l yJ4_charAt cJ4_charAt 2 (some Jvm.ClassFile.FieldType.char) 4 125 S.2.1 S.2.2 [.ref x0, .int x1] S.1 (fun v h' => ∃ r : Int32, v = some (.int r) ∧ P r h') := by
  refine MT.mk (own := RJ4) (by decide) rfl hG (Nat.le_of_ble_eq_true rfl) ?_
  intro p e s m below meth c args Q hargs hQ C hname
  refine J.loca (L2 := [(0, .ref x0), (1, .int x1)]) rfl ?_
  unfold F_gJ4_charAt at hF
  refine j_aload_n C dJ4_charAt_0 rfl 0 rfl ?_
  obtain ⟨hrc, hF⟩ := hF
  obtain ⟨c_18, s_19, hc1, hc2, hF⟩ := hF
  refine jg_callV (n := 0) (As := []) (rest := []) C (M_gJ4_isLatin1 G l hG hTab hm (S.1, c_18, s_19) x0 _ hF) q1596 ⟨q1597, q1598, q99, q1599, by decide +kernel⟩ rfl hrc rfl rfl (Nat.le_of_ble_eq_true rfl) ⟨Nat.le_of_ble_eq_true rfl, Nat.le_of_ble_eq_true rfl⟩ hc1 hc2 dJ4_charAt_1 (kk_i fun r_20 h_21 hF => ?_)
  obtain ⟨S_22, eS_22, hF⟩ := nm_intro hF
  refine g_J eS_22 ?_
  refine j_if_eq (tgt := 16) C dJ4_charAt_4 (by decide) (fun hc_23 => ?_) (fun hc_23 => ?_)
  · replace hF := hF.1 hc_23
    refine j_aload_n C dJ4_charAt_16 rfl 0 rfl ?_
    obtain ⟨v_24, hgd, hF⟩ := hF
    refine jg_get C (T := TJ4) (N := 4) rfl in_J4 0 (by decide) q1503 rfl hgd dJ4_charAt_17 ?_
    refine j_iload_n C dJ4_charAt_20 rfl 1 rfl ?_
    obtain ⟨c_25, s_26, hc1, hc2, hF⟩ := hF
    refine j_callS (n := 2) (As := [.ref v_24, .int x1]) (rest := []) C (M_gJ5_charAt G l hG hTab hm (S_22.1, c_25, s_26) v_24 x1 _ hF) q1604 ⟨q1605, q100, q1606, by decide +kernel⟩ rfl rfl (Nat.le_of_ble_eq_true rfl) ⟨Nat.le_of_ble_eq_true rfl, Nat.le_of_ble_eq_true rfl⟩ hc1 hc2 dJ4_charAt_21 (kk_i fun r_27 h_28 hF => ?_)
    obtain ⟨S_29, eS_29, hF⟩ := nm_intro hF
    refine g_J eS_29 ?_
    rw [hQ]
    exact j_iret C hF.1 ⟨_, rfl, hF.2⟩ dJ4_charAt_24
  · replace hF := hF.2 hc_23
    refine j_aload_n C dJ4_charAt_7 rfl 0 rfl ?_
    obtain ⟨v_30, hgd, hF⟩ := hF
    refine jg_get C (T := TJ4) (N := 4) rfl in_J4 0 (by decide) q1503 rfl hgd dJ4_charAt_8 ?_
    refine j_iload_n C dJ4_charAt_11 rfl 1 rfl ?_
    obtain ⟨c_31, s_32, hc1, hc2, hF⟩ := hF
    refine j_callS (n := 2) (As := [.ref v_30, .int x1]) (rest := []) C (M_gJ24_charAt G l hG hTab hm (S_22.1, c_31, s_32) v_30 x1 _ hF) q1600 ⟨q1601, q131, q1602, by decide +kernel⟩ rfl rfl (Nat.le_of_ble_eq_true rfl) ⟨Nat.le_of_ble_eq_true rfl, Nat.le_of_ble_eq_true rfl⟩ hc1 hc2 dJ4_charAt_12 (kk_i fun r_33 h_34 hF => ?_)
    obtain ⟨S_35, eS_35, hF⟩ := nm_intro hF
    refine g_J eS_35 ?_
    rw [hQ]
    exact j_iret C hF.1 ⟨_, rfl, hF.2⟩ dJ4_charAt_15
def F_gJ4_valueOf (G : GT) (S : GZ) (x0 : Int32) (P : Nat → AH → Prop) : Prop := ∃ c_6 s_7 : Nat, c_6 ≤ S.2.1 ∧ s_7 ≤ S.2.2 ∧ F_gJ20_toString G (S.1, c_6, s_7) x0 (fun r_8 h_9 => nm (α := GZ) (h_9, S.2.1 - c_6, S.2.2 - s_7) (fun S_10 => P r_8 S_10.1))
set_option maxHeartbeats 4000000 in
theorem M_gJ4_valueOf (G : GT) (l : Launch) (hG : GOK G) (hTab : TabF G) (hm : FreeG G) (S : GZ) (x0 : Int32) (P : Nat → AH → Prop) (hF : F_gJ4_valueOf G S x0 P) : MT G l yJ4_valueOf cJ4_valueOf 1 (some (Jvm.ClassFile.FieldType.object "java/lang/String")) 4 130 S.2.1 S.2.2 [.int x0] S.1 (fun v h' => ∃ r : Nat, v = some (.ref r) ∧ P r h') := by
  refine MT.mk (own := RJ4) (by decide) rfl hG (Nat.le_of_ble_eq_true rfl) ?_
  intro p e s m below meth c args Q hargs hQ C hname
  refine J.loca (L2 := [(0, .int x0)]) rfl ?_
  unfold F_gJ4_valueOf at hF
  refine j_iload_n C dJ4_valueOf_0 rfl 0 rfl ?_
  obtain ⟨c_6, s_7, hc1, hc2, hF⟩ := hF
  refine j_callS (n := 1) (As := [.int x0]) (rest := []) C (M_gJ20_toString G l hG hTab hm (S.1, c_6, s_7) x0 _ hF) q1713 ⟨q1714, q125, q1715, by decide +kernel⟩ rfl rfl (Nat.le_of_ble_eq_true rfl) ⟨Nat.le_of_ble_eq_true rfl, Nat.le_of_ble_eq_true rfl⟩ hc1 hc2 dJ4_valueOf_1 (kk_r fun r_8 h_9 hF => ?_)
  obtain ⟨S_10, eS_10, hF⟩ := nm_intro hF
  refine g_J eS_10 ?_
  rw [hQ]
  exact j_aret C (Or.inl ⟨_, rfl⟩) (Or.inr ⟨_, rfl⟩) ⟨_, rfl, hF⟩ dJ4_valueOf_4
