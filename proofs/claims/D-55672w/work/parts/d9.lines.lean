/-! chain, lines (printed by gen/gox.py) -/
set_option maxRecDepth 100000
def L_gX2_chain_22 (G : GT) (P : Option Nat → AH → Prop) (f1 : Nat) (f2 : Nat) : Nat → GZ → Int32 → Prop
  | 0, _, _ => False
  | n + 1, S, z3 => (z3 = (-1) → P (some f1) S.1) ∧ (¬ z3 = (-1) → ∃ c_63 s_64 : Nat, c_63 ≤ S.2.1 ∧ s_64 ≤ S.2.2 ∧ F_gJ20_valueOf G (S.1, c_63, s_64) z3 (fun r_65 h_66 => nm (α := GZ) (h_66, S.2.1 - c_63, S.2.2 - s_64) (fun S_67 => aC G S_67.1 f1 12 ∧ ∃ c_68 s_69 : Nat, c_68 ≤ S_67.2.1 ∧ s_69 ≤ S_67.2.2 ∧ F_gJ18_add G (S_67.1, c_68, s_69) f1 r_65 (fun r_70 h_71 => nm (α := GZ) (h_71, S_67.2.1 - c_68, S_67.2.2 - s_69) (fun S_72 => ∃ (ad_73 : Nat → Nat) (T_74 : TS), Tg ad_73 ∧ ad_73 0 = f2 ∧ TH G.2.2.1 S_72.1 ad_73 T_74 = S_72.1 ∧ 0 ≤ S_72.2.1 ∧ 0 ≤ S_72.2.2 ∧ F_tlikes T_74 z3 (fun r_75 T_76 => nm (α := GZ) (TH G.2.2.1 S_72.1 ad_73 T_76, S_72.2.1 - 0, S_72.2.2 - 0) (fun S_77 => ∃ (ad_78 : Nat → Nat) (T_79 : TS), Tg ad_78 ∧ ad_78 0 = f2 ∧ TH G.2.2.1 S_77.1 ad_78 T_79 = S_77.1 ∧ 0 ≤ S_77.2.1 ∧ 0 ≤ S_77.2.2 ∧ F_tapprenticeAt T_79 (if 0 < r_75 then r_75 else 0) (fun r_80 T_81 => nm (α := GZ) (TH G.2.2.1 S_77.1 ad_78 T_81, S_77.2.1 - 0, S_77.2.2 - 0) (fun S_82 => ∃ (ad_83 : Nat → Nat) (T_84 : TS), Tg ad_83 ∧ ad_83 0 = f2 ∧ TH G.2.2.1 S_82.1 ad_83 T_84 = S_82.1 ∧ 0 ≤ S_82.2.1 ∧ 0 ≤ S_82.2.2 ∧ F_tbidsFor T_84 z3 (fun r_85 T_86 => nm (α := GZ) (TH G.2.2.1 S_82.1 ad_83 T_86, S_82.2.1 - 0, S_82.2.2 - 0) (fun S_87 => (r_85 = 0 → P none S_87.1) ∧ (¬ r_85 = 0 → L_gX2_chain_22 G P f1 f2 n S_87 r_80))))))))))))
def F_gX2_chain (G : GT) (S : GZ) (x0 : Nat) (P : Option Nat → AH → Prop) : Prop := 1 ≤ S.2.1 ∧ 3 ≤ S.2.2 ∧ ∀ q_44 : Nat, S.1 q_44 = none → G.1 ≤ q_44 → (nm (α := GZ) (hup S.1 q_44 (.inr (12, [.int 0, .null, .int 0])), S.2.1 - 1, S.2.2 - 3) (fun S_45 => ∃ c_46 s_47 : Nat, c_46 ≤ S_45.2.1 ∧ s_47 ≤ S_45.2.2 ∧ F_gJ18_init G (S_45.1, c_46, s_47) q_44 (fun h_49 => nm (α := GZ) (h_49, S_45.2.1 - c_46, S_45.2.2 - s_47) (fun S_50 => 1 ≤ S_50.2.1 ∧ 10 ≤ S_50.2.2 ∧ ∀ q_51 : Nat, S_50.1 q_51 = none → G.1 ≤ q_51 → (nm (α := GZ) (hup S_50.1 q_51 (.inr (1, [.null, .null, .null, .null, .null, .int 0, .int 0, .int 0, .int 0, .int 0])), S_50.2.1 - 1, S_50.2.2 - 10) (fun S_52 => ∃ (ad_53 : Nat → Nat) (T_54 : TS), S_52.1 q_51 = some (.inr (1, tfz)) ∧ ad_53 0 = x0 ∧ (∀ k, k < 18 → S_52.1 (ad_53 k) = some (tcell G.2.2.1 ad_53 T_54 k)) ∧ (∀ j, j < 18 → ad_53 j ≠ q_51) ∧ 17 ≤ S_52.2.1 ∧ 102 ≤ S_52.2.2 ∧ ∀ ad_55 : Nat → Nat, ad_55 0 = q_51 → Tg ad_55 → (∀ k, k < 18 → k ≠ 0 → S_52.1 (ad_55 k) = none ∧ G.1 ≤ ad_55 k) → (nm (α := GZ) (TH G.2.2.1 S_52.1 ad_55 T_54, S_52.2.1 - 17, S_52.2.2 - 102) (fun S_56 => ∃ (ad_57 : Nat → Nat) (T_58 : TS), Tg ad_57 ∧ ad_57 0 = q_51 ∧ TH G.2.2.1 S_56.1 ad_57 T_58 = S_56.1 ∧ 0 ≤ S_56.2.1 ∧ 0 ≤ S_56.2.2 ∧ F_tlowestFree T_58 (fun r_59 T_60 => nm (α := GZ) (TH G.2.2.1 S_56.1 ad_57 T_60, S_56.2.1 - 0, S_56.2.2 - 0) (fun S_61 => L_gX2_chain_22 G P q_44 q_51 NF S_61 r_59))))))))))
set_option maxHeartbeats 4000000 in
theorem WL_gX2_chain_22 {G : GT} {p : Program} {l : Launch} {e : Env} {s : State} {m : MethodId} {args : Array Value} {below : List Frame} {meth : Method} {c : Code} {Q : State → Prop} {c0 s0 : Nat} (C : Cx G p s m args meth c cX2_chain RX2 5 (some (Jvm.ClassFile.FieldType.object "java/util/List"))) (hG : GOK G) (hTab : TabF G) (hLm : LamG G) (hm : FreeG G) (hname : meth.name = yX2_chain.name) {P : Option Nat → AH → Prop} (hQ : Q = MQ below (SQ G (fun v h' => ∃ r : Option Nat, v = some (va_rf r) ∧ P r h')) args s (({ frames := 7, cells := c0, slots := s0, locals := 411 } : Room) : Room).cells (({ frames := 7, cells := c0, slots := s0, locals := 411 } : Room) : Room).slots (fun q => G.1 ≤ q)) {f1 : Nat} {f2 : Nat} :
    ∀ (n : Nat) (S : GZ) (z3 : Int32), L_gX2_chain_22 G P f1 f2 n S z3 → J G p l e ({ frames := 7, cells := c0, slots := s0, locals := 411 } : Room) s m args below meth c 5 Q S.2.1 S.2.2 S.1 22 [(1, .ref f1), (2, .ref f2), (3, .int z3)] [] := by
  intro n
  induction n with
  | zero => intro S z3 hF; exact hF.elim
  | succ n ih =>
    intro S z3 hF
    unfold L_gX2_chain_22 at hF
    refine j_iload_n C dX2_chain_22 rfl 2 rfl ?_
    refine j_iconst (v := (-1)) C dX2_chain_23 rfl ?_
    refine j_icmp_eq (tgt := 69) C dX2_chain_24 (by decide) (fun hc_62 => ?_) (fun hc_62 => ?_)
    · replace hF := hF.1 hc_62
      refine j_aload_n C dX2_chain_69 rfl 0 rfl ?_
      rw [hQ]
      exact j_aret C (Or.inl ⟨_, rfl⟩) (g_rfv (some f1)) ⟨_, rfl, hF⟩ dX2_chain_70
    · replace hF := hF.2 hc_62
      refine j_aload_n C dX2_chain_27 rfl 0 rfl ?_
      refine j_iload_n C dX2_chain_28 rfl 2 rfl ?_
      obtain ⟨c_63, s_64, hc1, hc2, hF⟩ := hF
      refine j_callS (n := 1) (As := [.int z3]) (rest := [.ref f1]) C (M_gJ20_valueOf G l hG hTab hm (S.1, c_63, s_64) z3 _ hF) q1298 ⟨q1299, q125, q1300, by decide +kernel⟩ rfl rfl (Nat.le_of_ble_eq_true rfl) ⟨Nat.le_of_ble_eq_true rfl, Nat.le_of_ble_eq_true rfl⟩ hc1 hc2 dX2_chain_29 (kk_r fun r_65 h_66 hF => ?_)
      obtain ⟨S_67, eS_67, hF⟩ := nm_intro hF
      refine g_J eS_67 ?_
      obtain ⟨hrc, hF⟩ := hF
      obtain ⟨c_68, s_69, hc1, hc2, hF⟩ := hF
      refine jg_callF (n := 1) (As := [.ref r_65]) (rest := []) C (M_gJ18_add G l hG hTab hm (S_67.1, c_68, s_69) f1 r_65 _ hF) (va_any rfl (C.2.2.2.2.1 _ q1319)) ⟨C.tab hTab q1321 rfl, C.tab hTab q1320 rfl, C.tab hTab q1326 rfl, C.tab hTab q1324 rfl, C.tab hTab q1322 rfl⟩ ⟨q1325, q1323, q123, q1327, by decide +kernel⟩ rfl hrc rfl rfl (Nat.le_of_ble_eq_true rfl) ⟨Nat.le_of_ble_eq_true rfl, Nat.le_of_ble_eq_true rfl⟩ hc1 hc2 dX2_chain_32 (kk_i fun r_70 h_71 hF => ?_)
      obtain ⟨S_72, eS_72, hF⟩ := nm_intro hF
      refine g_J eS_72 ?_
      refine j_pop C dX2_chain_37 rfl ?_
      refine j_aload_n C dX2_chain_38 rfl 1 rfl ?_
      refine j_iconst (v := 0) C dX2_chain_39 rfl ?_
      refine j_aload_n C dX2_chain_40 rfl 1 rfl ?_
      refine j_iload_n C dX2_chain_41 rfl 2 rfl ?_
      obtain ⟨ad_73, T_74, hgT, hoT, hTH, hc1, hc2, hF⟩ := hF
      refine jg_callTi (n := 1) (As := [.int z3]) (rest := [.int 0, .ref f2]) C (M_tlikes G l hG S_72.1 ad_73 hgT T_74 z3 _ hF) hgT hoT hTH q433 ⟨q434, q435, q94, q436, by decide +kernel⟩ rfl rfl (Nat.le_of_ble_eq_true rfl) ⟨Nat.le_of_ble_eq_true rfl, Nat.le_of_ble_eq_true rfl⟩ hc1 hc2 dX2_chain_42 (fun r_75 T_76 hF => ?_)
      obtain ⟨S_77, eS_77, hF⟩ := nm_intro hF
      refine g_J eS_77 ?_
      refine j_mmax C (Nat.le_of_ble_eq_true rfl) (Nat.le_of_ble_eq_true rfl) q502 (Nat.le_of_ble_eq_true rfl) q503 q107 q504 dX2_chain_45 ?_
      obtain ⟨ad_78, T_79, hgT, hoT, hTH, hc1, hc2, hF⟩ := hF
      refine jg_callTi (n := 1) (As := [.int (if 0 < r_75 then r_75 else 0)]) (rest := []) C (M_tapprenticeAt G l hG S_77.1 ad_78 hgT T_79 (if 0 < r_75 then r_75 else 0) _ hF) hgT hoT hTH q457 ⟨q458, q459, q94, q460, by decide +kernel⟩ rfl rfl (Nat.le_of_ble_eq_true rfl) ⟨Nat.le_of_ble_eq_true rfl, Nat.le_of_ble_eq_true rfl⟩ hc1 hc2 dX2_chain_48 (fun r_80 T_81 hF => ?_)
      obtain ⟨S_82, eS_82, hF⟩ := nm_intro hF
      refine g_J eS_82 ?_
      refine j_istore (L2 := [(4, .int r_80), (1, .ref f1), (2, .ref f2), (3, .int z3)]) C dX2_chain_51 (by decide) rfl ?_
      refine j_aload_n C dX2_chain_53 rfl 2 rfl ?_
      refine j_iload_n C dX2_chain_54 rfl 3 rfl ?_
      obtain ⟨ad_83, T_84, hgT, hoT, hTH, hc1, hc2, hF⟩ := hF
      refine jg_callTi (n := 1) (As := [.int z3]) (rest := []) C (M_tbidsFor G l hG S_82.1 ad_83 hgT hm T_84 z3 _ hF) hgT hoT hTH q1344 ⟨q1346, qs27, q94, q1347, by decide +kernel⟩ rfl rfl (Nat.le_of_ble_eq_true rfl) ⟨Nat.le_of_ble_eq_true rfl, Nat.le_of_ble_eq_true rfl⟩ hc1 hc2 dX2_chain_55 (fun r_85 T_86 hF => ?_)
      obtain ⟨S_87, eS_87, hF⟩ := nm_intro hF
      refine g_J eS_87 ?_
      refine j_if_ne (tgt := 63) C dX2_chain_58 (by decide) (fun hc_88 => ?_) (fun hc_88 => ?_)
      · replace hF := hF.2 hc_88
        refine j_iload C dX2_chain_63 0 rfl ?_
        refine j_istore_n (L2 := [(3, .int r_80), (4, .int r_80), (1, .ref f1), (2, .ref f2)]) C dX2_chain_65 rfl (by decide) rfl ?_
        refine j_goto (tgt := 22) C dX2_chain_66 (by decide) ?_
        exact J.locals [2, 3, 0] (ih _ _ hF) rfl
      · replace hF := hF.1 hc_88
        refine j_null C dX2_chain_61 ?_
        rw [hQ]
        exact j_aret C (Or.inl ⟨_, rfl⟩) (g_rfv none) ⟨_, rfl, hF⟩ dX2_chain_62
set_option maxHeartbeats 4000000 in
theorem M_gX2_chain (G : GT) (l : Launch) (hG : GOK G) (hTab : TabF G) (hLm : LamG G) (hm : FreeG G) (S : GZ) (x0 : Nat) (P : Option Nat → AH → Prop) (hF : F_gX2_chain G S x0 P) : MT G l yX2_chain cX2_chain 5 (some (Jvm.ClassFile.FieldType.object "java/util/List")) 7 411 S.2.1 S.2.2 [.ref x0] S.1 (fun v h' => ∃ r : Option Nat, v = some (va_rf r) ∧ P r h') := by
  refine MT.mk (own := RX2) (by decide) rfl hG (Nat.le_of_ble_eq_true rfl) ?_
  intro p e s m below meth c args Q hargs hQ C hname
  refine J.loca (L2 := [(0, .ref x0)]) rfl ?_
  unfold F_gX2_chain at hF
  obtain ⟨hg1, hg2, hF⟩ := hF
  refine j_new C hm (ci := 12) (Cn := RJ18) (T := TJ18) (N := 3) rfl in_J18 tyJ18 tyJ18_ok q1275 q1276 q123 [.int 0, .null, .int 0] (fun j hj => by rcases (show j = 0 ∨ j = 1 ∨ j = 2 by omega) with rfl | rfl | rfl <;> rfl) (bc' := S.2.1 - 1) (bs' := S.2.2 - 3) (by omega) (by omega) dX2_chain_0 (fun q_44 hq1 hq2 => ?_)
  replace hF := hF q_44 hq1 hq2
  obtain ⟨S_45, eS_45, hF⟩ := nm_intro hF
  refine g_J eS_45 ?_
  refine j_dup C dX2_chain_3 rfl ?_
  obtain ⟨c_46, s_47, hc1, hc2, hF⟩ := hF
  refine j_callI (n := 0) (As := []) (rest := [.ref q_44]) C (M_gJ18_init G l hG hTab hm (S_45.1, c_46, s_47) q_44 _ hF) q1277 ⟨q1278, q123, q1279, rfl, by decide +kernel⟩ rfl rfl (Nat.le_of_ble_eq_true rfl) ⟨Nat.le_of_ble_eq_true rfl, Nat.le_of_ble_eq_true rfl⟩ hc1 hc2 dX2_chain_4 (kk_v fun h_49 hF => ?_)
  obtain ⟨S_50, eS_50, hF⟩ := nm_intro hF
  refine g_J eS_50 ?_
  refine j_astore_n (L2 := [(1, .ref q_44), (0, .ref x0)]) C dX2_chain_7 rfl (by decide) rfl ?_
  obtain ⟨hg1, hg2, hF⟩ := hF
  refine j_new C hm (ci := 1) (Cn := RX2) (T := TX2) (N := 10) rfl in_X2 tyX2 tyX2_ok q952 q145 q94 [.null, .null, .null, .null, .null, .int 0, .int 0, .int 0, .int 0, .int 0] (fun j hj => by rcases (show j = 0 ∨ j = 1 ∨ j = 2 ∨ j = 3 ∨ j = 4 ∨ j = 5 ∨ j = 6 ∨ j = 7 ∨ j = 8 ∨ j = 9 by omega) with rfl | rfl | rfl | rfl | rfl | rfl | rfl | rfl | rfl | rfl <;> rfl) (bc' := S_50.2.1 - 1) (bs' := S_50.2.2 - 10) (by omega) (by omega) dX2_chain_8 (fun q_51 hq1 hq2 => ?_)
  replace hF := hF q_51 hq1 hq2
  obtain ⟨S_52, eS_52, hF⟩ := nm_intro hF
  refine g_J eS_52 ?_
  refine j_dup C dX2_chain_11 rfl ?_
  refine j_aload_n C dX2_chain_12 rfl 1 rfl ?_
  obtain ⟨ad_53, T_54, hg1, hg2, hg3, hg4, hg5, hg6, hF⟩ := hF
  refine jg_tcopy (rest := [.ref q_51]) C hG hTab hm hg1 hg2 hg3 hg4 q953 (by first | rfl | simp [Value.category] | decide) ⟨Nat.le_of_ble_eq_true rfl, Nat.le_of_ble_eq_true rfl⟩ hg5 hg6 dX2_chain_13 (fun ad_55 hq1 hq2 hq3 => ?_)
  replace hF := hF ad_55 hq1 hq2 hq3
  obtain ⟨S_56, eS_56, hF⟩ := nm_intro hF
  refine g_J eS_56 ?_
  refine j_astore_n (L2 := [(2, .ref q_51), (1, .ref q_44), (0, .ref x0)]) C dX2_chain_16 rfl (by decide) rfl ?_
  refine j_aload_n C dX2_chain_17 rfl 0 rfl ?_
  obtain ⟨ad_57, T_58, hgT, hoT, hTH, hc1, hc2, hF⟩ := hF
  refine jg_callTi (n := 0) (As := []) (rest := []) C (M_tlowestFree G l hG S_56.1 ad_57 hgT T_58 _ hF) hgT hoT hTH q429 ⟨q430, q431, q94, q432, by decide +kernel⟩ rfl rfl (Nat.le_of_ble_eq_true rfl) ⟨Nat.le_of_ble_eq_true rfl, Nat.le_of_ble_eq_true rfl⟩ hc1 hc2 dX2_chain_18 (fun r_59 T_60 hF => ?_)
  obtain ⟨S_61, eS_61, hF⟩ := nm_intro hF
  refine g_J eS_61 ?_
  refine j_istore_n (L2 := [(3, .int r_59), (2, .ref q_51), (1, .ref q_44), (0, .ref x0)]) C dX2_chain_21 rfl (by decide) rfl ?_
  refine J.locals [2, 1, 0] (WL_gX2_chain_22 C hG hTab hLm hm hname hQ NF _ _ hF) rfl
def L_gX2_line_21 (G : GT) (P : Nat → AH → Prop) (f0 : Nat) (f1 : Int32) (f2 : Nat) : Nat → GZ → Int32 → Prop
  | 0, _, _ => False
  | n + 1, S, z3 => ∃ v_77 : Int32, aF G S.1 f0 1 6 (.int v_77) ∧ ((v_77 ≤ z3 → P f2 S.1) ∧ (¬ v_77 ≤ z3 → jn (α := GZ → Nat → Prop) (fun S_80 t_81 => aC G S_80.1 f2 13 ∧ ∃ c_82 s_83 : Nat, c_82 ≤ S_80.2.1 ∧ s_83 ≤ S_80.2.2 ∧ F_gJ3_append G (S_80.1, c_82, s_83) f2 t_81 (fun r_84 h_85 => nm (α := GZ) (h_85, S_80.2.1 - c_82, S_80.2.2 - s_83) (fun S_86 => ∃ (ad_87 : Nat → Nat) (T_88 : TS), Tg ad_87 ∧ ad_87 0 = f0 ∧ TH G.2.2.1 S_86.1 ad_87 T_88 = S_86.1 ∧ 0 ≤ S_86.2.1 ∧ 0 ≤ S_86.2.2 ∧ F_tcanBe T_88 f1 z3 (fun r_89 T_90 => nm (α := GZ) (TH G.2.2.1 S_86.1 ad_87 T_90, S_86.2.1 - 0, S_86.2.2 - 0) (fun S_91 => jn (α := GZ → Nat → Prop) (fun S_93 t_94 => aC G S_93.1 f2 13 ∧ ∃ c_95 s_96 : Nat, c_95 ≤ S_93.2.1 ∧ s_96 ≤ S_93.2.2 ∧ F_gJ3_append G (S_93.1, c_95, s_96) f2 t_94 (fun r_97 h_98 => nm (α := GZ) (h_98, S_93.2.1 - c_95, S_93.2.2 - s_96) (fun S_99 => ∃ v_100 : Nat, aF G S_99.1 f0 1 4 (.ref v_100) ∧ (∃ (n_101 : Nat) (f_102 : Nat → Int32) (v_103 : Int32), S_99.1 v_100 = some (.inl (G.2.2.1 0, n_101, .inl f_102)) ∧ vp_in f1 n_101 ∧ f_102 (Int32.toNatClampNeg f1) = v_103 ∧ (jn (α := GZ → Nat → Prop) (fun S_105 t_106 => aC G S_105.1 f2 13 ∧ ∃ c_107 s_108 : Nat, c_107 ≤ S_105.2.1 ∧ s_108 ≤ S_105.2.2 ∧ F_gJ3_append G (S_105.1, c_107, s_108) f2 t_106 (fun r_109 h_110 => nm (α := GZ) (h_110, S_105.2.1 - c_107, S_105.2.2 - s_108) (fun S_111 => L_gX2_line_21 G P f0 f1 f2 n S_111 (z3 + 1)))) (fun K_104 => (v_103 = z3 → ∃ q_114 : Nat, LitR G RX2 196 "*" q_114 ∧ (K_104 S_99 q_114)) ∧ (¬ v_103 = z3 → ∃ q_113 : Nat, LitR G RX2 182 "" q_113 ∧ (K_104 S_99 q_113)))))))) (fun K_92 => (r_89 = 0 → ∃ q_116 : Nat, LitR G RX2 194 "-" q_116 ∧ (K_92 S_91 q_116)) ∧ (¬ r_89 = 0 → ∃ v_117 : Nat, aF G S_91.1 f0 1 0 (.ref v_117) ∧ (∃ (n_118 : Nat) (f_119 : Nat → Option Nat) (v_120 : Nat), S_91.1 v_117 = some (.inl (G.2.2.1 6, n_118, .inr (.inr (.inr (.inr f_119))))) ∧ vp_in f1 n_118 ∧ f_119 (Int32.toNatClampNeg f1) = some v_120 ∧ (∃ (n_121 : Nat) (f_122 : Nat → Int32) (v_123 : Int32), S_91.1 v_120 = some (.inl (G.2.2.1 0, n_121, .inl f_122)) ∧ vp_in z3 n_121 ∧ f_122 (Int32.toNatClampNeg z3) = v_123 ∧ (∃ c_124 s_125 : Nat, c_124 ≤ S_91.2.1 ∧ s_125 ≤ S_91.2.2 ∧ F_gJ4_valueOf G (S_91.1, c_124, s_125) v_123 (fun r_126 h_127 => nm (α := GZ) (h_127, S_91.2.1 - c_124, S_91.2.2 - s_125) (fun S_128 => K_92 S_128 r_126)))))))))))) (fun K_79 => (z3 = 0 → ∃ q_131 : Nat, LitR G RX2 182 "" q_131 ∧ (K_79 S q_131)) ∧ (¬ z3 = 0 → ∃ q_130 : Nat, LitR G RX2 184 " " q_130 ∧ (K_79 S q_130)))))
def F_gX2_line (G : GT) (S : GZ) (x0 : Nat) (x1 : Int32) (P : Nat → AH → Prop) : Prop := 1 ≤ S.2.1 ∧ 4 ≤ S.2.2 ∧ ∀ q_60 : Nat, S.1 q_60 = none → G.1 ≤ q_60 → (nm (α := GZ) (hup S.1 q_60 (.inr (13, [.null, .int 0, .int 0, .int 0])), S.2.1 - 1, S.2.2 - 4) (fun S_61 => ∃ c_62 s_63 : Nat, c_62 ≤ S_61.2.1 ∧ s_63 ≤ S_61.2.2 ∧ F_gJ3_init G (S_61.1, c_62, s_63) q_60 (fun h_65 => nm (α := GZ) (h_65, S_61.2.1 - c_62, S_61.2.2 - s_63) (fun S_66 => aC G S_66.1 q_60 13 ∧ ∃ c_67 s_68 : Nat, c_67 ≤ S_66.2.1 ∧ s_68 ≤ S_66.2.2 ∧ F_gJ3_append_2 G (S_66.1, c_67, s_68) q_60 x1 (fun r_69 h_70 => nm (α := GZ) (h_70, S_66.2.1 - c_67, S_66.2.2 - s_68) (fun S_71 => aC G S_71.1 r_69 13 ∧ ∃ c_72 s_73 : Nat, c_72 ≤ S_71.2.1 ∧ s_73 ≤ S_71.2.2 ∧ F_gJ3_append_3 G (S_71.1, c_72, s_73) r_69 58 (fun r_74 h_75 => nm (α := GZ) (h_75, S_71.2.1 - c_72, S_71.2.2 - s_73) (fun S_76 => L_gX2_line_21 G P x0 x1 q_60 NF S_76 0))))))))
set_option maxHeartbeats 4000000 in
theorem WL_gX2_line_21 {G : GT} {p : Program} {l : Launch} {e : Env} {s : State} {m : MethodId} {args : Array Value} {below : List Frame} {meth : Method} {c : Code} {Q : State → Prop} {c0 s0 : Nat} (C : Cx G p s m args meth c cX2_line RX2 4 (some (Jvm.ClassFile.FieldType.object "java/lang/CharSequence"))) (hG : GOK G) (hTab : TabF G) (hLm : LamG G) (hm : FreeG G) (hname : meth.name = yX2_line.name) {P : Nat → AH → Prop} (hQ : Q = MQ below (SQ G (fun v h' => ∃ r : Nat, v = some (.ref r) ∧ P r h')) args s (({ frames := 10, cells := c0, slots := s0, locals := 348 } : Room) : Room).cells (({ frames := 10, cells := c0, slots := s0, locals := 348 } : Room) : Room).slots (fun q => G.1 ≤ q)) {f0 : Nat} {f1 : Int32} {f2 : Nat} :
    ∀ (n : Nat) (S : GZ) (z3 : Int32), L_gX2_line_21 G P f0 f1 f2 n S z3 → J G p l e ({ frames := 10, cells := c0, slots := s0, locals := 348 } : Room) s m args below meth c 4 Q S.2.1 S.2.2 S.1 21 [(0, .ref f0), (1, .int f1), (2, .ref f2), (3, .int z3)] [] := by
  intro n
  induction n with
  | zero => intro S z3 hF; exact hF.elim
  | succ n ih =>
    intro S z3 hF
    unfold L_gX2_line_21 at hF
    refine j_iload_n C dX2_line_21 rfl 3 rfl ?_
    refine j_aload_n C dX2_line_22 rfl 0 rfl ?_
    obtain ⟨v_77, hgd, hF⟩ := hF
    refine jg_get C (T := TX2) (N := 10) rfl in_X2 6 (by decide) q170 rfl hgd dX2_line_23 ?_
    refine j_icmp_ge (tgt := 103) C dX2_line_26 (by decide) (fun hc_78 => ?_) (fun hc_78 => ?_)
    · replace hF := hF.1 hc_78
      refine j_aload_n C dX2_line_103 rfl 2 rfl ?_
      rw [hQ]
      exact j_aret C (Or.inl ⟨_, rfl⟩) (Or.inr ⟨_, rfl⟩) ⟨_, rfl, hF⟩ dX2_line_104
    · replace hF := hF.2 hc_78
      refine j_aload_n C dX2_line_29 rfl 2 rfl ?_
      refine j_iload_n C dX2_line_30 rfl 3 rfl ?_
      obtain ⟨K_79, hK_79, hF⟩ := jn_intro (M := fun (K : GZ → Nat → Prop) => ∀ (S_80 : GZ) (t_81 : Nat), K S_80 t_81 → J G p l e ({ frames := 10, cells := c0, slots := s0, locals := 348 } : Room) s m args below meth c 4 Q S_80.2.1 S_80.2.2 S_80.1 41 [(0, .ref f0), (1, .int f1), (2, .ref f2), (3, .int z3)] [.ref t_81, .ref f2]) (hk := by
          intro S_80 t_81 hF
          obtain ⟨hrc, hF⟩ := hF
          obtain ⟨c_82, s_83, hc1, hc2, hF⟩ := hF
          refine jg_callV (n := 1) (As := [.ref t_81]) (rest := []) C (M_gJ3_append G l hG hTab hm (S_80.1, c_82, s_83) f2 t_81 _ hF) q1709 ⟨q756, q757, q98, q758, by decide +kernel⟩ rfl hrc rfl rfl (Nat.le_of_ble_eq_true rfl) ⟨Nat.le_of_ble_eq_true rfl, Nat.le_of_ble_eq_true rfl⟩ hc1 hc2 dX2_line_41 (kk_r fun r_84 h_85 hF => ?_)
          obtain ⟨S_86, eS_86, hF⟩ := nm_intro hF
          refine g_J eS_86 ?_
          refine j_pop C dX2_line_44 rfl ?_
          refine j_aload_n C dX2_line_45 rfl 2 rfl ?_
          refine j_aload_n C dX2_line_46 rfl 0 rfl ?_
          refine j_iload_n C dX2_line_47 rfl 1 rfl ?_
          refine j_iload_n C dX2_line_48 rfl 3 rfl ?_
          obtain ⟨ad_87, T_88, hgT, hoT, hTH, hc1, hc2, hF⟩ := hF
          refine jg_callTi (n := 2) (As := [.int f1, .int z3]) (rest := [.ref f2]) C (M_tcanBe G l hG S_86.1 ad_87 hgT T_88 f1 z3 _ hF) hgT hoT hTH q441 ⟨q442, q443, q94, q444, by decide +kernel⟩ rfl rfl (Nat.le_of_ble_eq_true rfl) ⟨Nat.le_of_ble_eq_true rfl, Nat.le_of_ble_eq_true rfl⟩ hc1 hc2 dX2_line_49 (fun r_89 T_90 hF => ?_)
          obtain ⟨S_91, eS_91, hF⟩ := nm_intro hF
          refine g_J eS_91 ?_
          obtain ⟨K_92, hK_92, hF⟩ := jn_intro (M := fun (K : GZ → Nat → Prop) => ∀ (S_93 : GZ) (t_94 : Nat), K S_93 t_94 → J G p l e ({ frames := 10, cells := c0, slots := s0, locals := 348 } : Room) s m args below meth c 4 Q S_93.2.1 S_93.2.2 S_93.1 71 [(0, .ref f0), (1, .int f1), (2, .ref f2), (3, .int z3)] [.ref t_94, .ref f2]) (hk := by
              intro S_93 t_94 hF
              obtain ⟨hrc, hF⟩ := hF
              obtain ⟨c_95, s_96, hc1, hc2, hF⟩ := hF
              refine jg_callV (n := 1) (As := [.ref t_94]) (rest := []) C (M_gJ3_append G l hG hTab hm (S_93.1, c_95, s_96) f2 t_94 _ hF) q1709 ⟨q756, q757, q98, q758, by decide +kernel⟩ rfl hrc rfl rfl (Nat.le_of_ble_eq_true rfl) ⟨Nat.le_of_ble_eq_true rfl, Nat.le_of_ble_eq_true rfl⟩ hc1 hc2 dX2_line_71 (kk_r fun r_97 h_98 hF => ?_)
              obtain ⟨S_99, eS_99, hF⟩ := nm_intro hF
              refine g_J eS_99 ?_
              refine j_pop C dX2_line_74 rfl ?_
              refine j_aload_n C dX2_line_75 rfl 2 rfl ?_
              refine j_aload_n C dX2_line_76 rfl 0 rfl ?_
              obtain ⟨v_100, hgd, hF⟩ := hF
              refine jg_get C (T := TX2) (N := 10) rfl in_X2 4 (by decide) q163 rfl hgd dX2_line_77 ?_
              refine j_iload_n C dX2_line_80 rfl 1 rfl ?_
              obtain ⟨n_101, f_102, v_103, hg1, hg2, hg3, hF⟩ := hF
              refine j_iald C hg1 hg2 dX2_line_81 ?_
              rw [hg3]
              refine j_iload_n C dX2_line_82 rfl 3 rfl ?_
              obtain ⟨K_104, hK_104, hF⟩ := jn_intro (M := fun (K : GZ → Nat → Prop) => ∀ (S_105 : GZ) (t_106 : Nat), K S_105 t_106 → J G p l e ({ frames := 10, cells := c0, slots := s0, locals := 348 } : Room) s m args below meth c 4 Q S_105.2.1 S_105.2.2 S_105.1 93 [(0, .ref f0), (1, .int f1), (2, .ref f2), (3, .int z3)] [.ref t_106, .ref f2]) (hk := by
                  intro S_105 t_106 hF
                  obtain ⟨hrc, hF⟩ := hF
                  obtain ⟨c_107, s_108, hc1, hc2, hF⟩ := hF
                  refine jg_callV (n := 1) (As := [.ref t_106]) (rest := []) C (M_gJ3_append G l hG hTab hm (S_105.1, c_107, s_108) f2 t_106 _ hF) q1709 ⟨q756, q757, q98, q758, by decide +kernel⟩ rfl hrc rfl rfl (Nat.le_of_ble_eq_true rfl) ⟨Nat.le_of_ble_eq_true rfl, Nat.le_of_ble_eq_true rfl⟩ hc1 hc2 dX2_line_93 (kk_r fun r_109 h_110 hF => ?_)
                  obtain ⟨S_111, eS_111, hF⟩ := nm_intro hF
                  refine g_J eS_111 ?_
                  refine j_pop C dX2_line_96 rfl ?_
                  refine j_iinc (q := 3) (v := z3 + 1) (L2 := [(3, .int (z3 + 1)), (0, .ref f0), (1, .int f1), (2, .ref f2)]) C dX2_line_97 rfl rfl (by decide) rfl ?_
                  refine j_goto (tgt := 21) C dX2_line_100 (by decide) ?_
                  exact J.locals [1, 2, 3, 0] (ih _ _ hF) rfl) hF
              refine j_icmp_ne (tgt := 91) C dX2_line_83 (by decide) (fun hc_112 => ?_) (fun hc_112 => ?_)
              · replace hF := hF.2 hc_112
                obtain ⟨q_113, hgd, hF⟩ := hF
                refine jg_ldcS C hgd dX2_line_91 ?_
                exact J.locals [0, 1, 2, 3] (hK_104 _ _ hF) rfl
              · replace hF := hF.1 hc_112
                obtain ⟨q_114, hgd, hF⟩ := hF
                refine jg_ldcS C hgd dX2_line_86 ?_
                refine j_goto (tgt := 93) C dX2_line_88 (by decide) ?_
                exact J.locals [0, 1, 2, 3] (hK_104 _ _ hF) rfl) hF
          refine j_if_eq (tgt := 69) C dX2_line_52 (by decide) (fun hc_115 => ?_) (fun hc_115 => ?_)
          · replace hF := hF.1 hc_115
            obtain ⟨q_116, hgd, hF⟩ := hF
            refine jg_ldcS C hgd dX2_line_69 ?_
            exact J.locals [0, 1, 2, 3] (hK_92 _ _ hF) rfl
          · replace hF := hF.2 hc_115
            refine j_aload_n C dX2_line_55 rfl 0 rfl ?_
            obtain ⟨v_117, hgd, hF⟩ := hF
            refine jg_get C (T := TX2) (N := 10) rfl in_X2 0 (by decide) q152 rfl hgd dX2_line_56 ?_
            refine j_iload_n C dX2_line_59 rfl 1 rfl ?_
            obtain ⟨n_118, f_119, v_120, hg1, hg2, hg3, hF⟩ := hF
            refine j_aald C (di := 6) hg1 rfl rfl hg2 dX2_line_60 ?_
            rw [hg3]
            refine j_iload_n C dX2_line_61 rfl 3 rfl ?_
            obtain ⟨n_121, f_122, v_123, hg1, hg2, hg3, hF⟩ := hF
            refine j_iald C hg1 hg2 dX2_line_62 ?_
            rw [hg3]
            obtain ⟨c_124, s_125, hc1, hc2, hF⟩ := hF
            refine j_callS (n := 1) (As := [.int v_123]) (rest := [.ref f2]) C (M_gJ4_valueOf G l hG hTab hm (S_91.1, c_124, s_125) v_123 _ hF) q1710 ⟨q1711, q99, q1712, by decide +kernel⟩ rfl rfl (Nat.le_of_ble_eq_true rfl) ⟨Nat.le_of_ble_eq_true rfl, Nat.le_of_ble_eq_true rfl⟩ hc1 hc2 dX2_line_63 (kk_r fun r_126 h_127 hF => ?_)
            obtain ⟨S_128, eS_128, hF⟩ := nm_intro hF
            refine g_J eS_128 ?_
            refine j_goto (tgt := 71) C dX2_line_66 (by decide) ?_
            exact J.locals [0, 1, 2, 3] (hK_92 _ _ hF) rfl) hF
      refine j_if_ne (tgt := 39) C dX2_line_31 (by decide) (fun hc_129 => ?_) (fun hc_129 => ?_)
      · replace hF := hF.2 hc_129
        obtain ⟨q_130, hgd, hF⟩ := hF
        refine jg_ldcS C hgd dX2_line_39 ?_
        exact J.locals [0, 1, 2, 3] (hK_79 _ _ hF) rfl
      · replace hF := hF.1 hc_129
        obtain ⟨q_131, hgd, hF⟩ := hF
        refine jg_ldcS C hgd dX2_line_34 ?_
        refine j_goto (tgt := 41) C dX2_line_36 (by decide) ?_
        exact J.locals [0, 1, 2, 3] (hK_79 _ _ hF) rfl
set_option maxHeartbeats 4000000 in
theorem M_gX2_line (G : GT) (l : Launch) (hG : GOK G) (hTab : TabF G) (hLm : LamG G) (hm : FreeG G) (S : GZ) (x0 : Nat) (x1 : Int32) (P : Nat → AH → Prop) (hF : F_gX2_line G S x0 x1 P) : MT G l yX2_line cX2_line 4 (some (Jvm.ClassFile.FieldType.object "java/lang/CharSequence")) 10 348 S.2.1 S.2.2 [.ref x0, .int x1] S.1 (fun v h' => ∃ r : Nat, v = some (.ref r) ∧ P r h') := by
  refine MT.mk (own := RX2) (by decide) rfl hG (Nat.le_of_ble_eq_true rfl) ?_
  intro p e s m below meth c args Q hargs hQ C hname
  refine J.loca (L2 := [(0, .ref x0), (1, .int x1)]) rfl ?_
  unfold F_gX2_line at hF
  obtain ⟨hg1, hg2, hF⟩ := hF
  refine j_new C hm (ci := 13) (Cn := RJ3) (T := TJ3) (N := 4) rfl in_J3 tyJ3 tyJ3_ok q1703 q222 q98 [.null, .int 0, .int 0, .int 0] (fun j hj => by rcases (show j = 0 ∨ j = 1 ∨ j = 2 ∨ j = 3 by omega) with rfl | rfl | rfl | rfl <;> rfl) (bc' := S.2.1 - 1) (bs' := S.2.2 - 4) (by omega) (by omega) dX2_line_0 (fun q_60 hq1 hq2 => ?_)
  replace hF := hF q_60 hq1 hq2
  obtain ⟨S_61, eS_61, hF⟩ := nm_intro hF
  refine g_J eS_61 ?_
  refine j_dup C dX2_line_3 rfl ?_
  obtain ⟨c_62, s_63, hc1, hc2, hF⟩ := hF
  refine j_callI (n := 0) (As := []) (rest := [.ref q_60]) C (M_gJ3_init G l hG hTab hm (S_61.1, c_62, s_63) q_60 _ hF) q1704 ⟨q224, q98, q225, rfl, by decide +kernel⟩ rfl rfl (Nat.le_of_ble_eq_true rfl) ⟨Nat.le_of_ble_eq_true rfl, Nat.le_of_ble_eq_true rfl⟩ hc1 hc2 dX2_line_4 (kk_v fun h_65 hF => ?_)
  obtain ⟨S_66, eS_66, hF⟩ := nm_intro hF
  refine g_J eS_66 ?_
  refine j_astore_n (L2 := [(2, .ref q_60), (0, .ref x0), (1, .int x1)]) C dX2_line_7 rfl (by decide) rfl ?_
  refine j_aload_n C dX2_line_8 rfl 0 rfl ?_
  refine j_iload_n C dX2_line_9 rfl 2 rfl ?_
  obtain ⟨hrc, hF⟩ := hF
  obtain ⟨c_67, s_68, hc1, hc2, hF⟩ := hF
  refine jg_callV (n := 1) (As := [.int x1]) (rest := []) C (M_gJ3_append_2 G l hG hTab hm (S_66.1, c_67, s_68) q_60 x1 _ hF) q1705 ⟨q868, q869, q98, q870, by decide +kernel⟩ rfl hrc rfl rfl (Nat.le_of_ble_eq_true rfl) ⟨Nat.le_of_ble_eq_true rfl, Nat.le_of_ble_eq_true rfl⟩ hc1 hc2 dX2_line_10 (kk_r fun r_69 h_70 hF => ?_)
  obtain ⟨S_71, eS_71, hF⟩ := nm_intro hF
  refine g_J eS_71 ?_
  refine j_bipush (v := 58) C dX2_line_13 rfl ?_
  obtain ⟨hrc, hF⟩ := hF
  obtain ⟨c_72, s_73, hc1, hc2, hF⟩ := hF
  refine jg_callV (n := 1) (As := [.int 58]) (rest := []) C (M_gJ3_append_3 G l hG hTab hm (S_71.1, c_72, s_73) r_69 58 _ hF) q1706 ⟨q897, q898, q98, q899, by decide +kernel⟩ rfl hrc rfl rfl (Nat.le_of_ble_eq_true rfl) ⟨Nat.le_of_ble_eq_true rfl, Nat.le_of_ble_eq_true rfl⟩ hc1 hc2 dX2_line_15 (kk_r fun r_74 h_75 hF => ?_)
  obtain ⟨S_76, eS_76, hF⟩ := nm_intro hF
  refine g_J eS_76 ?_
  refine j_pop C dX2_line_18 rfl ?_
  refine j_iconst (v := 0) C dX2_line_19 rfl ?_
  refine j_istore_n (L2 := [(3, .int 0), (2, .ref q_60), (0, .ref x0), (1, .int x1)]) C dX2_line_20 rfl (by decide) rfl ?_
  refine J.locals [2, 3, 1, 0] (WL_gX2_line_21 C hG hTab hLm hm hname hQ NF _ _ hF) rfl
def L_gX8_line_10 (G : GT) (K49 : GZ → Prop) (P : Nat → AH → Prop) (f0 : Nat) (f1 : Nat) : Nat → GZ → Int32 → Prop
  | 0, _, _ => False
  | n + 1, S, z2 => ∃ v_49 : Int32, aF G S.1 f0 3 3 (.int v_49) ∧ ((v_49 ≤ z2 → K49 S) ∧ (¬ v_49 ≤ z2 → jn (α := GZ → Nat → Prop) (fun S_52 t_53 => aC G S_52.1 f1 13 ∧ ∃ c_54 s_55 : Nat, c_54 ≤ S_52.2.1 ∧ s_55 ≤ S_52.2.2 ∧ F_gJ3_append G (S_52.1, c_54, s_55) f1 t_53 (fun r_56 h_57 => nm (α := GZ) (h_57, S_52.2.1 - c_54, S_52.2.2 - s_55) (fun S_58 => ∃ v_59 : Nat, aF G S_58.1 f0 3 0 (.ref v_59) ∧ (∃ (n_60 : Nat) (f_61 : Nat → Int32) (v_62 : Int32), S_58.1 v_59 = some (.inl (G.2.2.1 0, n_60, .inl f_61)) ∧ vp_in z2 n_60 ∧ f_61 (Int32.toNatClampNeg z2) = v_62 ∧ (aC G S_58.1 r_56 13 ∧ ∃ c_63 s_64 : Nat, c_63 ≤ S_58.2.1 ∧ s_64 ≤ S_58.2.2 ∧ F_gJ3_append_2 G (S_58.1, c_63, s_64) r_56 v_62 (fun r_65 h_66 => nm (α := GZ) (h_66, S_58.2.1 - c_63, S_58.2.2 - s_64) (fun S_67 => L_gX8_line_10 G K49 P f0 f1 n S_67 (z2 + 1)))))))) (fun K_51 => (z2 = 0 → ∃ q_70 : Nat, LitR G RX8 65 "" q_70 ∧ (K_51 S q_70)) ∧ (¬ z2 = 0 → ∃ q_69 : Nat, LitR G RX8 67 " " q_69 ∧ (K_51 S q_69)))))
def F_gX8_line (G : GT) (S : GZ) (x0 : Nat) (P : Nat → AH → Prop) : Prop := 1 ≤ S.2.1 ∧ 4 ≤ S.2.2 ∧ ∀ q_42 : Nat, S.1 q_42 = none → G.1 ≤ q_42 → (nm (α := GZ) (hup S.1 q_42 (.inr (13, [.null, .int 0, .int 0, .int 0])), S.2.1 - 1, S.2.2 - 4) (fun S_43 => ∃ c_44 s_45 : Nat, c_44 ≤ S_43.2.1 ∧ s_45 ≤ S_43.2.2 ∧ F_gJ3_init G (S_43.1, c_44, s_45) q_42 (fun h_47 => nm (α := GZ) (h_47, S_43.2.1 - c_44, S_43.2.2 - s_45) (fun S_48 => L_gX8_line_10 G (fun S_71 => ∃ (ad_72 : Nat → Nat) (T_73 : TS), Kg ad_72 ∧ ad_72 0 = x0 ∧ KH G.2.2.1 S_71.1 ad_72 T_73 = S_71.1 ∧ 0 ≤ S_71.2.1 ∧ 0 ≤ S_71.2.2 ∧ F_kisThere T_73 (fun r_74 T_75 => nm (α := GZ) (KH G.2.2.1 S_71.1 ad_72 T_75, S_71.2.1 - 0, S_71.2.2 - 0) (fun S_76 => (r_74 = 0 → ∃ q_78 : Nat, LitR G RX8 83 "." q_78 ∧ (P q_78 S_76.1)) ∧ (¬ r_74 = 0 → aC G S_76.1 q_42 13 ∧ ∃ c_79 s_80 : Nat, c_79 ≤ S_76.2.1 ∧ s_80 ≤ S_76.2.2 ∧ F_gJ3_append_3 G (S_76.1, c_79, s_80) q_42 61 (fun r_81 h_82 => nm (α := GZ) (h_82, S_76.2.1 - c_79, S_76.2.2 - s_80) (fun S_83 => ∃ v_84 : Int32, aF G S_83.1 x0 3 4 (.int v_84) ∧ (aC G S_83.1 r_81 13 ∧ ∃ c_85 s_86 : Nat, c_85 ≤ S_83.2.1 ∧ s_86 ≤ S_83.2.2 ∧ F_gJ3_append_2 G (S_83.1, c_85, s_86) r_81 v_84 (fun r_87 h_88 => nm (α := GZ) (h_88, S_83.2.1 - c_85, S_83.2.2 - s_86) (fun S_89 => P r_87 S_89.1))))))))) P x0 q_42 NF S_48 0))))
set_option maxHeartbeats 4000000 in
theorem WL_gX8_line_10 {G : GT} {p : Program} {l : Launch} {e : Env} {s : State} {m : MethodId} {args : Array Value} {below : List Frame} {meth : Method} {c : Code} {Q : State → Prop} {c0 s0 : Nat} (C : Cx G p s m args meth c cX8_line RX8 3 (some (Jvm.ClassFile.FieldType.object "java/lang/CharSequence"))) (hG : GOK G) (hTab : TabF G) (hLm : LamG G) (hm : FreeG G) (hname : meth.name = yX8_line.name) {P : Nat → AH → Prop} (hQ : Q = MQ below (SQ G (fun v h' => ∃ r : Nat, v = some (.ref r) ∧ P r h')) args s (({ frames := 10, cells := c0, slots := s0, locals := 348 } : Room) : Room).cells (({ frames := 10, cells := c0, slots := s0, locals := 348 } : Room) : Room).slots (fun q => G.1 ≤ q)) {K49 : GZ → Prop} {f0 : Nat} {f1 : Nat} (hK49 : ∀ (S0 : GZ), K49 S0 → J G p l e ({ frames := 10, cells := c0, slots := s0, locals := 348 } : Room) s m args below meth c 3 Q S0.2.1 S0.2.2 S0.1 49 [(0, .ref f0), (1, .ref f1)] []) :
    ∀ (n : Nat) (S : GZ) (z2 : Int32), L_gX8_line_10 G K49 P f0 f1 n S z2 → J G p l e ({ frames := 10, cells := c0, slots := s0, locals := 348 } : Room) s m args below meth c 3 Q S.2.1 S.2.2 S.1 10 [(0, .ref f0), (1, .ref f1), (2, .int z2)] [] := by
  intro n
  induction n with
  | zero => intro S z2 hF; exact hF.elim
  | succ n ih =>
    intro S z2 hF
    unfold L_gX8_line_10 at hF
    refine j_iload_n C dX8_line_10 rfl 2 rfl ?_
    refine j_aload_n C dX8_line_11 rfl 0 rfl ?_
    obtain ⟨v_49, hgd, hF⟩ := hF
    refine jg_get C (T := TX8) (N := 7) rfl in_X8 3 (by decide) q724 rfl hgd dX8_line_12 ?_
    refine j_icmp_ge (tgt := 49) C dX8_line_15 (by decide) (fun hc_50 => ?_) (fun hc_50 => ?_)
    · replace hF := hF.1 hc_50
      exact J.locals [0, 1] (hK49 _ hF) rfl
    · replace hF := hF.2 hc_50
      refine j_aload_n C dX8_line_18 rfl 1 rfl ?_
      refine j_iload_n C dX8_line_19 rfl 2 rfl ?_
      obtain ⟨K_51, hK_51, hF⟩ := jn_intro (M := fun (K : GZ → Nat → Prop) => ∀ (S_52 : GZ) (t_53 : Nat), K S_52 t_53 → J G p l e ({ frames := 10, cells := c0, slots := s0, locals := 348 } : Room) s m args below meth c 3 Q S_52.2.1 S_52.2.2 S_52.1 30 [(0, .ref f0), (1, .ref f1), (2, .int z2)] [.ref t_53, .ref f1]) (hk := by
          intro S_52 t_53 hF
          obtain ⟨hrc, hF⟩ := hF
          obtain ⟨c_54, s_55, hc1, hc2, hF⟩ := hF
          refine jg_callV (n := 1) (As := [.ref t_53]) (rest := []) C (M_gJ3_append G l hG hTab hm (S_52.1, c_54, s_55) f1 t_53 _ hF) q755 ⟨q756, q757, q98, q758, by decide +kernel⟩ rfl hrc rfl rfl (Nat.le_of_ble_eq_true rfl) ⟨Nat.le_of_ble_eq_true rfl, Nat.le_of_ble_eq_true rfl⟩ hc1 hc2 dX8_line_30 (kk_r fun r_56 h_57 hF => ?_)
          obtain ⟨S_58, eS_58, hF⟩ := nm_intro hF
          refine g_J eS_58 ?_
          refine j_aload_n C dX8_line_33 rfl 0 rfl ?_
          obtain ⟨v_59, hgd, hF⟩ := hF
          refine jg_get C (T := TX8) (N := 7) rfl in_X8 0 (by decide) q718 rfl hgd dX8_line_34 ?_
          refine j_iload_n C dX8_line_37 rfl 2 rfl ?_
          obtain ⟨n_60, f_61, v_62, hg1, hg2, hg3, hF⟩ := hF
          refine j_iald C hg1 hg2 dX8_line_38 ?_
          rw [hg3]
          obtain ⟨hrc, hF⟩ := hF
          obtain ⟨c_63, s_64, hc1, hc2, hF⟩ := hF
          refine jg_callV (n := 1) (As := [.int v_62]) (rest := []) C (M_gJ3_append_2 G l hG hTab hm (S_58.1, c_63, s_64) r_56 v_62 _ hF) q867 ⟨q868, q869, q98, q870, by decide +kernel⟩ rfl hrc rfl rfl (Nat.le_of_ble_eq_true rfl) ⟨Nat.le_of_ble_eq_true rfl, Nat.le_of_ble_eq_true rfl⟩ hc1 hc2 dX8_line_39 (kk_r fun r_65 h_66 hF => ?_)
          obtain ⟨S_67, eS_67, hF⟩ := nm_intro hF
          refine g_J eS_67 ?_
          refine j_pop C dX8_line_42 rfl ?_
          refine j_iinc (q := 2) (v := z2 + 1) (L2 := [(2, .int (z2 + 1)), (0, .ref f0), (1, .ref f1)]) C dX8_line_43 rfl rfl (by decide) rfl ?_
          refine j_goto (tgt := 10) C dX8_line_46 (by decide) ?_
          exact J.locals [1, 2, 0] (ih _ _ hF) rfl) hF
      refine j_if_ne (tgt := 28) C dX8_line_20 (by decide) (fun hc_68 => ?_) (fun hc_68 => ?_)
      · replace hF := hF.2 hc_68
        obtain ⟨q_69, hgd, hF⟩ := hF
        refine jg_ldcS C hgd dX8_line_28 ?_
        exact J.locals [0, 1, 2] (hK_51 _ _ hF) rfl
      · replace hF := hF.1 hc_68
        obtain ⟨q_70, hgd, hF⟩ := hF
        refine jg_ldcS C hgd dX8_line_23 ?_
        refine j_goto (tgt := 30) C dX8_line_25 (by decide) ?_
        exact J.locals [0, 1, 2] (hK_51 _ _ hF) rfl
set_option maxHeartbeats 4000000 in
theorem M_gX8_line (G : GT) (l : Launch) (hG : GOK G) (hTab : TabF G) (hLm : LamG G) (hm : FreeG G) (S : GZ) (x0 : Nat) (P : Nat → AH → Prop) (hF : F_gX8_line G S x0 P) : MT G l yX8_line cX8_line 3 (some (Jvm.ClassFile.FieldType.object "java/lang/CharSequence")) 10 348 S.2.1 S.2.2 [.ref x0] S.1 (fun v h' => ∃ r : Nat, v = some (.ref r) ∧ P r h') := by
  refine MT.mk (own := RX8) (by decide) rfl hG (Nat.le_of_ble_eq_true rfl) ?_
  intro p e s m below meth c args Q hargs hQ C hname
  refine J.loca (L2 := [(0, .ref x0)]) rfl ?_
  unfold F_gX8_line at hF
  obtain ⟨hg1, hg2, hF⟩ := hF
  refine j_new C hm (ci := 13) (Cn := RJ3) (T := TJ3) (N := 4) rfl in_J3 tyJ3 tyJ3_ok q751 q222 q98 [.null, .int 0, .int 0, .int 0] (fun j hj => by rcases (show j = 0 ∨ j = 1 ∨ j = 2 ∨ j = 3 by omega) with rfl | rfl | rfl | rfl <;> rfl) (bc' := S.2.1 - 1) (bs' := S.2.2 - 4) (by omega) (by omega) dX8_line_0 (fun q_42 hq1 hq2 => ?_)
  replace hF := hF q_42 hq1 hq2
  obtain ⟨S_43, eS_43, hF⟩ := nm_intro hF
  refine g_J eS_43 ?_
  refine j_dup C dX8_line_3 rfl ?_
  obtain ⟨c_44, s_45, hc1, hc2, hF⟩ := hF
  refine j_callI (n := 0) (As := []) (rest := [.ref q_42]) C (M_gJ3_init G l hG hTab hm (S_43.1, c_44, s_45) q_42 _ hF) q752 ⟨q224, q98, q225, rfl, by decide +kernel⟩ rfl rfl (Nat.le_of_ble_eq_true rfl) ⟨Nat.le_of_ble_eq_true rfl, Nat.le_of_ble_eq_true rfl⟩ hc1 hc2 dX8_line_4 (kk_v fun h_47 hF => ?_)
  obtain ⟨S_48, eS_48, hF⟩ := nm_intro hF
  refine g_J eS_48 ?_
  refine j_astore_n (L2 := [(1, .ref q_42), (0, .ref x0)]) C dX8_line_7 rfl (by decide) rfl ?_
  refine j_iconst (v := 0) C dX8_line_8 rfl ?_
  refine j_istore_n (L2 := [(2, .int 0), (1, .ref q_42), (0, .ref x0)]) C dX8_line_9 rfl (by decide) rfl ?_
  refine J.locals [2, 1, 0] (WL_gX8_line_10 C hG hTab hLm hm hname hQ ?_ NF _ _ hF) rfl
  · intro S_71 hF
    refine j_aload_n C dX8_line_49 rfl 0 rfl ?_
    obtain ⟨ad_72, T_73, hgT, hoT, hTH, hc1, hc2, hF⟩ := hF
    refine jg_callKi (n := 0) (As := []) (rest := []) C (M_kisThere G l hG S_71.1 ad_72 hgT T_73 _ hF) hgT hoT hTH q892 ⟨q893, q894, q119, q895, by decide +kernel⟩ rfl rfl (Nat.le_of_ble_eq_true rfl) ⟨Nat.le_of_ble_eq_true rfl, Nat.le_of_ble_eq_true rfl⟩ hc1 hc2 dX8_line_50 (fun r_74 T_75 hF => ?_)
    obtain ⟨S_76, eS_76, hF⟩ := nm_intro hF
    refine g_J eS_76 ?_
    refine j_if_eq (tgt := 72) C dX8_line_53 (by decide) (fun hc_77 => ?_) (fun hc_77 => ?_)
    · replace hF := hF.1 hc_77
      obtain ⟨q_78, hgd, hF⟩ := hF
      refine jg_ldcS C hgd dX8_line_72 ?_
      rw [hQ]
      exact j_aret C (Or.inl ⟨_, rfl⟩) (Or.inr ⟨_, rfl⟩) ⟨_, rfl, hF⟩ dX8_line_74
    · replace hF := hF.2 hc_77
      refine j_aload_n C dX8_line_56 rfl 1 rfl ?_
      refine j_bipush (v := 61) C dX8_line_57 rfl ?_
      obtain ⟨hrc, hF⟩ := hF
      obtain ⟨c_79, s_80, hc1, hc2, hF⟩ := hF
      refine jg_callV (n := 1) (As := [.int 61]) (rest := []) C (M_gJ3_append_3 G l hG hTab hm (S_76.1, c_79, s_80) q_42 61 _ hF) q896 ⟨q897, q898, q98, q899, by decide +kernel⟩ rfl hrc rfl rfl (Nat.le_of_ble_eq_true rfl) ⟨Nat.le_of_ble_eq_true rfl, Nat.le_of_ble_eq_true rfl⟩ hc1 hc2 dX8_line_59 (kk_r fun r_81 h_82 hF => ?_)
      obtain ⟨S_83, eS_83, hF⟩ := nm_intro hF
      refine g_J eS_83 ?_
      refine j_aload_n C dX8_line_62 rfl 0 rfl ?_
      obtain ⟨v_84, hgd, hF⟩ := hF
      refine jg_get C (T := TX8) (N := 7) rfl in_X8 4 (by decide) q725 rfl hgd dX8_line_63 ?_
      obtain ⟨hrc, hF⟩ := hF
      obtain ⟨c_85, s_86, hc1, hc2, hF⟩ := hF
      refine jg_callV (n := 1) (As := [.int v_84]) (rest := []) C (M_gJ3_append_2 G l hG hTab hm (S_83.1, c_85, s_86) r_81 v_84 _ hF) q867 ⟨q868, q869, q98, q870, by decide +kernel⟩ rfl hrc rfl rfl (Nat.le_of_ble_eq_true rfl) ⟨Nat.le_of_ble_eq_true rfl, Nat.le_of_ble_eq_true rfl⟩ hc1 hc2 dX8_line_66 (kk_r fun r_87 h_88 hF => ?_)
      obtain ⟨S_89, eS_89, hF⟩ := nm_intro hF
      refine g_J eS_89 ?_
      refine j_goto (tgt := 74) C dX8_line_69 (by decide) ?_
      rw [hQ]
      exact j_aret C (Or.inl ⟨_, rfl⟩) (Or.inr ⟨_, rfl⟩) ⟨_, rfl, hF⟩ dX8_line_74
