/-! THE TOWN's plain methods: mirrors and walks (printed by gen/gotown.py) -/
set_option maxRecDepth 100000
theorem cal_tapprenticeComes : CalV yX2_apprenticeComes RX2 cX2_apprenticeComes 1 (some .int) 0 := ⟨q390, q391, q94, q392, by decide +kernel⟩
def F_tapprenticeComes (T : TS) (P : Int32 → TS → Prop) (X : Int32 → Int32 → Prop) : Prop := jn (α := TS → Int32 → Prop) (fun T_2 t_3 => (t_3 = 0 → X 1 6) ∧ (¬ t_3 = 0 → nm (upd T_2 0 ((T_2 0) + 1)) (fun T_5 => F_tbeginsAnew T_5 (fun T_6 => P ((T_6 0) - 1) T_6)))) (fun K_1 => (6 ≤ (T 0) → K_1 T 0) ∧ (¬ 6 ≤ (T 0) → K_1 T 1))
set_option maxHeartbeats 4000000 in
theorem M_tapprenticeComes (G : GT) (l : Launch) (hG : GOK G) (hTab : TabF G) (hExc : ExcF G) (hfl : l.stackTraces = false) (h : AH) (ad : Nat → Nat) (hg : Tg ad) (hm : FreeG G) (T : TS) (P : Int32 → TS → Prop) (X : Int32 → Int32 → Prop) (hF : F_tapprenticeComes T P X) : TXi G l yX2_apprenticeComes cX2_apprenticeComes 1 .int 7 147 1 9 [.ref (ad 0)] h ad T P X := by
  refine MX.mk (own := RX2) (by decide) rfl hG (Nat.le_of_ble_eq_true rfl) ?_
  intro p e s m below meth c args Q hargs hQ C _ htab
  rw [hQ]
  refine J.loca (L2 := [(0, .ref (ad 0))]) rfl ?_
  unfold F_tapprenticeComes at hF
  refine j_aload_n C dX2_apprenticeComes_0 rfl 0 rfl ?_
  refine jtG5 C hg dX2_apprenticeComes_1 ?_
  refine j_bipush (v := 6) C dX2_apprenticeComes_4 rfl ?_
  obtain ⟨K_1, hK_1, hF⟩ := jn_intro (M := fun (K : TS → Int32 → Prop) => ∀ (T_2 : TS) (t_3 : Int32), K T_2 t_3 → J G p l e ({ frames := 7, cells := 1, slots := 9, locals := 147 } : Room) s m args below meth c 1 (vx_MQ below (SQ G (fun v h' => ∃ (r : Int32) (S' : TS), v = some (.int r) ∧ h' = (TH G.2.2.1 h ad S') ∧ P r S')) (XQ G (TPX G h ad X)) args s 1 9 (fun q => G.1 ≤ q)) 1 9 (TH G.2.2.1 h ad T_2) 14 [(0, .ref (ad 0))] [.int t_3]) (hk := by
      intro T_2 t_3 hF
      refine j_iconst (v := 1) C dX2_apprenticeComes_14 rfl ?_
      refine j_bipush (v := 6) C dX2_apprenticeComes_15 rfl ?_
      refine jt_check C htab hG hTab hExc hfl hm ⟨hF.1, fun _ => trivial⟩ (Nat.le_of_ble_eq_true rfl) ⟨Nat.le_of_ble_eq_true rfl, Nat.le_of_ble_eq_true rfl⟩ (Nat.le_of_ble_eq_true rfl) (Nat.le_of_ble_eq_true rfl) dX2_apprenticeComes_17 (fun hc_4 => ?_)
      replace hF := hF.2 hc_4
      refine j_aload_n C dX2_apprenticeComes_20 rfl 0 rfl ?_
      refine j_dup C dX2_apprenticeComes_21 rfl ?_
      refine jtG5 C hg dX2_apprenticeComes_22 ?_
      refine j_iconst (v := 1) C dX2_apprenticeComes_25 rfl ?_
      refine j_iadd C dX2_apprenticeComes_26 ?_
      refine jtP5 C hg hm dX2_apprenticeComes_27 ?_
      obtain ⟨T_5, eT_5, hF⟩ := nm_intro hF
      refine t_J eT_5 ?_
      refine j_aload_n C dX2_apprenticeComes_30 rfl 0 rfl ?_
      refine jt_callv hg (As := []) (rest := []) C (M_tbeginsAnew G l hG h ad hg hm T_5 _ hF) q385 cal_tbeginsAnew rfl rfl (Nat.le_of_ble_eq_true rfl) ⟨Nat.le_of_ble_eq_true rfl, Nat.le_of_ble_eq_true rfl⟩ dX2_apprenticeComes_31 (fun T_6 hF => ?_)
      refine j_aload_n C dX2_apprenticeComes_34 rfl 0 rfl ?_
      refine jtG5 C hg dX2_apprenticeComes_35 ?_
      refine j_iconst (v := 1) C dX2_apprenticeComes_38 rfl ?_
      refine j_isub C dX2_apprenticeComes_39 ?_
      exact jx_iret rfl C ⟨_, _, rfl, rfl, hF⟩ dX2_apprenticeComes_40) hF
  refine j_icmp_ge (tgt := 13) C dX2_apprenticeComes_6 (by decide) (fun hc_7 => ?_) (fun hc_7 => ?_)
  · replace hF := hF.1 hc_7
    refine j_iconst (v := 0) C dX2_apprenticeComes_13 rfl ?_
    exact J.locals [0] (hK_1 _ _ hF) rfl
  · replace hF := hF.2 hc_7
    refine j_iconst (v := 1) C dX2_apprenticeComes_9 rfl ?_
    refine j_goto (tgt := 14) C dX2_apprenticeComes_10 (by decide) ?_
    exact J.locals [0] (hK_1 _ _ hF) rfl
theorem cal_tcheckApprentice : CalV yX2_checkApprentice RX2 cX2_checkApprentice 2 none 1 := ⟨q404, qs4, q94, q405, by decide +kernel⟩
def F_tcheckApprentice (T : TS) (x1 : Int32) (P : TS → Prop) (X : Int32 → Int32 → Prop) : Prop := ((bet x1 0 ((T 0) - 1)) = 0 → X 2 x1) ∧ (¬ (bet x1 0 ((T 0) - 1)) = 0 → P T)
set_option maxHeartbeats 4000000 in
theorem M_tcheckApprentice (G : GT) (l : Launch) (hG : GOK G) (hTab : TabF G) (hExc : ExcF G) (hfl : l.stackTraces = false) (h : AH) (ad : Nat → Nat) (hg : Tg ad) (hm : FreeG G) (T : TS) (x1 : Int32) (P : TS → Prop) (X : Int32 → Int32 → Prop) (hF : F_tcheckApprentice T x1 P X) : TXv G l yX2_checkApprentice cX2_checkApprentice 2 7 147 1 9 [.ref (ad 0), .int x1] h ad T P X := by
  refine MX.mk (own := RX2) (by decide) rfl hG (Nat.le_of_ble_eq_true rfl) ?_
  intro p e s m below meth c args Q hargs hQ C _ htab
  rw [hQ]
  refine J.loca (L2 := [(0, .ref (ad 0)), (1, .int x1)]) rfl ?_
  unfold F_tcheckApprentice at hF
  refine j_iload_n C dX2_checkApprentice_0 rfl 1 rfl ?_
  refine j_iconst (v := 0) C dX2_checkApprentice_1 rfl ?_
  refine j_aload_n C dX2_checkApprentice_2 rfl 0 rfl ?_
  refine jtG5 C hg dX2_checkApprentice_3 ?_
  refine j_iconst (v := 1) C dX2_checkApprentice_6 rfl ?_
  refine j_isub C dX2_checkApprentice_7 ?_
  refine jt_between C hG hTab (Nat.le_of_ble_eq_true rfl) ⟨Nat.le_of_ble_eq_true rfl, Nat.le_of_ble_eq_true rfl⟩ dX2_checkApprentice_8 ?_
  refine j_iconst (v := 2) C dX2_checkApprentice_11 rfl ?_
  refine j_iload_n C dX2_checkApprentice_12 rfl 1 rfl ?_
  refine jt_check C htab hG hTab hExc hfl hm ⟨hF.1, fun _ => trivial⟩ (Nat.le_of_ble_eq_true rfl) ⟨Nat.le_of_ble_eq_true rfl, Nat.le_of_ble_eq_true rfl⟩ (Nat.le_of_ble_eq_true rfl) (Nat.le_of_ble_eq_true rfl) dX2_checkApprentice_13 (fun hc_1 => ?_)
  replace hF := hF.2 hc_1
  exact jx_vret C ⟨_, rfl, rfl, hF⟩ dX2_checkApprentice_16
theorem cal_tcheckBoth : CalV yX2_checkBoth RX2 cX2_checkBoth 3 none 2 := ⟨q400, qs3, q94, q401, by decide +kernel⟩
def F_tcheckBoth (T : TS) (x1 : Int32) (x2 : Int32) (P : TS → Prop) (X : Int32 → Int32 → Prop) : Prop := F_tcheckApprentice T x1 (fun T_1 => ((bet x2 0 ((T_1 1) - 1)) = 0 → X 2 x2) ∧ (¬ (bet x2 0 ((T_1 1) - 1)) = 0 → P T_1)) X
set_option maxHeartbeats 4000000 in
theorem M_tcheckBoth (G : GT) (l : Launch) (hG : GOK G) (hTab : TabF G) (hExc : ExcF G) (hfl : l.stackTraces = false) (h : AH) (ad : Nat → Nat) (hg : Tg ad) (hm : FreeG G) (T : TS) (x1 : Int32) (x2 : Int32) (P : TS → Prop) (X : Int32 → Int32 → Prop) (hF : F_tcheckBoth T x1 x2 P X) : TXv G l yX2_checkBoth cX2_checkBoth 3 8 168 2 18 [.ref (ad 0), .int x1, .int x2] h ad T P X := by
  refine MX.mk (own := RX2) (by decide) rfl hG (Nat.le_of_ble_eq_true rfl) ?_
  intro p e s m below meth c args Q hargs hQ C _ htab
  rw [hQ]
  refine J.loca (L2 := [(0, .ref (ad 0)), (1, .int x1), (2, .int x2)]) rfl ?_
  unfold F_tcheckBoth at hF
  refine j_aload_n C dX2_checkBoth_0 rfl 0 rfl ?_
  refine j_iload_n C dX2_checkBoth_1 rfl 1 rfl ?_
  refine jt_callxv hg C htab (As := [.int x1]) (rest := []) (M_tcheckApprentice G l hG hTab hExc hfl h ad hg hm T x1 _ X hF) q402 cal_tcheckApprentice rfl rfl (Nat.le_of_ble_eq_true rfl) ⟨Nat.le_of_ble_eq_true rfl, Nat.le_of_ble_eq_true rfl⟩ (Nat.le_of_ble_eq_true rfl) (Nat.le_of_ble_eq_true rfl) dX2_checkBoth_2 (fun T_1 hF => ?_)
  refine j_iload_n C dX2_checkBoth_5 rfl 2 rfl ?_
  refine j_iconst (v := 0) C dX2_checkBoth_6 rfl ?_
  refine j_aload_n C dX2_checkBoth_7 rfl 0 rfl ?_
  refine jtG6 C hg dX2_checkBoth_8 ?_
  refine j_iconst (v := 1) C dX2_checkBoth_11 rfl ?_
  refine j_isub C dX2_checkBoth_12 ?_
  refine jt_between C hG hTab (Nat.le_of_ble_eq_true rfl) ⟨Nat.le_of_ble_eq_true rfl, Nat.le_of_ble_eq_true rfl⟩ dX2_checkBoth_13 ?_
  refine j_iconst (v := 2) C dX2_checkBoth_16 rfl ?_
  refine j_iload_n C dX2_checkBoth_17 rfl 2 rfl ?_
  refine jt_check C htab hG hTab hExc hfl hm ⟨hF.1, fun _ => trivial⟩ (Nat.le_of_ble_eq_true rfl) ⟨Nat.le_of_ble_eq_true rfl, Nat.le_of_ble_eq_true rfl⟩ (Nat.le_of_ble_eq_true rfl) (Nat.le_of_ble_eq_true rfl) dX2_checkBoth_18 (fun hc_2 => ?_)
  replace hF := hF.2 hc_2
  exact jx_vret C ⟨_, rfl, rfl, hF⟩ dX2_checkBoth_21
theorem cal_tbars : CalV yX2_bars RX2 cX2_bars 4 (some .int) 2 := ⟨q395, q396, q94, q397, by decide +kernel⟩
def F_tbars (T : TS) (x1 : Int32) (x2 : Int32) (P : Int32 → TS → Prop) (X : Int32 → Int32 → Prop) : Prop := F_tcheckBoth T x1 x2 (fun T_1 => (vp_in x1 6) ∧ ((vp_in x2 6) ∧ (jn (α := TS → Int32 → Prop) (fun T_3 t_4 => (t_4 = 0 → X 4 x1) ∧ (¬ t_4 = 0 → (vp_in x1 6) ∧ ((vp_in x2 6) ∧ (nm (upd T_3 (6 + 6 * Int32.toNatClampNeg (x1) + Int32.toNatClampNeg (x2)) (-1)) (fun T_6 => (vp_in x1 6) ∧ (((T_6 (84 + Int32.toNatClampNeg (x1))) = x2 → (vp_in x1 6) ∧ (nm (upd T_6 (84 + Int32.toNatClampNeg (x1)) (-1)) (fun T_9 => P (T_1 (6 + 6 * Int32.toNatClampNeg (x1) + Int32.toNatClampNeg (x2))) T_9))) ∧ (¬ (T_6 (84 + Int32.toNatClampNeg (x1))) = x2 → (vp_in x1 6) ∧ ((vp_in x1 6) ∧ (nm (upd T_6 (84 + Int32.toNatClampNeg (x1)) (T_6 (84 + Int32.toNatClampNeg (x1)))) (fun T_8 => P (T_1 (6 + 6 * Int32.toNatClampNeg (x1) + Int32.toNatClampNeg (x2))) T_8)))))))))) (fun K_2 => ((T_1 (6 + 6 * Int32.toNatClampNeg (x1) + Int32.toNatClampNeg (x2))) = (-1) → K_2 T_1 0) ∧ (¬ (T_1 (6 + 6 * Int32.toNatClampNeg (x1) + Int32.toNatClampNeg (x2))) = (-1) → K_2 T_1 1))))) X
set_option maxHeartbeats 4000000 in
theorem M_tbars (G : GT) (l : Launch) (hG : GOK G) (hTab : TabF G) (hExc : ExcF G) (hfl : l.stackTraces = false) (h : AH) (ad : Nat → Nat) (hg : Tg ad) (hm : FreeG G) (T : TS) (x1 : Int32) (x2 : Int32) (P : Int32 → TS → Prop) (X : Int32 → Int32 → Prop) (hF : F_tbars T x1 x2 P X) : TXi G l yX2_bars cX2_bars 4 .int 9 190 3 27 [.ref (ad 0), .int x1, .int x2] h ad T P X := by
  refine MX.mk (own := RX2) (by decide) rfl hG (Nat.le_of_ble_eq_true rfl) ?_
  intro p e s m below meth c args Q hargs hQ C _ htab
  rw [hQ]
  refine J.loca (L2 := [(0, .ref (ad 0)), (1, .int x1), (2, .int x2)]) rfl ?_
  unfold F_tbars at hF
  refine j_aload_n C dX2_bars_0 rfl 0 rfl ?_
  refine j_iload_n C dX2_bars_1 rfl 1 rfl ?_
  refine j_iload_n C dX2_bars_2 rfl 2 rfl ?_
  refine jt_callxv hg C htab (As := [.int x1, .int x2]) (rest := []) (M_tcheckBoth G l hG hTab hExc hfl h ad hg hm T x1 x2 _ X hF) q398 cal_tcheckBoth rfl rfl (Nat.le_of_ble_eq_true rfl) ⟨Nat.le_of_ble_eq_true rfl, Nat.le_of_ble_eq_true rfl⟩ (Nat.le_of_ble_eq_true rfl) (Nat.le_of_ble_eq_true rfl) dX2_bars_3 (fun T_1 hF => ?_)
  refine j_aload_n C dX2_bars_6 rfl 0 rfl ?_
  refine jtG0 C hg dX2_bars_7 ?_
  refine j_iload_n C dX2_bars_10 rfl 1 rfl ?_
  obtain ⟨hgd, hF⟩ := hF
  have hw_13 := in_lt6 hgd
  refine jtO1 C hg hgd dX2_bars_11 ?_
  refine j_iload_n C dX2_bars_12 rfl 2 rfl ?_
  obtain ⟨hgd, hF⟩ := hF
  refine jtLc C hg hw_13 hgd dX2_bars_13 ?_
  refine j_istore_n (L2 := [(3, .int (T_1 (6 + 6 * Int32.toNatClampNeg (x1) + Int32.toNatClampNeg (x2)))), (0, .ref (ad 0)), (1, .int x1), (2, .int x2)]) C dX2_bars_14 rfl (by decide) rfl ?_
  refine j_iload_n C dX2_bars_15 rfl 0 rfl ?_
  refine j_iconst (v := (-1)) C dX2_bars_16 rfl ?_
  obtain ⟨K_2, hK_2, hF⟩ := jn_intro (M := fun (K : TS → Int32 → Prop) => ∀ (T_3 : TS) (t_4 : Int32), K T_3 t_4 → J G p l e ({ frames := 9, cells := 3, slots := 27, locals := 190 } : Room) s m args below meth c 4 (vx_MQ below (SQ G (fun v h' => ∃ (r : Int32) (S' : TS), v = some (.int r) ∧ h' = (TH G.2.2.1 h ad S') ∧ P r S')) (XQ G (TPX G h ad X)) args s 3 27 (fun q => G.1 ≤ q)) 1 9 (TH G.2.2.1 h ad T_3) 25 [(0, .ref (ad 0)), (1, .int x1), (2, .int x2), (3, .int (T_1 (6 + 6 * Int32.toNatClampNeg (x1) + Int32.toNatClampNeg (x2))))] [.int t_4]) (hk := by
      intro T_3 t_4 hF
      refine j_iconst (v := 4) C dX2_bars_25 rfl ?_
      refine j_iload_n C dX2_bars_26 rfl 1 rfl ?_
      refine jt_check C htab hG hTab hExc hfl hm ⟨hF.1, fun _ => trivial⟩ (Nat.le_of_ble_eq_true rfl) ⟨Nat.le_of_ble_eq_true rfl, Nat.le_of_ble_eq_true rfl⟩ (Nat.le_of_ble_eq_true rfl) (Nat.le_of_ble_eq_true rfl) dX2_bars_27 (fun hc_5 => ?_)
      replace hF := hF.2 hc_5
      refine j_aload_n C dX2_bars_30 rfl 0 rfl ?_
      refine jtG0 C hg dX2_bars_31 ?_
      refine j_iload_n C dX2_bars_34 rfl 1 rfl ?_
      obtain ⟨hgd, hF⟩ := hF
      have hw_14 := in_lt6 hgd
      refine jtO1 C hg hgd dX2_bars_35 ?_
      refine j_iload_n C dX2_bars_36 rfl 2 rfl ?_
      refine j_iconst (v := (-1)) C dX2_bars_37 rfl ?_
      obtain ⟨hgd, hF⟩ := hF
      refine jtSc C hg hm hw_14 hgd dX2_bars_38 ?_
      obtain ⟨T_6, eT_6, hF⟩ := nm_intro hF
      refine t_J eT_6 ?_
      refine j_aload_n C dX2_bars_39 rfl 0 rfl ?_
      refine jtG4 C hg dX2_bars_40 ?_
      refine j_iload_n C dX2_bars_43 rfl 1 rfl ?_
      refine j_aload_n C dX2_bars_44 rfl 0 rfl ?_
      refine jtG4 C hg dX2_bars_45 ?_
      refine j_iload_n C dX2_bars_48 rfl 1 rfl ?_
      obtain ⟨hgd, hF⟩ := hF
      refine jtL5 C hg hgd dX2_bars_49 ?_
      refine j_iload_n C dX2_bars_50 rfl 2 rfl ?_
      refine j_icmp_ne (tgt := 58) C dX2_bars_51 (by decide) (fun hc_7 => ?_) (fun hc_7 => ?_)
      · replace hF := hF.2 hc_7
        refine j_aload_n C dX2_bars_58 rfl 0 rfl ?_
        refine jtG4 C hg dX2_bars_59 ?_
        refine j_iload_n C dX2_bars_62 rfl 1 rfl ?_
        obtain ⟨hgd, hF⟩ := hF
        refine jtL5 C hg hgd dX2_bars_63 ?_
        obtain ⟨hgd, hF⟩ := hF
        refine jtS5 C hg hm hgd dX2_bars_64 ?_
        obtain ⟨T_8, eT_8, hF⟩ := nm_intro hF
        refine t_J eT_8 ?_
        refine j_iload_n C dX2_bars_65 rfl 3 rfl ?_
        exact jx_iret rfl C ⟨_, _, rfl, rfl, hF⟩ dX2_bars_66
      · replace hF := hF.1 hc_7
        refine j_iconst (v := (-1)) C dX2_bars_54 rfl ?_
        refine j_goto (tgt := 64) C dX2_bars_55 (by decide) ?_
        obtain ⟨hgd, hF⟩ := hF
        refine jtS5 C hg hm hgd dX2_bars_64 ?_
        obtain ⟨T_9, eT_9, hF⟩ := nm_intro hF
        refine t_J eT_9 ?_
        refine j_iload_n C dX2_bars_65 rfl 3 rfl ?_
        exact jx_iret rfl C ⟨_, _, rfl, rfl, hF⟩ dX2_bars_66) hF
  refine j_icmp_eq (tgt := 24) C dX2_bars_17 (by decide) (fun hc_10 => ?_) (fun hc_10 => ?_)
  · replace hF := hF.1 hc_10
    refine j_iconst (v := 0) C dX2_bars_24 rfl ?_
    exact J.locals [1, 2, 3, 0] (hK_2 _ _ hF) rfl
  · replace hF := hF.2 hc_10
    refine j_iconst (v := 1) C dX2_bars_20 rfl ?_
    refine j_goto (tgt := 25) C dX2_bars_21 (by decide) ?_
    exact J.locals [1, 2, 3, 0] (hK_2 _ _ hF) rfl
theorem cal_tbidsOnce : CalV yX2_bidsOnce RX2 cX2_bidsOnce 3 (some .int) 0 := ⟨q426, q427, q94, q428, by decide +kernel⟩
def F_tbidsOnce (T : TS) (P : Int32 → TS → Prop) (X : Int32 → Int32 → Prop) : Prop := F_tlowestFree T (fun r_2 T_1 => jn (α := TS → Int32 → Prop) (fun T_4 t_5 => (t_5 = 0 → X 5 (T_4 0)) ∧ (¬ t_5 = 0 → F_tlikes T_4 r_2 (fun r_8 T_7 => jn (α := TS → Int32 → Prop) (fun T_10 t_11 => (t_11 = 0 → X 6 r_2) ∧ (¬ t_11 = 0 → (vp_in r_8 6) ∧ (F_tmoves T_10 r_2 (fun r_14 T_13 => jn (α := TS → Int32 → Prop) (fun T_16 t_17 => (vp_in r_8 6) ∧ ((t_17 = 0 → X 7 (T_16 (78 + Int32.toNatClampNeg (r_8)))) ∧ (¬ t_17 = 0 → F_tbidsIfCan T_16 (fun r_20 T_19 => P r_20 T_19)))) (fun K_15 => (9999 < ((T_10 (78 + Int32.toNatClampNeg (r_8))) + r_14) → K_15 T_13 0) ∧ (¬ 9999 < ((T_10 (78 + Int32.toNatClampNeg (r_8))) + r_14) → K_15 T_13 1)))))) (fun K_9 => (r_8 = (-1) → K_9 T_7 0) ∧ (¬ r_8 = (-1) → K_9 T_7 1))))) (fun K_3 => (r_2 = (-1) → K_3 T_1 0) ∧ (¬ r_2 = (-1) → K_3 T_1 1)))
set_option maxHeartbeats 4000000 in
theorem M_tbidsOnce (G : GT) (l : Launch) (hG : GOK G) (hTab : TabF G) (hExc : ExcF G) (hfl : l.stackTraces = false) (h : AH) (ad : Nat → Nat) (hg : Tg ad) (hm : FreeG G) (T : TS) (P : Int32 → TS → Prop) (X : Int32 → Int32 → Prop) (hF : F_tbidsOnce T P X) : TXi G l yX2_bidsOnce cX2_bidsOnce 3 .int 7 147 3 27 [.ref (ad 0)] h ad T P X := by
  refine MX.mk (own := RX2) (by decide) rfl hG (Nat.le_of_ble_eq_true rfl) ?_
  intro p e s m below meth c args Q hargs hQ C _ htab
  rw [hQ]
  refine J.loca (L2 := [(0, .ref (ad 0))]) rfl ?_
  unfold F_tbidsOnce at hF
  refine j_aload_n C dX2_bidsOnce_0 rfl 0 rfl ?_
  refine jt_calli hg (As := []) (rest := []) C (M_tlowestFree G l hG h ad hg T _ hF) q429 cal_tlowestFree rfl rfl (Nat.le_of_ble_eq_true rfl) ⟨Nat.le_of_ble_eq_true rfl, Nat.le_of_ble_eq_true rfl⟩ dX2_bidsOnce_1 (fun r_2 T_1 hF => ?_)
  refine j_istore_n (L2 := [(1, .int r_2), (0, .ref (ad 0))]) C dX2_bidsOnce_4 rfl (by decide) rfl ?_
  refine j_iload_n C dX2_bidsOnce_5 rfl 0 rfl ?_
  refine j_iconst (v := (-1)) C dX2_bidsOnce_6 rfl ?_
  obtain ⟨K_3, hK_3, hF⟩ := jn_intro (M := fun (K : TS → Int32 → Prop) => ∀ (T_4 : TS) (t_5 : Int32), K T_4 t_5 → J G p l e ({ frames := 7, cells := 3, slots := 27, locals := 147 } : Room) s m args below meth c 3 (vx_MQ below (SQ G (fun v h' => ∃ (r : Int32) (S' : TS), v = some (.int r) ∧ h' = (TH G.2.2.1 h ad S') ∧ P r S')) (XQ G (TPX G h ad X)) args s 3 27 (fun q => G.1 ≤ q)) 3 27 (TH G.2.2.1 h ad T_4) 15 [(0, .ref (ad 0)), (1, .int r_2)] [.int t_5]) (hk := by
      intro T_4 t_5 hF
      refine j_iconst (v := 5) C dX2_bidsOnce_15 rfl ?_
      refine j_aload_n C dX2_bidsOnce_16 rfl 0 rfl ?_
      refine jtG5 C hg dX2_bidsOnce_17 ?_
      refine jt_check C htab hG hTab hExc hfl hm ⟨hF.1, fun _ => trivial⟩ (Nat.le_of_ble_eq_true rfl) ⟨Nat.le_of_ble_eq_true rfl, Nat.le_of_ble_eq_true rfl⟩ (Nat.le_of_ble_eq_true rfl) (Nat.le_of_ble_eq_true rfl) dX2_bidsOnce_20 (fun hc_6 => ?_)
      replace hF := hF.2 hc_6
      refine j_aload_n C dX2_bidsOnce_23 rfl 0 rfl ?_
      refine j_iload_n C dX2_bidsOnce_24 rfl 1 rfl ?_
      refine jt_calli hg (As := [.int r_2]) (rest := []) C (M_tlikes G l hG h ad hg T_4 r_2 _ hF) q433 cal_tlikes rfl rfl (Nat.le_of_ble_eq_true rfl) ⟨Nat.le_of_ble_eq_true rfl, Nat.le_of_ble_eq_true rfl⟩ dX2_bidsOnce_25 (fun r_8 T_7 hF => ?_)
      refine j_istore_n (L2 := [(2, .int r_8), (0, .ref (ad 0)), (1, .int r_2)]) C dX2_bidsOnce_28 rfl (by decide) rfl ?_
      refine j_iload_n C dX2_bidsOnce_29 rfl 0 rfl ?_
      refine j_iconst (v := (-1)) C dX2_bidsOnce_30 rfl ?_
      obtain ⟨K_9, hK_9, hF⟩ := jn_intro (M := fun (K : TS → Int32 → Prop) => ∀ (T_10 : TS) (t_11 : Int32), K T_10 t_11 → J G p l e ({ frames := 7, cells := 3, slots := 27, locals := 147 } : Room) s m args below meth c 3 (vx_MQ below (SQ G (fun v h' => ∃ (r : Int32) (S' : TS), v = some (.int r) ∧ h' = (TH G.2.2.1 h ad S') ∧ P r S')) (XQ G (TPX G h ad X)) args s 3 27 (fun q => G.1 ≤ q)) 2 18 (TH G.2.2.1 h ad T_10) 39 [(0, .ref (ad 0)), (1, .int r_2), (2, .int r_8)] [.int t_11]) (hk := by
          intro T_10 t_11 hF
          refine j_bipush (v := 6) C dX2_bidsOnce_39 rfl ?_
          refine j_iload_n C dX2_bidsOnce_41 rfl 1 rfl ?_
          refine jt_check C htab hG hTab hExc hfl hm ⟨hF.1, fun _ => trivial⟩ (Nat.le_of_ble_eq_true rfl) ⟨Nat.le_of_ble_eq_true rfl, Nat.le_of_ble_eq_true rfl⟩ (Nat.le_of_ble_eq_true rfl) (Nat.le_of_ble_eq_true rfl) dX2_bidsOnce_42 (fun hc_12 => ?_)
          replace hF := hF.2 hc_12
          refine j_aload_n C dX2_bidsOnce_45 rfl 0 rfl ?_
          refine jtG2 C hg dX2_bidsOnce_46 ?_
          refine j_iload_n C dX2_bidsOnce_49 rfl 2 rfl ?_
          obtain ⟨hgd, hF⟩ := hF
          refine jtL3 C hg hgd dX2_bidsOnce_50 ?_
          refine j_aload_n C dX2_bidsOnce_51 rfl 0 rfl ?_
          refine j_iload_n C dX2_bidsOnce_52 rfl 1 rfl ?_
          refine jt_calli hg (As := [.int r_2]) (rest := [.int (T_10 (78 + Int32.toNatClampNeg (r_8)))]) C (M_tmoves G l hG h ad hg T_10 r_2 _ hF) q449 cal_tmoves rfl rfl (Nat.le_of_ble_eq_true rfl) ⟨Nat.le_of_ble_eq_true rfl, Nat.le_of_ble_eq_true rfl⟩ dX2_bidsOnce_53 (fun r_14 T_13 hF => ?_)
          refine j_iadd C dX2_bidsOnce_56 ?_
          refine j_sipush (v := 9999) C dX2_bidsOnce_57 rfl ?_
          obtain ⟨K_15, hK_15, hF⟩ := jn_intro (M := fun (K : TS → Int32 → Prop) => ∀ (T_16 : TS) (t_17 : Int32), K T_16 t_17 → J G p l e ({ frames := 7, cells := 3, slots := 27, locals := 147 } : Room) s m args below meth c 3 (vx_MQ below (SQ G (fun v h' => ∃ (r : Int32) (S' : TS), v = some (.int r) ∧ h' = (TH G.2.2.1 h ad S') ∧ P r S')) (XQ G (TPX G h ad X)) args s 3 27 (fun q => G.1 ≤ q)) 1 9 (TH G.2.2.1 h ad T_16) 68 [(0, .ref (ad 0)), (2, .int r_8)] [.int t_17]) (hk := by
              intro T_16 t_17 hF
              refine j_bipush (v := 7) C dX2_bidsOnce_68 rfl ?_
              refine j_aload_n C dX2_bidsOnce_70 rfl 0 rfl ?_
              refine jtG2 C hg dX2_bidsOnce_71 ?_
              refine j_iload_n C dX2_bidsOnce_74 rfl 1 rfl ?_
              obtain ⟨hgd, hF⟩ := hF
              refine jtL3 C hg hgd dX2_bidsOnce_75 ?_
              refine jt_check C htab hG hTab hExc hfl hm ⟨hF.1, fun _ => trivial⟩ (Nat.le_of_ble_eq_true rfl) ⟨Nat.le_of_ble_eq_true rfl, Nat.le_of_ble_eq_true rfl⟩ (Nat.le_of_ble_eq_true rfl) (Nat.le_of_ble_eq_true rfl) dX2_bidsOnce_76 (fun hc_18 => ?_)
              replace hF := hF.2 hc_18
              refine j_aload_n C dX2_bidsOnce_79 rfl 0 rfl ?_
              refine jt_calli hg (As := []) (rest := []) C (M_tbidsIfCan G l hG h ad hg hm T_16 _ hF) q453 cal_tbidsIfCan rfl rfl (Nat.le_of_ble_eq_true rfl) ⟨Nat.le_of_ble_eq_true rfl, Nat.le_of_ble_eq_true rfl⟩ dX2_bidsOnce_80 (fun r_20 T_19 hF => ?_)
              exact jx_iret rfl C ⟨_, _, rfl, rfl, hF⟩ dX2_bidsOnce_83) hF
          refine j_icmp_gt (tgt := 67) C dX2_bidsOnce_60 (by decide) (fun hc_21 => ?_) (fun hc_21 => ?_)
          · replace hF := hF.1 hc_21
            refine j_iconst (v := 0) C dX2_bidsOnce_67 rfl ?_
            exact J.locals [0, 2] (hK_15 _ _ hF) rfl
          · replace hF := hF.2 hc_21
            refine j_iconst (v := 1) C dX2_bidsOnce_63 rfl ?_
            refine j_goto (tgt := 68) C dX2_bidsOnce_64 (by decide) ?_
            exact J.locals [0, 2] (hK_15 _ _ hF) rfl) hF
      refine j_icmp_eq (tgt := 38) C dX2_bidsOnce_31 (by decide) (fun hc_22 => ?_) (fun hc_22 => ?_)
      · replace hF := hF.1 hc_22
        refine j_iconst (v := 0) C dX2_bidsOnce_38 rfl ?_
        exact J.locals [1, 2, 0] (hK_9 _ _ hF) rfl
      · replace hF := hF.2 hc_22
        refine j_iconst (v := 1) C dX2_bidsOnce_34 rfl ?_
        refine j_goto (tgt := 39) C dX2_bidsOnce_35 (by decide) ?_
        exact J.locals [1, 2, 0] (hK_9 _ _ hF) rfl) hF
  refine j_icmp_eq (tgt := 14) C dX2_bidsOnce_7 (by decide) (fun hc_23 => ?_) (fun hc_23 => ?_)
  · replace hF := hF.1 hc_23
    refine j_iconst (v := 0) C dX2_bidsOnce_14 rfl ?_
    exact J.locals [1, 0] (hK_3 _ _ hF) rfl
  · replace hF := hF.2 hc_23
    refine j_iconst (v := 1) C dX2_bidsOnce_10 rfl ?_
    refine j_goto (tgt := 15) C dX2_bidsOnce_11 (by decide) ?_
    exact J.locals [1, 0] (hK_3 _ _ hF) rfl
theorem cal_tleaves : CalV yX2_leaves RX2 cX2_leaves 3 (some .int) 1 := ⟨q415, q416, q94, q417, by decide +kernel⟩
def F_tleaves (T : TS) (x1 : Int32) (P : Int32 → TS → Prop) (X : Int32 → Int32 → Prop) : Prop := F_tcheckApprentice T x1 (fun T_1 => (vp_in x1 6) ∧ (jn (α := TS → Int32 → Prop) (fun T_3 t_4 => (t_4 = 0 → X 9 x1) ∧ (¬ t_4 = 0 → (vp_in x1 6) ∧ (nm (upd T_3 (84 + Int32.toNatClampNeg (x1)) (-1)) (fun T_6 => P (T_1 (84 + Int32.toNatClampNeg (x1))) T_6)))) (fun K_2 => ((T_1 (84 + Int32.toNatClampNeg (x1))) = (-1) → K_2 T_1 0) ∧ (¬ (T_1 (84 + Int32.toNatClampNeg (x1))) = (-1) → K_2 T_1 1)))) X
set_option maxHeartbeats 4000000 in
theorem M_tleaves (G : GT) (l : Launch) (hG : GOK G) (hTab : TabF G) (hExc : ExcF G) (hfl : l.stackTraces = false) (h : AH) (ad : Nat → Nat) (hg : Tg ad) (hm : FreeG G) (T : TS) (x1 : Int32) (P : Int32 → TS → Prop) (X : Int32 → Int32 → Prop) (hF : F_tleaves T x1 P X) : TXi G l yX2_leaves cX2_leaves 3 .int 8 168 2 18 [.ref (ad 0), .int x1] h ad T P X := by
  refine MX.mk (own := RX2) (by decide) rfl hG (Nat.le_of_ble_eq_true rfl) ?_
  intro p e s m below meth c args Q hargs hQ C _ htab
  rw [hQ]
  refine J.loca (L2 := [(0, .ref (ad 0)), (1, .int x1)]) rfl ?_
  unfold F_tleaves at hF
  refine j_aload_n C dX2_leaves_0 rfl 0 rfl ?_
  refine j_iload_n C dX2_leaves_1 rfl 1 rfl ?_
  refine jt_callxv hg C htab (As := [.int x1]) (rest := []) (M_tcheckApprentice G l hG hTab hExc hfl h ad hg hm T x1 _ X hF) q402 cal_tcheckApprentice rfl rfl (Nat.le_of_ble_eq_true rfl) ⟨Nat.le_of_ble_eq_true rfl, Nat.le_of_ble_eq_true rfl⟩ (Nat.le_of_ble_eq_true rfl) (Nat.le_of_ble_eq_true rfl) dX2_leaves_2 (fun T_1 hF => ?_)
  refine j_aload_n C dX2_leaves_5 rfl 0 rfl ?_
  refine jtG4 C hg dX2_leaves_6 ?_
  refine j_iload_n C dX2_leaves_9 rfl 1 rfl ?_
  obtain ⟨hgd, hF⟩ := hF
  refine jtL5 C hg hgd dX2_leaves_10 ?_
  refine j_istore_n (L2 := [(2, .int (T_1 (84 + Int32.toNatClampNeg (x1)))), (0, .ref (ad 0)), (1, .int x1)]) C dX2_leaves_11 rfl (by decide) rfl ?_
  refine j_iload_n C dX2_leaves_12 rfl 0 rfl ?_
  refine j_iconst (v := (-1)) C dX2_leaves_13 rfl ?_
  obtain ⟨K_2, hK_2, hF⟩ := jn_intro (M := fun (K : TS → Int32 → Prop) => ∀ (T_3 : TS) (t_4 : Int32), K T_3 t_4 → J G p l e ({ frames := 8, cells := 2, slots := 18, locals := 168 } : Room) s m args below meth c 3 (vx_MQ below (SQ G (fun v h' => ∃ (r : Int32) (S' : TS), v = some (.int r) ∧ h' = (TH G.2.2.1 h ad S') ∧ P r S')) (XQ G (TPX G h ad X)) args s 2 18 (fun q => G.1 ≤ q)) 1 9 (TH G.2.2.1 h ad T_3) 22 [(0, .ref (ad 0)), (1, .int x1), (2, .int (T_1 (84 + Int32.toNatClampNeg (x1))))] [.int t_4]) (hk := by
      intro T_3 t_4 hF
      refine j_bipush (v := 9) C dX2_leaves_22 rfl ?_
      refine j_iload_n C dX2_leaves_24 rfl 1 rfl ?_
      refine jt_check C htab hG hTab hExc hfl hm ⟨hF.1, fun _ => trivial⟩ (Nat.le_of_ble_eq_true rfl) ⟨Nat.le_of_ble_eq_true rfl, Nat.le_of_ble_eq_true rfl⟩ (Nat.le_of_ble_eq_true rfl) (Nat.le_of_ble_eq_true rfl) dX2_leaves_25 (fun hc_5 => ?_)
      replace hF := hF.2 hc_5
      refine j_aload_n C dX2_leaves_28 rfl 0 rfl ?_
      refine jtG4 C hg dX2_leaves_29 ?_
      refine j_iload_n C dX2_leaves_32 rfl 1 rfl ?_
      refine j_iconst (v := (-1)) C dX2_leaves_33 rfl ?_
      obtain ⟨hgd, hF⟩ := hF
      refine jtS5 C hg hm hgd dX2_leaves_34 ?_
      obtain ⟨T_6, eT_6, hF⟩ := nm_intro hF
      refine t_J eT_6 ?_
      refine j_iload_n C dX2_leaves_35 rfl 2 rfl ?_
      exact jx_iret rfl C ⟨_, _, rfl, rfl, hF⟩ dX2_leaves_36) hF
  refine j_icmp_eq (tgt := 21) C dX2_leaves_14 (by decide) (fun hc_7 => ?_) (fun hc_7 => ?_)
  · replace hF := hF.1 hc_7
    refine j_iconst (v := 0) C dX2_leaves_21 rfl ?_
    exact J.locals [1, 2, 0] (hK_2 _ _ hF) rfl
  · replace hF := hF.2 hc_7
    refine j_iconst (v := 1) C dX2_leaves_17 rfl ?_
    refine j_goto (tgt := 22) C dX2_leaves_18 (by decide) ?_
    exact J.locals [1, 2, 0] (hK_2 _ _ hF) rfl
theorem cal_tmasterComes : CalV yX2_masterComes RX2 cX2_masterComes 1 (some .int) 0 := ⟨q299, q300, q94, q301, by decide +kernel⟩
def F_tmasterComes (T : TS) (P : Int32 → TS → Prop) (X : Int32 → Int32 → Prop) : Prop := jn (α := TS → Int32 → Prop) (fun T_2 t_3 => (t_3 = 0 → X 1 6) ∧ (¬ t_3 = 0 → nm (upd T_2 1 ((T_2 1) + 1)) (fun T_5 => F_tbeginsAnew T_5 (fun T_6 => P ((T_6 1) - 1) T_6)))) (fun K_1 => (6 ≤ (T 1) → K_1 T 0) ∧ (¬ 6 ≤ (T 1) → K_1 T 1))
set_option maxHeartbeats 4000000 in
theorem M_tmasterComes (G : GT) (l : Launch) (hG : GOK G) (hTab : TabF G) (hExc : ExcF G) (hfl : l.stackTraces = false) (h : AH) (ad : Nat → Nat) (hg : Tg ad) (hm : FreeG G) (T : TS) (P : Int32 → TS → Prop) (X : Int32 → Int32 → Prop) (hF : F_tmasterComes T P X) : TXi G l yX2_masterComes cX2_masterComes 1 .int 7 147 1 9 [.ref (ad 0)] h ad T P X := by
  refine MX.mk (own := RX2) (by decide) rfl hG (Nat.le_of_ble_eq_true rfl) ?_
  intro p e s m below meth c args Q hargs hQ C _ htab
  rw [hQ]
  refine J.loca (L2 := [(0, .ref (ad 0))]) rfl ?_
  unfold F_tmasterComes at hF
  refine j_aload_n C dX2_masterComes_0 rfl 0 rfl ?_
  refine jtG6 C hg dX2_masterComes_1 ?_
  refine j_bipush (v := 6) C dX2_masterComes_4 rfl ?_
  obtain ⟨K_1, hK_1, hF⟩ := jn_intro (M := fun (K : TS → Int32 → Prop) => ∀ (T_2 : TS) (t_3 : Int32), K T_2 t_3 → J G p l e ({ frames := 7, cells := 1, slots := 9, locals := 147 } : Room) s m args below meth c 1 (vx_MQ below (SQ G (fun v h' => ∃ (r : Int32) (S' : TS), v = some (.int r) ∧ h' = (TH G.2.2.1 h ad S') ∧ P r S')) (XQ G (TPX G h ad X)) args s 1 9 (fun q => G.1 ≤ q)) 1 9 (TH G.2.2.1 h ad T_2) 14 [(0, .ref (ad 0))] [.int t_3]) (hk := by
      intro T_2 t_3 hF
      refine j_iconst (v := 1) C dX2_masterComes_14 rfl ?_
      refine j_bipush (v := 6) C dX2_masterComes_15 rfl ?_
      refine jt_check C htab hG hTab hExc hfl hm ⟨hF.1, fun _ => trivial⟩ (Nat.le_of_ble_eq_true rfl) ⟨Nat.le_of_ble_eq_true rfl, Nat.le_of_ble_eq_true rfl⟩ (Nat.le_of_ble_eq_true rfl) (Nat.le_of_ble_eq_true rfl) dX2_masterComes_17 (fun hc_4 => ?_)
      replace hF := hF.2 hc_4
      refine j_aload_n C dX2_masterComes_20 rfl 0 rfl ?_
      refine j_dup C dX2_masterComes_21 rfl ?_
      refine jtG6 C hg dX2_masterComes_22 ?_
      refine j_iconst (v := 1) C dX2_masterComes_25 rfl ?_
      refine j_iadd C dX2_masterComes_26 ?_
      refine jtP6 C hg hm dX2_masterComes_27 ?_
      obtain ⟨T_5, eT_5, hF⟩ := nm_intro hF
      refine t_J eT_5 ?_
      refine j_aload_n C dX2_masterComes_30 rfl 0 rfl ?_
      refine jt_callv hg (As := []) (rest := []) C (M_tbeginsAnew G l hG h ad hg hm T_5 _ hF) q385 cal_tbeginsAnew rfl rfl (Nat.le_of_ble_eq_true rfl) ⟨Nat.le_of_ble_eq_true rfl, Nat.le_of_ble_eq_true rfl⟩ dX2_masterComes_31 (fun T_6 hF => ?_)
      refine j_aload_n C dX2_masterComes_34 rfl 0 rfl ?_
      refine jtG6 C hg dX2_masterComes_35 ?_
      refine j_iconst (v := 1) C dX2_masterComes_38 rfl ?_
      refine j_isub C dX2_masterComes_39 ?_
      exact jx_iret rfl C ⟨_, _, rfl, rfl, hF⟩ dX2_masterComes_40) hF
  refine j_icmp_ge (tgt := 13) C dX2_masterComes_6 (by decide) (fun hc_7 => ?_) (fun hc_7 => ?_)
  · replace hF := hF.1 hc_7
    refine j_iconst (v := 0) C dX2_masterComes_13 rfl ?_
    exact J.locals [0] (hK_1 _ _ hF) rfl
  · replace hF := hF.2 hc_7
    refine j_iconst (v := 1) C dX2_masterComes_9 rfl ?_
    refine j_goto (tgt := 14) C dX2_masterComes_10 (by decide) ?_
    exact J.locals [0] (hK_1 _ _ hF) rfl
theorem cal_ttellsCost : CalV yX2_tellsCost RX2 cX2_tellsCost 5 (some .int) 3 := ⟨q410, q411, q94, q412, by decide +kernel⟩
def F_ttellsCost (T : TS) (x1 : Int32) (x2 : Int32) (x3 : Int32) (P : Int32 → TS → Prop) (X : Int32 → Int32 → Prop) : Prop := F_tcheckBoth T x1 x2 (fun T_1 => ((bet x3 0 60) = 0 → X 3 x3) ∧ (¬ (bet x3 0 60) = 0 → (vp_in x1 6) ∧ ((vp_in x2 6) ∧ (jn (α := TS → Int32 → Prop) (fun T_4 t_5 => (t_5 = 0 → X 4 x3) ∧ (¬ t_5 = 0 → (vp_in x1 6) ∧ ((vp_in x2 6) ∧ (nm (upd T_4 (6 + 6 * Int32.toNatClampNeg (x1) + Int32.toNatClampNeg (x2)) x3) (fun T_7 => P (T_1 (6 + 6 * Int32.toNatClampNeg (x1) + Int32.toNatClampNeg (x2))) T_7))))) (fun K_3 => (x3 = (T_1 (6 + 6 * Int32.toNatClampNeg (x1) + Int32.toNatClampNeg (x2))) → K_3 T_1 0) ∧ (¬ x3 = (T_1 (6 + 6 * Int32.toNatClampNeg (x1) + Int32.toNatClampNeg (x2))) → K_3 T_1 1)))))) X
set_option maxHeartbeats 4000000 in
theorem M_ttellsCost (G : GT) (l : Launch) (hG : GOK G) (hTab : TabF G) (hExc : ExcF G) (hfl : l.stackTraces = false) (h : AH) (ad : Nat → Nat) (hg : Tg ad) (hm : FreeG G) (T : TS) (x1 : Int32) (x2 : Int32) (x3 : Int32) (P : Int32 → TS → Prop) (X : Int32 → Int32 → Prop) (hF : F_ttellsCost T x1 x2 x3 P X) : TXi G l yX2_tellsCost cX2_tellsCost 5 .int 9 190 4 36 [.ref (ad 0), .int x1, .int x2, .int x3] h ad T P X := by
  refine MX.mk (own := RX2) (by decide) rfl hG (Nat.le_of_ble_eq_true rfl) ?_
  intro p e s m below meth c args Q hargs hQ C _ htab
  rw [hQ]
  refine J.loca (L2 := [(0, .ref (ad 0)), (1, .int x1), (2, .int x2), (3, .int x3)]) rfl ?_
  unfold F_ttellsCost at hF
  refine j_aload_n C dX2_tellsCost_0 rfl 0 rfl ?_
  refine j_iload_n C dX2_tellsCost_1 rfl 1 rfl ?_
  refine j_iload_n C dX2_tellsCost_2 rfl 2 rfl ?_
  refine jt_callxv hg C htab (As := [.int x1, .int x2]) (rest := []) (M_tcheckBoth G l hG hTab hExc hfl h ad hg hm T x1 x2 _ X hF) q398 cal_tcheckBoth rfl rfl (Nat.le_of_ble_eq_true rfl) ⟨Nat.le_of_ble_eq_true rfl, Nat.le_of_ble_eq_true rfl⟩ (Nat.le_of_ble_eq_true rfl) (Nat.le_of_ble_eq_true rfl) dX2_tellsCost_3 (fun T_1 hF => ?_)
  refine j_iload_n C dX2_tellsCost_6 rfl 3 rfl ?_
  refine j_iconst (v := 0) C dX2_tellsCost_7 rfl ?_
  refine j_bipush (v := 60) C dX2_tellsCost_8 rfl ?_
  refine jt_between C hG hTab (Nat.le_of_ble_eq_true rfl) ⟨Nat.le_of_ble_eq_true rfl, Nat.le_of_ble_eq_true rfl⟩ dX2_tellsCost_10 ?_
  refine j_iconst (v := 3) C dX2_tellsCost_13 rfl ?_
  refine j_iload_n C dX2_tellsCost_14 rfl 3 rfl ?_
  refine jt_check C htab hG hTab hExc hfl hm ⟨hF.1, fun _ => trivial⟩ (Nat.le_of_ble_eq_true rfl) ⟨Nat.le_of_ble_eq_true rfl, Nat.le_of_ble_eq_true rfl⟩ (Nat.le_of_ble_eq_true rfl) (Nat.le_of_ble_eq_true rfl) dX2_tellsCost_15 (fun hc_2 => ?_)
  replace hF := hF.2 hc_2
  refine j_aload_n C dX2_tellsCost_18 rfl 0 rfl ?_
  refine jtG0 C hg dX2_tellsCost_19 ?_
  refine j_iload_n C dX2_tellsCost_22 rfl 1 rfl ?_
  obtain ⟨hgd, hF⟩ := hF
  have hw_17 := in_lt6 hgd
  refine jtO1 C hg hgd dX2_tellsCost_23 ?_
  refine j_iload_n C dX2_tellsCost_24 rfl 2 rfl ?_
  obtain ⟨hgd, hF⟩ := hF
  refine jtLc C hg hw_17 hgd dX2_tellsCost_25 ?_
  refine j_istore (L2 := [(4, .int (T_1 (6 + 6 * Int32.toNatClampNeg (x1) + Int32.toNatClampNeg (x2)))), (0, .ref (ad 0)), (1, .int x1), (2, .int x2), (3, .int x3)]) C dX2_tellsCost_26 (by decide) rfl ?_
  refine j_iload_n C dX2_tellsCost_28 rfl 4 rfl ?_
  refine j_iload C dX2_tellsCost_29 0 rfl ?_
  obtain ⟨K_3, hK_3, hF⟩ := jn_intro (M := fun (K : TS → Int32 → Prop) => ∀ (T_4 : TS) (t_5 : Int32), K T_4 t_5 → J G p l e ({ frames := 9, cells := 4, slots := 36, locals := 190 } : Room) s m args below meth c 5 (vx_MQ below (SQ G (fun v h' => ∃ (r : Int32) (S' : TS), v = some (.int r) ∧ h' = (TH G.2.2.1 h ad S') ∧ P r S')) (XQ G (TPX G h ad X)) args s 4 36 (fun q => G.1 ≤ q)) 1 9 (TH G.2.2.1 h ad T_4) 39 [(0, .ref (ad 0)), (1, .int x1), (2, .int x2), (3, .int x3), (4, .int (T_1 (6 + 6 * Int32.toNatClampNeg (x1) + Int32.toNatClampNeg (x2))))] [.int t_5]) (hk := by
      intro T_4 t_5 hF
      refine j_iconst (v := 4) C dX2_tellsCost_39 rfl ?_
      refine j_iload_n C dX2_tellsCost_40 rfl 3 rfl ?_
      refine jt_check C htab hG hTab hExc hfl hm ⟨hF.1, fun _ => trivial⟩ (Nat.le_of_ble_eq_true rfl) ⟨Nat.le_of_ble_eq_true rfl, Nat.le_of_ble_eq_true rfl⟩ (Nat.le_of_ble_eq_true rfl) (Nat.le_of_ble_eq_true rfl) dX2_tellsCost_41 (fun hc_6 => ?_)
      replace hF := hF.2 hc_6
      refine j_aload_n C dX2_tellsCost_44 rfl 0 rfl ?_
      refine jtG0 C hg dX2_tellsCost_45 ?_
      refine j_iload_n C dX2_tellsCost_48 rfl 1 rfl ?_
      obtain ⟨hgd, hF⟩ := hF
      have hw_18 := in_lt6 hgd
      refine jtO1 C hg hgd dX2_tellsCost_49 ?_
      refine j_iload_n C dX2_tellsCost_50 rfl 2 rfl ?_
      refine j_iload_n C dX2_tellsCost_51 rfl 3 rfl ?_
      obtain ⟨hgd, hF⟩ := hF
      refine jtSc C hg hm hw_18 hgd dX2_tellsCost_52 ?_
      obtain ⟨T_7, eT_7, hF⟩ := nm_intro hF
      refine t_J eT_7 ?_
      refine j_iload C dX2_tellsCost_53 4 rfl ?_
      exact jx_iret rfl C ⟨_, _, rfl, rfl, hF⟩ dX2_tellsCost_55) hF
  refine j_icmp_eq (tgt := 38) C dX2_tellsCost_31 (by decide) (fun hc_8 => ?_) (fun hc_8 => ?_)
  · replace hF := hF.1 hc_8
    refine j_iconst (v := 0) C dX2_tellsCost_38 rfl ?_
    exact J.locals [1, 2, 3, 4, 0] (hK_3 _ _ hF) rfl
  · replace hF := hF.2 hc_8
    refine j_iconst (v := 1) C dX2_tellsCost_34 rfl ?_
    refine j_goto (tgt := 39) C dX2_tellsCost_35 (by decide) ?_
    exact J.locals [1, 2, 3, 4, 0] (hK_3 _ _ hF) rfl
