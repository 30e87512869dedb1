/-! Town.settles (printed by gen/gosettles.py) -/
set_option maxRecDepth 100000
theorem cal_tsettles : CalV yX2_settles RX2 cX2_settles 2 (some .int) 0 := ⟨q465, q466, q94, q467, by decide +kernel⟩
def F_tsettles (T : TS) (P : Int32 → TS → Prop) (X : Int32 → Int32 → Prop) : Prop := F_tmost T (fun r_2 T_1 => jn (α := TS → Int32 → Prop) (fun T_4 t_5 => (t_5 = 0 → X 8 r_2) ∧ (¬ t_5 = 0 → F_tbeginsAnew T_4 (fun T_7 => nm (upd T_7 5 ((T_7 5) + 1)) (fun T_8 => F_tbidsOn T_8 (fun r_10 T_9 => P r_10 T_9))))) (fun K_3 => (r_2 = (T_1 0) → K_3 T_1 1) ∧ (¬ r_2 = (T_1 0) → K_3 T_1 0)))
set_option maxHeartbeats 4000000 in
theorem M_tsettles (G : GT) (l : Launch) (hG : GOK G) (hTab : TabF G) (hExc : ExcF G) (hfl : l.stackTraces = false) (h : AH) (ad : Nat → Nat) (hg : Tg ad) (hm : FreeG G) (T : TS) (P : Int32 → TS → Prop) (X : Int32 → Int32 → Prop) (hF : F_tsettles T P X) : TXi G l yX2_settles cX2_settles 2 .int 12 323 9 57 [.ref (ad 0)] h ad T P X := by
  refine MX.mk (own := RX2) (by decide) rfl hG (Nat.le_of_ble_eq_true rfl) ?_
  intro p e s m below meth c args Q hargs hQ C _ htab
  rw [hQ]
  refine J.loca (L2 := [(0, .ref (ad 0))]) rfl ?_
  unfold F_tsettles at hF
  refine j_aload_n C dX2_settles_0 rfl 0 rfl ?_
  refine jt_calliA hg (As := []) (rest := []) C (M_tmost G l hG hm h ad hg T _ hF) q468 cal_tmost rfl rfl (Nat.le_of_ble_eq_true rfl) ⟨Nat.le_of_ble_eq_true rfl, Nat.le_of_ble_eq_true rfl⟩ (Nat.le_of_ble_eq_true rfl) (Nat.le_of_ble_eq_true rfl) dX2_settles_1 (fun r_2 T_1 hF => ?_)
  refine j_istore_n (L2 := [(1, .int r_2), (0, .ref (ad 0))]) C dX2_settles_4 rfl (by decide) rfl ?_
  refine j_iload_n C dX2_settles_5 rfl 0 rfl ?_
  refine j_aload_n C dX2_settles_6 rfl 1 rfl ?_
  refine jtG5 C hg dX2_settles_7 ?_
  obtain ⟨K_3, hK_3, hF⟩ := jn_intro (M := fun (K : TS → Int32 → Prop) => ∀ (T_4 : TS) (t_5 : Int32), K T_4 t_5 → J G p l e ({ frames := 12, cells := 9, slots := 57, locals := 323 } : Room) s m args below meth c 2 (vx_MQ below (SQ G (fun v h' => ∃ (r : Int32) (S' : TS), v = some (.int r) ∧ h' = (TH G.2.2.1 h ad S') ∧ P r S')) (XQ G (TPX G h ad X)) args s 9 57 (fun q => G.1 ≤ q)) 1 9 (TH G.2.2.1 h ad T_4) 18 [(0, .ref (ad 0)), (1, .int r_2)] [.int t_5]) (hk := by
      intro T_4 t_5 hF
      refine j_bipush (v := 8) C dX2_settles_18 rfl ?_
      refine j_iload_n C dX2_settles_20 rfl 1 rfl ?_
      refine jt_check C htab hG hTab hExc hfl hm ⟨hF.1, fun _ => trivial⟩ (Nat.le_of_ble_eq_true rfl) ⟨Nat.le_of_ble_eq_true rfl, Nat.le_of_ble_eq_true rfl⟩ (Nat.le_of_ble_eq_true rfl) (Nat.le_of_ble_eq_true rfl) dX2_settles_21 (fun hc_6 => ?_)
      replace hF := hF.2 hc_6
      refine j_aload_n C dX2_settles_24 rfl 0 rfl ?_
      refine jt_callv hg (As := []) (rest := []) C (M_tbeginsAnew G l hG h ad hg hm T_4 _ hF) q385 cal_tbeginsAnew rfl rfl (Nat.le_of_ble_eq_true rfl) ⟨Nat.le_of_ble_eq_true rfl, Nat.le_of_ble_eq_true rfl⟩ dX2_settles_25 (fun T_7 hF => ?_)
      refine j_aload_n C dX2_settles_28 rfl 0 rfl ?_
      refine j_dup C dX2_settles_29 rfl ?_
      refine jtG9 C hg dX2_settles_30 ?_
      refine j_iconst (v := 1) C dX2_settles_33 rfl ?_
      refine j_iadd C dX2_settles_34 ?_
      refine jtP9 C hg hm dX2_settles_35 ?_
      obtain ⟨T_8, eT_8, hF⟩ := nm_intro hF
      refine t_J eT_8 ?_
      refine j_aload_n C dX2_settles_38 rfl 0 rfl ?_
      refine jt_calli hg (As := []) (rest := []) C (M_tbidsOn G l hG h ad hg hm T_8 _ hF) q476 cal_tbidsOn rfl rfl (Nat.le_of_ble_eq_true rfl) ⟨Nat.le_of_ble_eq_true rfl, Nat.le_of_ble_eq_true rfl⟩ dX2_settles_39 (fun r_10 T_9 hF => ?_)
      exact jx_iret rfl C ⟨_, _, rfl, rfl, hF⟩ dX2_settles_42) hF
  refine j_icmp_ne (tgt := 17) C dX2_settles_10 (by decide) (fun hc_11 => ?_) (fun hc_11 => ?_)
  · replace hF := hF.2 hc_11
    refine j_iconst (v := 0) C dX2_settles_17 rfl ?_
    exact J.locals [1, 0] (hK_3 _ _ hF) rfl
  · replace hF := hF.1 hc_11
    refine j_iconst (v := 1) C dX2_settles_13 rfl ?_
    refine j_goto (tgt := 18) C dX2_settles_14 (by decide) ?_
    exact J.locals [1, 0] (hK_3 _ _ hF) rfl
