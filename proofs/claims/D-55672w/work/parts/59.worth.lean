/-! Kind.worth, its three bodies (X14 PRICE, X18 YEARS, X13 COST) -/
set_option maxRecDepth 100000
def F_worth1 (T : TS) (x : Int32) (P : Int32 → TS → Prop) : Prop := vp_in x 6 ∧ P (T (78 + x.toNatClampNeg)) T
def F_worth2 (T : TS) (x : Int32) (P : Int32 → TS → Prop) : Prop := F_tyearsAt T x P
def F_worth3 (T : TS) (x : Int32) (P : Int32 → TS → Prop) : Prop := F_tapprenticeAt T x (fun r S => (r = -1 → P (-1000000) S) ∧ (¬ r = -1 → vp_in r 6 ∧ vp_in x 6 ∧ P (-(S (6 + 6 * r.toNatClampNeg + x.toNatClampNeg))) S))
set_option maxHeartbeats 4000000 in
theorem M_worth1 (G : GT) (l : Launch) (hG : GOK G) (hT : TabF G) (h : AH) (ad : Nat → Nat) (hg : Tg ad) (T : TS) (kq : Nat) (x : Int32) (P : Int32 → TS → Prop) (hF : F_worth1 T x P) : MB G l RX14 cX14_worth 3 (some .int) 0 0 0 0 [.ref kq, .ref (ad 0), .int x] (TH G.2.2.1 h ad T) (fun v h' => ∃ (r : Int32) (S' : TS), v = some (.int r) ∧ h' = TH G.2.2.1 h ad S' ∧ P r S') := by
  intro p e s m below meth c args Q hargs hQ C
  refine J.loca (L2 := [(0, .ref kq), (1, .ref (ad 0)), (2, .int x)]) rfl ?_
  obtain ⟨hi, hF⟩ := hF
  refine j_aload_n C dX14_worth_0 rfl 1 rfl ?_
  refine j_getN C (TH_at hg (k := 0) (by decide)) rfl in_X2 2 (by decide) (C.tab hT q159 rfl) rfl rfl dX14_worth_1 ?_
  refine j_iload_n C dX14_worth_4 rfl 2 rfl ?_
  refine j_iald C (f := cut6 fun j => T (78 + j)) (TH_at hg (k := 3) (by decide)) hi dX14_worth_5 ?_
  rw [cut6_at (in_lt6 hi), hQ]
  exact j_iret C rfl ⟨_, _, rfl, rfl, hF⟩ dX14_worth_6
set_option maxHeartbeats 4000000 in
theorem M_worth2 (G : GT) (l : Launch) (hG : GOK G) (hT : TabF G) (hLm : LamG G) (hm : FreeG G) (h : AH) (ad : Nat → Nat) (hg : Tg ad) (T : TS) (kq : Nat) (x : Int32) (P : Int32 → TS → Prop) (hF : F_worth2 T x P) : MB G l RX18 cX18_worth 3 (some .int) 6 3200 1 2 [.ref kq, .ref (ad 0), .int x] (TH G.2.2.1 h ad T) (fun v h' => ∃ (r : Int32) (S' : TS), v = some (.int r) ∧ h' = TH G.2.2.1 h ad S' ∧ P r S') := by
  intro p e s m below meth c args Q hargs hQ C
  refine J.loca (L2 := [(0, .ref kq), (1, .ref (ad 0)), (2, .int x)]) rfl ?_
  unfold F_worth2 at hF
  refine j_aload_n C dX18_worth_0 rfl 1 rfl ?_
  refine j_iload_n C dX18_worth_1 rfl 2 rfl ?_
  refine jt_calliA hg (As := [.int x]) (rest := []) C (M_tyearsAt G l hG hT hLm hm h ad hg T x _ hF) q1413 cal_tyearsAt rfl rfl (Nat.le_of_ble_eq_true rfl) ⟨Nat.le_of_ble_eq_true rfl, Nat.le_of_ble_eq_true rfl⟩ (Nat.le_of_ble_eq_true rfl) (Nat.le_of_ble_eq_true rfl) dX18_worth_2 (fun r S hF => ?_)
  rw [hQ]
  exact j_iret C rfl ⟨_, _, rfl, rfl, hF⟩ dX18_worth_5
set_option maxHeartbeats 4000000 in
theorem M_worth3 (G : GT) (l : Launch) (hG : GOK G) (hT : TabF G) (h : AH) (ad : Nat → Nat) (hg : Tg ad) (T : TS) (kq : Nat) (x : Int32) (P : Int32 → TS → Prop) (hF : F_worth3 T x P) : MB G l RX13 cX13_worth 4 (some .int) 1 60 0 0 [.ref kq, .ref (ad 0), .int x] (TH G.2.2.1 h ad T) (fun v h' => ∃ (r : Int32) (S' : TS), v = some (.int r) ∧ h' = TH G.2.2.1 h ad S' ∧ P r S') := by
  intro p e s m below meth c args Q hargs hQ C
  refine J.loca (L2 := [(0, .ref kq), (1, .ref (ad 0)), (2, .int x)]) rfl ?_
  unfold F_worth3 at hF
  refine j_aload_n C dX13_worth_0 rfl 1 rfl ?_
  refine j_iload_n C dX13_worth_1 rfl 2 rfl ?_
  refine j_callV C (As := [.int x]) (rest := []) (M_tapprenticeAt G l hG h ad hg T x _ hF) q1417 cal_tapprenticeAt (TH_at hg (k := 0) (by decide)) rfl rfl rfl (Nat.le_of_ble_eq_true rfl) ⟨Nat.le_of_ble_eq_true rfl, Nat.le_of_ble_eq_true rfl⟩ (Nat.zero_le _) (Nat.zero_le _) dX13_worth_2 (fun v h' hv => ?_)
  obtain ⟨r, S, rfl, rfl, hF⟩ := hv
  refine j_istore_n (L2 := [(3, .int r), (0, .ref kq), (1, .ref (ad 0)), (2, .int x)]) C dX13_worth_5 rfl (by decide) rfl ?_
  refine j_iload_n C dX13_worth_6 rfl 0 rfl ?_
  refine j_iconst (v := -1) C dX13_worth_7 rfl ?_
  refine j_icmp_ne (tgt := 16) C dX13_worth_8 (by decide) (fun hc => ?_) (fun hc => ?_)
  · obtain ⟨hr, hx, hF⟩ := hF.2 hc
    refine j_aload_n C dX13_worth_16 rfl 2 rfl ?_
    refine j_getN C (TH_at hg (k := 0) (by decide)) rfl in_X2 0 (by decide) (C.tab hT q153 rfl) rfl rfl dX13_worth_17 ?_
    refine j_iload_n C dX13_worth_20 rfl 0 rfl ?_
    refine j_aald (di := 6) C (TH_at hg (k := 1) (by decide)) rfl rfl hr dX13_worth_21 ?_
    refine j_iload_n C dX13_worth_22 rfl 3 rfl ?_
    have hr6 := in_lt6 hr
    refine j_iald C (f := cut6 fun j => S (6 + 6 * r.toNatClampNeg + j)) ((TH_at hg (k := 6 + r.toNatClampNeg) (by omega)).trans (by rw [tcell_c])) hx dX13_worth_23 ?_
    rw [cut6_at (in_lt6 hx)]
    refine j_ineg C dX13_worth_24 ?_
    rw [hQ]
    exact j_iret C rfl ⟨_, _, rfl, rfl, hF⟩ dX13_worth_25
  · replace hF := hF.1 hc
    refine j_ldc C dX13_worth_11 q1418 ?_
    refine j_goto (tgt := 25) C dX13_worth_13 (by decide) ?_
    rw [hQ]
    exact j_iret C rfl ⟨_, _, rfl, rfl, hF⟩ dX13_worth_25
