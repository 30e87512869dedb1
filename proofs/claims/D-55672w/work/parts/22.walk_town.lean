/-! THE TOWN's plain methods: mirrors and walks (printed by gen/gotown.py) -/
set_option maxRecDepth 100000
theorem cal_tapprenticeAt : CalV yX2_apprenticeAt RX2 cX2_apprenticeAt 3 (some .int) 1 := ⟨q458, q459, q94, q460, by decide +kernel⟩
def L_tapprenticeAt_2 (P : Int32 → TS → Prop) (f1 : Int32) : Nat → TS → Int32 → Prop
  | 0, _, _ => False
  | n + 1, T, z2 => ((T 0) ≤ z2 → P (-1) T) ∧ (¬ (T 0) ≤ z2 → (vp_in z2 6) ∧ (((T (84 + Int32.toNatClampNeg (z2))) = f1 → P z2 T) ∧ (¬ (T (84 + Int32.toNatClampNeg (z2))) = f1 → L_tapprenticeAt_2 P f1 n T (z2 + 1))))
def F_tapprenticeAt (T : TS) (x1 : Int32) (P : Int32 → TS → Prop) : Prop := L_tapprenticeAt_2  P x1 NF T 0
set_option maxHeartbeats 4000000 in
theorem WL_tapprenticeAt_2 {G : GT} {p : Program} {l : Launch} {e : Env} {s : State} {m : MethodId} {args : Array Value} {below : List Frame} {meth : Method} {c : Code} {h : AH} {ad : Nat → Nat} {Q : State → Prop} (C : Cx G p s m args meth c cX2_apprenticeAt RX2 3 (some .int)) (hG : GOK G) (hg : Tg ad) {P : Int32 → TS → Prop} (hQ : Q = MQ below (SQ G (fun v h' => ∃ (r : Int32) (S' : TS), v = some (.int r) ∧ h' = (TH G.2.2.1 h ad S') ∧ P r S')) args s (({ frames := 0, cells := 0, slots := 0, locals := 0 } : Room) : Room).cells (({ frames := 0, cells := 0, slots := 0, locals := 0 } : Room) : Room).slots (fun q => G.1 ≤ q)) {f1 : Int32} :
    ∀ (n : Nat) (T : TS) (z2 : Int32), L_tapprenticeAt_2 P f1 n T z2 → J G p l e ({ frames := 0, cells := 0, slots := 0, locals := 0 } : Room) s m args below meth c 3 Q 0 0 (TH G.2.2.1 h ad T) 2 [(0, .ref (ad 0)), (1, .int f1), (2, .int z2)] [] := by
  intro n
  induction n with
  | zero => intro T z2 hF; exact hF.elim
  | succ n ih =>
    intro T z2 hF
    unfold L_tapprenticeAt_2 at hF
    refine j_iload_n C dX2_apprenticeAt_2 rfl 2 rfl ?_
    refine j_aload_n C dX2_apprenticeAt_3 rfl 0 rfl ?_
    refine jtG5 C hg dX2_apprenticeAt_4 ?_
    refine j_icmp_ge (tgt := 28) C dX2_apprenticeAt_7 (by decide) (fun hc_1 => ?_) (fun hc_1 => ?_)
    · replace hF := hF.1 hc_1
      refine j_iconst (v := (-1)) C dX2_apprenticeAt_28 rfl ?_
      rw [hQ]
      exact j_iret C rfl ⟨_, _, rfl, rfl, hF⟩ dX2_apprenticeAt_29
    · replace hF := hF.2 hc_1
      refine j_aload_n C dX2_apprenticeAt_10 rfl 0 rfl ?_
      refine jtG4 C hg dX2_apprenticeAt_11 ?_
      refine j_iload_n C dX2_apprenticeAt_14 rfl 2 rfl ?_
      obtain ⟨hgd, hF⟩ := hF
      refine jtL5 C hg hgd dX2_apprenticeAt_15 ?_
      refine j_iload_n C dX2_apprenticeAt_16 rfl 1 rfl ?_
      refine j_icmp_ne (tgt := 22) C dX2_apprenticeAt_17 (by decide) (fun hc_2 => ?_) (fun hc_2 => ?_)
      · replace hF := hF.2 hc_2
        refine j_iinc (q := 2) (v := z2 + 1) (L2 := [(2, .int (z2 + 1)), (0, .ref (ad 0)), (1, .int f1)]) C dX2_apprenticeAt_22 rfl rfl (by decide) rfl ?_
        refine j_goto (tgt := 2) C dX2_apprenticeAt_25 (by decide) ?_
        exact J.locals [1, 2, 0] (ih _ _ hF) rfl
      · replace hF := hF.1 hc_2
        refine j_iload_n C dX2_apprenticeAt_20 rfl 2 rfl ?_
        rw [hQ]
        exact j_iret C rfl ⟨_, _, rfl, rfl, hF⟩ dX2_apprenticeAt_21
set_option maxHeartbeats 4000000 in
theorem M_tapprenticeAt (G : GT) (l : Launch) (hG : GOK G) (h : AH) (ad : Nat → Nat) (hg : Tg ad) (T : TS) (x1 : Int32) (P : Int32 → TS → Prop) (hF : F_tapprenticeAt T x1 P) : TMi G l yX2_apprenticeAt cX2_apprenticeAt 3 .int 0 0 [.ref (ad 0), .int x1] h ad T P := by
  refine MT.mk (own := RX2) (by decide) rfl hG (Nat.le_of_ble_eq_true rfl) ?_
  intro p e s m below meth c args Q hargs hQ C _
  refine J.loca (L2 := [(0, .ref (ad 0)), (1, .int x1)]) rfl ?_
  unfold F_tapprenticeAt at hF
  refine j_iconst (v := 0) C dX2_apprenticeAt_0 rfl ?_
  refine j_istore_n (L2 := [(2, .int 0), (0, .ref (ad 0)), (1, .int x1)]) C dX2_apprenticeAt_1 rfl (by decide) rfl ?_
  refine J.locals [1, 2, 0] (WL_tapprenticeAt_2 C hG hg hQ NF _ _ hF) rfl
theorem cal_tbeginsAnew : CalV yX2_beginsAnew RX2 cX2_beginsAnew 2 none 0 := ⟨q387, qs2, q94, q388, by decide +kernel⟩
def L_tbeginsAnew_2 (P : TS → Prop) : Nat → TS → Int32 → Prop
  | 0, _, _ => False
  | n + 1, T, z1 => (6 ≤ z1 → P T) ∧ (¬ 6 ≤ z1 → (vp_in z1 6) ∧ (nm (upd T (84 + Int32.toNatClampNeg (z1)) (-1)) (fun T_2 => (vp_in z1 6) ∧ (nm (upd T_2 (78 + Int32.toNatClampNeg (z1)) 0) (fun T_3 => L_tbeginsAnew_2 P n T_3 (z1 + 1))))))
def F_tbeginsAnew (T : TS) (P : TS → Prop) : Prop := L_tbeginsAnew_2  P NF T 0
set_option maxHeartbeats 4000000 in
theorem WL_tbeginsAnew_2 {G : GT} {p : Program} {l : Launch} {e : Env} {s : State} {m : MethodId} {args : Array Value} {below : List Frame} {meth : Method} {c : Code} {h : AH} {ad : Nat → Nat} {Q : State → Prop} (C : Cx G p s m args meth c cX2_beginsAnew RX2 2 none) (hG : GOK G) (hg : Tg ad) (hm : FreeG G) {P : TS → Prop} (hQ : Q = MQ below (SQ G (fun v h' => ∃ (S' : TS), v = none ∧ h' = (TH G.2.2.1 h ad S') ∧ P S')) args s (({ frames := 0, cells := 0, slots := 0, locals := 0 } : Room) : Room).cells (({ frames := 0, cells := 0, slots := 0, locals := 0 } : Room) : Room).slots (fun q => G.1 ≤ q)) :
    ∀ (n : Nat) (T : TS) (z1 : Int32), L_tbeginsAnew_2 P n T z1 → J G p l e ({ frames := 0, cells := 0, slots := 0, locals := 0 } : Room) s m args below meth c 2 Q 0 0 (TH G.2.2.1 h ad T) 2 [(0, .ref (ad 0)), (1, .int z1)] [] := by
  intro n
  induction n with
  | zero => intro T z1 hF; exact hF.elim
  | succ n ih =>
    intro T z1 hF
    unfold L_tbeginsAnew_2 at hF
    refine j_iload_n C dX2_beginsAnew_2 rfl 1 rfl ?_
    refine j_bipush (v := 6) C dX2_beginsAnew_3 rfl ?_
    refine j_icmp_ge (tgt := 28) C dX2_beginsAnew_5 (by decide) (fun hc_1 => ?_) (fun hc_1 => ?_)
    · replace hF := hF.1 hc_1
      rw [hQ]
      exact j_vret C ⟨_, rfl, rfl, hF⟩ dX2_beginsAnew_28
    · replace hF := hF.2 hc_1
      refine j_aload_n C dX2_beginsAnew_8 rfl 0 rfl ?_
      refine jtG4 C hg dX2_beginsAnew_9 ?_
      refine j_iload_n C dX2_beginsAnew_12 rfl 1 rfl ?_
      refine j_iconst (v := (-1)) C dX2_beginsAnew_13 rfl ?_
      obtain ⟨hgd, hF⟩ := hF
      refine jtS5 C hg hm hgd dX2_beginsAnew_14 ?_
      obtain ⟨T_2, eT_2, hF⟩ := nm_intro hF
      refine t_J eT_2 ?_
      refine j_aload_n C dX2_beginsAnew_15 rfl 0 rfl ?_
      refine jtG2 C hg dX2_beginsAnew_16 ?_
      refine j_iload_n C dX2_beginsAnew_19 rfl 1 rfl ?_
      refine j_iconst (v := 0) C dX2_beginsAnew_20 rfl ?_
      obtain ⟨hgd, hF⟩ := hF
      refine jtS3 C hg hm hgd dX2_beginsAnew_21 ?_
      obtain ⟨T_3, eT_3, hF⟩ := nm_intro hF
      refine t_J eT_3 ?_
      refine j_iinc (q := 1) (v := z1 + 1) (L2 := [(1, .int (z1 + 1)), (0, .ref (ad 0))]) C dX2_beginsAnew_22 rfl rfl (by decide) rfl ?_
      refine j_goto (tgt := 2) C dX2_beginsAnew_25 (by decide) ?_
      exact J.locals [1, 0] (ih _ _ hF) rfl
set_option maxHeartbeats 4000000 in
theorem M_tbeginsAnew (G : GT) (l : Launch) (hG : GOK G) (h : AH) (ad : Nat → Nat) (hg : Tg ad) (hm : FreeG G) (T : TS) (P : TS → Prop) (hF : F_tbeginsAnew T P) : TMv G l yX2_beginsAnew cX2_beginsAnew 2 0 0 [.ref (ad 0)] h ad T P := by
  refine MT.mk (own := RX2) (by decide) rfl hG (Nat.le_of_ble_eq_true rfl) ?_
  intro p e s m below meth c args Q hargs hQ C _
  refine J.loca (L2 := [(0, .ref (ad 0))]) rfl ?_
  unfold F_tbeginsAnew at hF
  refine j_iconst (v := 0) C dX2_beginsAnew_0 rfl ?_
  refine j_istore_n (L2 := [(1, .int 0), (0, .ref (ad 0))]) C dX2_beginsAnew_1 rfl (by decide) rfl ?_
  refine J.locals [1, 0] (WL_tbeginsAnew_2 C hG hg hm hQ NF _ _ hF) rfl
theorem cal_tcanBe : CalV yX2_canBe RX2 cX2_canBe 3 (some .boolean) 2 := ⟨q442, q443, q94, q444, by decide +kernel⟩
def F_tcanBe (T : TS) (x1 : Int32) (x2 : Int32) (P : Int32 → TS → Prop) : Prop := (vp_in x1 6) ∧ ((vp_in x2 6) ∧ (((T (6 + 6 * Int32.toNatClampNeg (x1) + Int32.toNatClampNeg (x2))) = (-1) → P 0 T) ∧ (¬ (T (6 + 6 * Int32.toNatClampNeg (x1) + Int32.toNatClampNeg (x2))) = (-1) → P 1 T)))
set_option maxHeartbeats 4000000 in
theorem M_tcanBe (G : GT) (l : Launch) (hG : GOK G) (h : AH) (ad : Nat → Nat) (hg : Tg ad) (T : TS) (x1 : Int32) (x2 : Int32) (P : Int32 → TS → Prop) (hF : F_tcanBe T x1 x2 P) : TMi G l yX2_canBe cX2_canBe 3 .boolean 0 0 [.ref (ad 0), .int x1, .int x2] h ad T P := by
  refine MT.mk (own := RX2) (by decide) rfl hG (Nat.le_of_ble_eq_true rfl) ?_
  intro p e s m below meth c args Q hargs hQ C _
  refine J.loca (L2 := [(0, .ref (ad 0)), (1, .int x1), (2, .int x2)]) rfl ?_
  unfold F_tcanBe at hF
  refine j_aload_n C dX2_canBe_0 rfl 0 rfl ?_
  refine jtG0 C hg dX2_canBe_1 ?_
  refine j_iload_n C dX2_canBe_4 rfl 1 rfl ?_
  obtain ⟨hgd, hF⟩ := hF
  have hw_2 := in_lt6 hgd
  refine jtO1 C hg hgd dX2_canBe_5 ?_
  refine j_iload_n C dX2_canBe_6 rfl 2 rfl ?_
  obtain ⟨hgd, hF⟩ := hF
  refine jtLc C hg hw_2 hgd dX2_canBe_7 ?_
  refine j_iconst (v := (-1)) C dX2_canBe_8 rfl ?_
  refine j_icmp_eq (tgt := 16) C dX2_canBe_9 (by decide) (fun hc_1 => ?_) (fun hc_1 => ?_)
  · replace hF := hF.1 hc_1
    refine j_iconst (v := 0) C dX2_canBe_16 rfl ?_
    rw [hQ]
    exact j_iret C rfl ⟨_, _, rfl, rfl, hF⟩ dX2_canBe_17
  · replace hF := hF.2 hc_1
    refine j_iconst (v := 1) C dX2_canBe_12 rfl ?_
    refine j_goto (tgt := 17) C dX2_canBe_13 (by decide) ?_
    rw [hQ]
    exact j_iret C rfl ⟨_, _, rfl, rfl, hF⟩ dX2_canBe_17
theorem cal_tburden : CalV yX2_burden RX2 cX2_burden 3 (some .int) 2 := ⟨q446, q447, q94, q448, by decide +kernel⟩
def F_tburden (T : TS) (x1 : Int32) (x2 : Int32) (P : Int32 → TS → Prop) : Prop := (vp_in x1 6) ∧ ((vp_in x2 6) ∧ ((vp_in x2 6) ∧ (P (((T (6 + 6 * Int32.toNatClampNeg (x1) + Int32.toNatClampNeg (x2))) * ((T 0) + 1)) + (T (78 + Int32.toNatClampNeg (x2)))) T)))
set_option maxHeartbeats 4000000 in
theorem M_tburden (G : GT) (l : Launch) (hG : GOK G) (h : AH) (ad : Nat → Nat) (hg : Tg ad) (T : TS) (x1 : Int32) (x2 : Int32) (P : Int32 → TS → Prop) (hF : F_tburden T x1 x2 P) : TMi G l yX2_burden cX2_burden 3 .int 0 0 [.ref (ad 0), .int x1, .int x2] h ad T P := by
  refine MT.mk (own := RX2) (by decide) rfl hG (Nat.le_of_ble_eq_true rfl) ?_
  intro p e s m below meth c args Q hargs hQ C _
  refine J.loca (L2 := [(0, .ref (ad 0)), (1, .int x1), (2, .int x2)]) rfl ?_
  unfold F_tburden at hF
  refine j_aload_n C dX2_burden_0 rfl 0 rfl ?_
  refine jtG0 C hg dX2_burden_1 ?_
  refine j_iload_n C dX2_burden_4 rfl 1 rfl ?_
  obtain ⟨hgd, hF⟩ := hF
  have hw_4 := in_lt6 hgd
  refine jtO1 C hg hgd dX2_burden_5 ?_
  refine j_iload_n C dX2_burden_6 rfl 2 rfl ?_
  obtain ⟨hgd, hF⟩ := hF
  refine jtLc C hg hw_4 hgd dX2_burden_7 ?_
  refine j_aload_n C dX2_burden_8 rfl 0 rfl ?_
  refine jtG5 C hg dX2_burden_9 ?_
  refine j_iconst (v := 1) C dX2_burden_12 rfl ?_
  refine j_iadd C dX2_burden_13 ?_
  refine j_imul C dX2_burden_14 ?_
  refine j_aload_n C dX2_burden_15 rfl 0 rfl ?_
  refine jtG2 C hg dX2_burden_16 ?_
  refine j_iload_n C dX2_burden_19 rfl 2 rfl ?_
  obtain ⟨hgd, hF⟩ := hF
  refine jtL3 C hg hgd dX2_burden_20 ?_
  refine j_iadd C dX2_burden_21 ?_
  rw [hQ]
  exact j_iret C rfl ⟨_, _, rfl, rfl, hF⟩ dX2_burden_22
theorem cal_tliked : CalV yX2_liked RX2 cX2_liked 6 (some .int) 2 := ⟨q439, qs5, q94, q440, by decide +kernel⟩
def L_tliked_5 (P : Int32 → TS → Prop) (f1 : Int32) (f2 : Int32) : Nat → TS → Int32 → Int32 → Prop
  | 0, _, _, _ => False
  | n + 1, T, z3, z4 => ((T 1) ≤ z4 → P z3 T) ∧ (¬ (T 1) ≤ z4 → jn (α := TS → Int32 → Prop) (fun T_3 t_4 => (t_4 = 0 → L_tliked_5 P f1 f2 n T_3 z3 (z4 + 1)) ∧ (¬ t_4 = 0 → jn (α := TS → Prop) (fun T_7 => L_tliked_5 P f1 f2 n T_7 z4 (z4 + 1)) (fun K_6 => (z3 = (-1) → K_6 T_3) ∧ (¬ z3 = (-1) → F_tburden T_3 f1 z4 (fun r_10 T_9 => F_tburden T_9 f1 z3 (fun r_12 T_11 => (r_12 ≤ r_10 → L_tliked_5 P f1 f2 n T_11 z3 (z4 + 1)) ∧ (¬ r_12 ≤ r_10 → K_6 T_11))))))) (fun K_2 => jn (α := TS → Prop) (fun T_15 => K_2 T_15 0) (fun K_14 => (z4 = f2 → K_14 T) ∧ (¬ z4 = f2 → F_tcanBe T f1 z4 (fun r_18 T_17 => (r_18 = 0 → K_14 T_17) ∧ (¬ r_18 = 0 → K_2 T_17 1))))))
def F_tliked (T : TS) (x1 : Int32) (x2 : Int32) (P : Int32 → TS → Prop) : Prop := L_tliked_5  P x1 x2 NF T (-1) 0
set_option maxHeartbeats 4000000 in
theorem WL_tliked_5 {G : GT} {p : Program} {l : Launch} {e : Env} {s : State} {m : MethodId} {args : Array Value} {below : List Frame} {meth : Method} {c : Code} {h : AH} {ad : Nat → Nat} {Q : State → Prop} (C : Cx G p s m args meth c cX2_liked RX2 6 (some .int)) (hG : GOK G) (hg : Tg ad) {P : Int32 → TS → Prop} (hQ : Q = MQ below (SQ G (fun v h' => ∃ (r : Int32) (S' : TS), v = some (.int r) ∧ h' = (TH G.2.2.1 h ad S') ∧ P r S')) args s (({ frames := 1, cells := 0, slots := 0, locals := 22 } : Room) : Room).cells (({ frames := 1, cells := 0, slots := 0, locals := 22 } : Room) : Room).slots (fun q => G.1 ≤ q)) {f1 : Int32} {f2 : Int32} :
    ∀ (n : Nat) (T : TS) (z3 : Int32) (z4 : Int32), L_tliked_5 P f1 f2 n T z3 z4 → J G p l e ({ frames := 1, cells := 0, slots := 0, locals := 22 } : Room) s m args below meth c 6 Q 0 0 (TH G.2.2.1 h ad T) 5 [(0, .ref (ad 0)), (1, .int f1), (2, .int f2), (3, .int z3), (4, .int z4)] [] := by
  intro n
  induction n with
  | zero => intro T z3 z4 hF; exact hF.elim
  | succ n ih =>
    intro T z3 z4 hF
    unfold L_tliked_5 at hF
    refine j_iload C dX2_liked_5 4 rfl ?_
    refine j_aload_n C dX2_liked_7 rfl 0 rfl ?_
    refine jtG6 C hg dX2_liked_8 ?_
    refine j_icmp_ge (tgt := 76) C dX2_liked_11 (by decide) (fun hc_1 => ?_) (fun hc_1 => ?_)
    · replace hF := hF.1 hc_1
      refine j_iload_n C dX2_liked_76 rfl 3 rfl ?_
      rw [hQ]
      exact j_iret C rfl ⟨_, _, rfl, rfl, hF⟩ dX2_liked_77
    · replace hF := hF.2 hc_1
      refine j_iload C dX2_liked_14 4 rfl ?_
      refine j_iload_n C dX2_liked_16 rfl 2 rfl ?_
      obtain ⟨K_2, hK_2, hF⟩ := jn_intro (M := fun (K : TS → Int32 → Prop) => ∀ (T_3 : TS) (t_4 : Int32), K T_3 t_4 → J G p l e ({ frames := 1, cells := 0, slots := 0, locals := 22 } : Room) s m args below meth c 6 Q 0 0 (TH G.2.2.1 h ad T_3) 35 [(0, .ref (ad 0)), (1, .int f1), (2, .int f2), (3, .int z3), (4, .int z4)] [.int t_4]) (hk := by
          intro T_3 t_4 hF
          refine j_istore (L2 := [(5, .int t_4), (0, .ref (ad 0)), (1, .int f1), (2, .int f2), (3, .int z3), (4, .int z4)]) C dX2_liked_35 (by decide) rfl ?_
          refine j_iload C dX2_liked_37 0 rfl ?_
          refine j_if_eq (tgt := 68) C dX2_liked_39 (by decide) (fun hc_5 => ?_) (fun hc_5 => ?_)
          · replace hF := hF.1 hc_5
            refine j_iload_n C dX2_liked_68 rfl 4 rfl ?_
            refine j_istore_n (L2 := [(3, .int z3), (5, .int t_4), (0, .ref (ad 0)), (1, .int f1), (2, .int f2), (4, .int z4)]) C dX2_liked_69 rfl (by decide) rfl ?_
            refine j_iinc (q := 5) (v := z4 + 1) (L2 := [(4, .int (z4 + 1)), (3, .int z3), (5, .int t_4), (0, .ref (ad 0)), (1, .int f1), (2, .int f2)]) C dX2_liked_70 rfl rfl (by decide) rfl ?_
            refine j_goto (tgt := 5) C dX2_liked_73 (by decide) ?_
            exact J.locals [3, 4, 5, 1, 0] (ih _ _ _ hF) rfl
          · replace hF := hF.2 hc_5
            refine j_iload_n C dX2_liked_42 rfl 4 rfl ?_
            refine j_iconst (v := (-1)) C dX2_liked_43 rfl ?_
            obtain ⟨K_6, hK_6, hF⟩ := jn_intro (M := fun (K : TS → Prop) => ∀ (T_7 : TS), K T_7 → J G p l e ({ frames := 1, cells := 0, slots := 0, locals := 22 } : Room) s m args below meth c 6 Q 0 0 (TH G.2.2.1 h ad T_7) 63 [(0, .ref (ad 0)), (1, .int f1), (2, .int f2), (4, .int z4)] []) (hk := by
                intro T_7 hF
                refine j_iload C dX2_liked_63 3 rfl ?_
                refine j_goto (tgt := 69) C dX2_liked_65 (by decide) ?_
                refine j_istore_n (L2 := [(3, .int z4), (0, .ref (ad 0)), (1, .int f1), (2, .int f2), (4, .int z4)]) C dX2_liked_69 rfl (by decide) rfl ?_
                refine j_iinc (q := 4) (v := z4 + 1) (L2 := [(4, .int (z4 + 1)), (3, .int z4), (0, .ref (ad 0)), (1, .int f1), (2, .int f2)]) C dX2_liked_70 rfl rfl (by decide) rfl ?_
                refine j_goto (tgt := 5) C dX2_liked_73 (by decide) ?_
                exact J.locals [2, 3, 4, 1, 0] (ih _ _ _ hF) rfl) hF
            refine j_icmp_eq (tgt := 63) C dX2_liked_44 (by decide) (fun hc_8 => ?_) (fun hc_8 => ?_)
            · replace hF := hF.1 hc_8
              exact J.locals [1, 2, 3, 5] (hK_6 _ hF) rfl
            · replace hF := hF.2 hc_8
              refine j_aload_n C dX2_liked_47 rfl 1 rfl ?_
              refine j_iload_n C dX2_liked_48 rfl 2 rfl ?_
              refine j_iload C dX2_liked_49 5 rfl ?_
              refine jt_calli hg (As := [.int f1, .int z4]) (rest := []) C (M_tburden G l hG h ad hg T_3 f1 z4 _ hF) q445 cal_tburden rfl rfl (Nat.le_of_ble_eq_true rfl) ⟨Nat.le_of_ble_eq_true rfl, Nat.le_of_ble_eq_true rfl⟩ dX2_liked_51 (fun r_10 T_9 hF => ?_)
              refine j_aload_n C dX2_liked_54 rfl 1 rfl ?_
              refine j_iload_n C dX2_liked_55 rfl 2 rfl ?_
              refine j_iload_n C dX2_liked_56 rfl 4 rfl ?_
              refine jt_calli hg (As := [.int f1, .int z3]) (rest := [.int r_10]) C (M_tburden G l hG h ad hg T_9 f1 z3 _ hF) q445 cal_tburden rfl rfl (Nat.le_of_ble_eq_true rfl) ⟨Nat.le_of_ble_eq_true rfl, Nat.le_of_ble_eq_true rfl⟩ dX2_liked_57 (fun r_12 T_11 hF => ?_)
              refine j_icmp_ge (tgt := 68) C dX2_liked_60 (by decide) (fun hc_13 => ?_) (fun hc_13 => ?_)
              · replace hF := hF.1 hc_13
                refine j_iload_n C dX2_liked_68 rfl 4 rfl ?_
                refine j_istore_n (L2 := [(3, .int z3), (5, .int t_4), (0, .ref (ad 0)), (1, .int f1), (2, .int f2), (4, .int z4)]) C dX2_liked_69 rfl (by decide) rfl ?_
                refine j_iinc (q := 5) (v := z4 + 1) (L2 := [(4, .int (z4 + 1)), (3, .int z3), (5, .int t_4), (0, .ref (ad 0)), (1, .int f1), (2, .int f2)]) C dX2_liked_70 rfl rfl (by decide) rfl ?_
                refine j_goto (tgt := 5) C dX2_liked_73 (by decide) ?_
                exact J.locals [3, 4, 5, 1, 0] (ih _ _ _ hF) rfl
              · replace hF := hF.2 hc_13
                exact J.locals [1, 2, 3, 5] (hK_6 _ hF) rfl) hF
      obtain ⟨K_14, hK_14, hF⟩ := jn_intro (M := fun (K : TS → Prop) => ∀ (T_15 : TS), K T_15 → J G p l e ({ frames := 1, cells := 0, slots := 0, locals := 22 } : Room) s m args below meth c 6 Q 0 0 (TH G.2.2.1 h ad T_15) 34 [(0, .ref (ad 0)), (1, .int f1), (2, .int f2), (3, .int z3), (4, .int z4)] []) (hk := by
          intro T_15 hF
          refine j_iconst (v := 0) C dX2_liked_34 rfl ?_
          exact J.locals [0, 1, 2, 3, 4] (hK_2 _ _ hF) rfl) hF
      refine j_icmp_eq (tgt := 34) C dX2_liked_17 (by decide) (fun hc_16 => ?_) (fun hc_16 => ?_)
      · replace hF := hF.1 hc_16
        exact J.locals [0, 1, 2, 3, 4] (hK_14 _ hF) rfl
      · replace hF := hF.2 hc_16
        refine j_aload_n C dX2_liked_20 rfl 0 rfl ?_
        refine j_iload_n C dX2_liked_21 rfl 1 rfl ?_
        refine j_iload C dX2_liked_22 4 rfl ?_
        refine jt_calli hg (As := [.int f1, .int z4]) (rest := []) C (M_tcanBe G l hG h ad hg T f1 z4 _ hF) q441 cal_tcanBe rfl rfl (Nat.le_of_ble_eq_true rfl) ⟨Nat.le_of_ble_eq_true rfl, Nat.le_of_ble_eq_true rfl⟩ dX2_liked_24 (fun r_18 T_17 hF => ?_)
        refine j_if_eq (tgt := 34) C dX2_liked_27 (by decide) (fun hc_19 => ?_) (fun hc_19 => ?_)
        · replace hF := hF.1 hc_19
          exact J.locals [0, 1, 2, 3, 4] (hK_14 _ hF) rfl
        · replace hF := hF.2 hc_19
          refine j_iconst (v := 1) C dX2_liked_30 rfl ?_
          refine j_goto (tgt := 35) C dX2_liked_31 (by decide) ?_
          exact J.locals [0, 1, 2, 3, 4] (hK_2 _ _ hF) rfl
set_option maxHeartbeats 4000000 in
theorem M_tliked (G : GT) (l : Launch) (hG : GOK G) (h : AH) (ad : Nat → Nat) (hg : Tg ad) (T : TS) (x1 : Int32) (x2 : Int32) (P : Int32 → TS → Prop) (hF : F_tliked T x1 x2 P) : TMi G l yX2_liked cX2_liked 6 .int 1 22 [.ref (ad 0), .int x1, .int x2] h ad T P := by
  refine MT.mk (own := RX2) (by decide) rfl hG (Nat.le_of_ble_eq_true rfl) ?_
  intro p e s m below meth c args Q hargs hQ C _
  refine J.loca (L2 := [(0, .ref (ad 0)), (1, .int x1), (2, .int x2)]) rfl ?_
  unfold F_tliked at hF
  refine j_iconst (v := (-1)) C dX2_liked_0 rfl ?_
  refine j_istore_n (L2 := [(3, .int (-1)), (0, .ref (ad 0)), (1, .int x1), (2, .int x2)]) C dX2_liked_1 rfl (by decide) rfl ?_
  refine j_iconst (v := 0) C dX2_liked_2 rfl ?_
  refine j_istore (L2 := [(4, .int 0), (3, .int (-1)), (0, .ref (ad 0)), (1, .int x1), (2, .int x2)]) C dX2_liked_3 (by decide) rfl ?_
  refine J.locals [2, 3, 4, 1, 0] (WL_tliked_5 C hG hg hQ NF _ _ _ hF) rfl
theorem cal_tlikes : CalV yX2_likes RX2 cX2_likes 2 (some .int) 1 := ⟨q434, q435, q94, q436, by decide +kernel⟩
def F_tlikes (T : TS) (x1 : Int32) (P : Int32 → TS → Prop) : Prop := F_tliked T x1 (-1) (fun r_2 T_1 => P r_2 T_1)
set_option maxHeartbeats 4000000 in
theorem M_tlikes (G : GT) (l : Launch) (hG : GOK G) (h : AH) (ad : Nat → Nat) (hg : Tg ad) (T : TS) (x1 : Int32) (P : Int32 → TS → Prop) (hF : F_tlikes T x1 P) : TMi G l yX2_likes cX2_likes 2 .int 2 47 [.ref (ad 0), .int x1] h ad T P := by
  refine MT.mk (own := RX2) (by decide) rfl hG (Nat.le_of_ble_eq_true rfl) ?_
  intro p e s m below meth c args Q hargs hQ C _
  refine J.loca (L2 := [(0, .ref (ad 0)), (1, .int x1)]) rfl ?_
  unfold F_tlikes at hF
  refine j_aload_n C dX2_likes_0 rfl 0 rfl ?_
  refine j_iload_n C dX2_likes_1 rfl 1 rfl ?_
  refine j_iconst (v := (-1)) C dX2_likes_2 rfl ?_
  refine jt_calli hg (As := [.int x1, .int (-1)]) (rest := []) C (M_tliked G l hG h ad hg T x1 (-1) _ hF) q437 cal_tliked rfl rfl (Nat.le_of_ble_eq_true rfl) ⟨Nat.le_of_ble_eq_true rfl, Nat.le_of_ble_eq_true rfl⟩ dX2_likes_3 (fun r_2 T_1 hF => ?_)
  rw [hQ]
  exact j_iret C rfl ⟨_, _, rfl, rfl, hF⟩ dX2_likes_6
theorem cal_tmoves : CalV yX2_moves RX2 cX2_moves 4 (some .int) 1 := ⟨q450, q451, q94, q452, by decide +kernel⟩
def F_tmoves (T : TS) (x1 : Int32) (P : Int32 → TS → Prop) : Prop := F_tlikes T x1 (fun r_2 T_1 => (r_2 = (-1) → P 0 T_1) ∧ (¬ r_2 = (-1) → F_tliked T_1 x1 r_2 (fun r_5 T_4 => (r_5 = (-1) → P 100 T_4) ∧ (¬ r_5 = (-1) → F_tburden T_4 x1 r_5 (fun r_8 T_7 => F_tburden T_7 x1 r_2 (fun r_10 T_9 => P ((r_8 - r_10) + 1) T_9))))))
set_option maxHeartbeats 4000000 in
theorem M_tmoves (G : GT) (l : Launch) (hG : GOK G) (h : AH) (ad : Nat → Nat) (hg : Tg ad) (T : TS) (x1 : Int32) (P : Int32 → TS → Prop) (hF : F_tmoves T x1 P) : TMi G l yX2_moves cX2_moves 4 .int 3 68 [.ref (ad 0), .int x1] h ad T P := by
  refine MT.mk (own := RX2) (by decide) rfl hG (Nat.le_of_ble_eq_true rfl) ?_
  intro p e s m below meth c args Q hargs hQ C _
  refine J.loca (L2 := [(0, .ref (ad 0)), (1, .int x1)]) rfl ?_
  unfold F_tmoves at hF
  refine j_aload_n C dX2_moves_0 rfl 0 rfl ?_
  refine j_iload_n C dX2_moves_1 rfl 1 rfl ?_
  refine jt_calli hg (As := [.int x1]) (rest := []) C (M_tlikes G l hG h ad hg T x1 _ hF) q433 cal_tlikes rfl rfl (Nat.le_of_ble_eq_true rfl) ⟨Nat.le_of_ble_eq_true rfl, Nat.le_of_ble_eq_true rfl⟩ dX2_moves_2 (fun r_2 T_1 hF => ?_)
  refine j_istore_n (L2 := [(2, .int r_2), (0, .ref (ad 0)), (1, .int x1)]) C dX2_moves_5 rfl (by decide) rfl ?_
  refine j_iload_n C dX2_moves_6 rfl 0 rfl ?_
  refine j_iconst (v := (-1)) C dX2_moves_7 rfl ?_
  refine j_icmp_ne (tgt := 13) C dX2_moves_8 (by decide) (fun hc_3 => ?_) (fun hc_3 => ?_)
  · replace hF := hF.2 hc_3
    refine j_aload_n C dX2_moves_13 rfl 1 rfl ?_
    refine j_iload_n C dX2_moves_14 rfl 2 rfl ?_
    refine j_iload_n C dX2_moves_15 rfl 0 rfl ?_
    refine jt_calli hg (As := [.int x1, .int r_2]) (rest := []) C (M_tliked G l hG h ad hg T_1 x1 r_2 _ hF) q437 cal_tliked rfl rfl (Nat.le_of_ble_eq_true rfl) ⟨Nat.le_of_ble_eq_true rfl, Nat.le_of_ble_eq_true rfl⟩ dX2_moves_16 (fun r_5 T_4 hF => ?_)
    refine j_istore_n (L2 := [(3, .int r_5), (2, .int r_2), (0, .ref (ad 0)), (1, .int x1)]) C dX2_moves_19 rfl (by decide) rfl ?_
    refine j_iload_n C dX2_moves_20 rfl 0 rfl ?_
    refine j_iconst (v := (-1)) C dX2_moves_21 rfl ?_
    refine j_icmp_ne (tgt := 30) C dX2_moves_22 (by decide) (fun hc_6 => ?_) (fun hc_6 => ?_)
    · replace hF := hF.2 hc_6
      refine j_aload_n C dX2_moves_30 rfl 2 rfl ?_
      refine j_iload_n C dX2_moves_31 rfl 3 rfl ?_
      refine j_iload_n C dX2_moves_32 rfl 0 rfl ?_
      refine jt_calli hg (As := [.int x1, .int r_5]) (rest := []) C (M_tburden G l hG h ad hg T_4 x1 r_5 _ hF) q445 cal_tburden rfl rfl (Nat.le_of_ble_eq_true rfl) ⟨Nat.le_of_ble_eq_true rfl, Nat.le_of_ble_eq_true rfl⟩ dX2_moves_33 (fun r_8 T_7 hF => ?_)
      refine j_aload_n C dX2_moves_36 rfl 2 rfl ?_
      refine j_iload_n C dX2_moves_37 rfl 3 rfl ?_
      refine j_iload_n C dX2_moves_38 rfl 1 rfl ?_
      refine jt_calli hg (As := [.int x1, .int r_2]) (rest := [.int r_8]) C (M_tburden G l hG h ad hg T_7 x1 r_2 _ hF) q445 cal_tburden rfl rfl (Nat.le_of_ble_eq_true rfl) ⟨Nat.le_of_ble_eq_true rfl, Nat.le_of_ble_eq_true rfl⟩ dX2_moves_39 (fun r_10 T_9 hF => ?_)
      refine j_isub C dX2_moves_42 ?_
      refine j_iconst (v := 1) C dX2_moves_43 rfl ?_
      refine j_iadd C dX2_moves_44 ?_
      rw [hQ]
      exact j_iret C rfl ⟨_, _, rfl, rfl, hF⟩ dX2_moves_45
    · replace hF := hF.1 hc_6
      refine j_bipush (v := 100) C dX2_moves_25 rfl ?_
      refine j_goto (tgt := 45) C dX2_moves_27 (by decide) ?_
      rw [hQ]
      exact j_iret C rfl ⟨_, _, rfl, rfl, hF⟩ dX2_moves_45
  · replace hF := hF.1 hc_3
    refine j_iconst (v := 0) C dX2_moves_11 rfl ?_
    rw [hQ]
    exact j_iret C rfl ⟨_, _, rfl, rfl, hF⟩ dX2_moves_12
theorem cal_tbidsFor : CalV yX2_bidsFor RX2 cX2_bidsFor 4 (some .boolean) 1 := ⟨q1346, qs27, q94, q1347, by decide +kernel⟩
def F_tbidsFor (T : TS) (x1 : Int32) (P : Int32 → TS → Prop) : Prop := F_tlikes T x1 (fun r_2 T_1 => (r_2 = (-1) → P 0 T_1) ∧ (¬ r_2 = (-1) → (vp_in r_2 6) ∧ (F_tmoves T_1 x1 (fun r_5 T_4 => (((T_1 (78 + Int32.toNatClampNeg (r_2))) + r_5) ≤ 9999 → (vp_in r_2 6) ∧ (F_tmoves T_4 x1 (fun r_8 T_7 => (vp_in r_2 6) ∧ (nm (upd T_7 (78 + Int32.toNatClampNeg (r_2)) ((T_4 (78 + Int32.toNatClampNeg (r_2))) + r_8)) (fun T_9 => F_tapprenticeAt T_9 r_2 (fun r_11 T_10 => jn (α := TS → Prop) (fun T_13 => (vp_in x1 6) ∧ (nm (upd T_13 (84 + Int32.toNatClampNeg (x1)) r_2) (fun T_14 => P 1 T_14))) (fun K_12 => (r_11 = (-1) → K_12 T_10) ∧ (¬ r_11 = (-1) → (vp_in r_11 6) ∧ (nm (upd T_10 (84 + Int32.toNatClampNeg (r_11)) (-1)) (fun T_16 => K_12 T_16)))))))))) ∧ (¬ ((T_1 (78 + Int32.toNatClampNeg (r_2))) + r_5) ≤ 9999 → P 0 T_4)))))
set_option maxHeartbeats 4000000 in
theorem M_tbidsFor (G : GT) (l : Launch) (hG : GOK G) (h : AH) (ad : Nat → Nat) (hg : Tg ad) (hm : FreeG G) (T : TS) (x1 : Int32) (P : Int32 → TS → Prop) (hF : F_tbidsFor T x1 P) : TMi G l yX2_bidsFor cX2_bidsFor 4 .boolean 4 91 [.ref (ad 0), .int x1] h ad T P := by
  refine MT.mk (own := RX2) (by decide) rfl hG (Nat.le_of_ble_eq_true rfl) ?_
  intro p e s m below meth c args Q hargs hQ C _
  refine J.loca (L2 := [(0, .ref (ad 0)), (1, .int x1)]) rfl ?_
  unfold F_tbidsFor at hF
  refine j_aload_n C dX2_bidsFor_0 rfl 0 rfl ?_
  refine j_iload_n C dX2_bidsFor_1 rfl 1 rfl ?_
  refine jt_calli hg (As := [.int x1]) (rest := []) C (M_tlikes G l hG h ad hg T x1 _ hF) q433 cal_tlikes rfl rfl (Nat.le_of_ble_eq_true rfl) ⟨Nat.le_of_ble_eq_true rfl, Nat.le_of_ble_eq_true rfl⟩ dX2_bidsFor_2 (fun r_2 T_1 hF => ?_)
  refine j_istore_n (L2 := [(2, .int r_2), (0, .ref (ad 0)), (1, .int x1)]) C dX2_bidsFor_5 rfl (by decide) rfl ?_
  refine j_iload_n C dX2_bidsFor_6 rfl 0 rfl ?_
  refine j_iconst (v := (-1)) C dX2_bidsFor_7 rfl ?_
  refine j_icmp_eq (tgt := 29) C dX2_bidsFor_8 (by decide) (fun hc_3 => ?_) (fun hc_3 => ?_)
  · replace hF := hF.1 hc_3
    refine j_iconst (v := 0) C dX2_bidsFor_29 rfl ?_
    rw [hQ]
    exact j_iret C rfl ⟨_, _, rfl, rfl, hF⟩ dX2_bidsFor_30
  · replace hF := hF.2 hc_3
    refine j_aload_n C dX2_bidsFor_11 rfl 1 rfl ?_
    refine jtG2 C hg dX2_bidsFor_12 ?_
    refine j_iload_n C dX2_bidsFor_15 rfl 0 rfl ?_
    obtain ⟨hgd, hF⟩ := hF
    refine jtL3 C hg hgd dX2_bidsFor_16 ?_
    refine j_aload_n C dX2_bidsFor_17 rfl 1 rfl ?_
    refine j_iload_n C dX2_bidsFor_18 rfl 2 rfl ?_
    refine jt_calli hg (As := [.int x1]) (rest := [.int (T_1 (78 + Int32.toNatClampNeg (r_2)))]) C (M_tmoves G l hG h ad hg T_1 x1 _ hF) q449 cal_tmoves rfl rfl (Nat.le_of_ble_eq_true rfl) ⟨Nat.le_of_ble_eq_true rfl, Nat.le_of_ble_eq_true rfl⟩ dX2_bidsFor_19 (fun r_5 T_4 hF => ?_)
    refine j_iadd C dX2_bidsFor_22 ?_
    refine j_sipush (v := 9999) C dX2_bidsFor_23 rfl ?_
    refine j_icmp_le (tgt := 31) C dX2_bidsFor_26 (by decide) (fun hc_6 => ?_) (fun hc_6 => ?_)
    · replace hF := hF.1 hc_6
      refine j_aload_n C dX2_bidsFor_31 rfl 1 rfl ?_
      refine jtG2 C hg dX2_bidsFor_32 ?_
      refine j_iload_n C dX2_bidsFor_35 rfl 0 rfl ?_
      refine j_dup2 C dX2_bidsFor_36 rfl rfl ?_
      obtain ⟨hgd, hF⟩ := hF
      refine jtL3 C hg hgd dX2_bidsFor_37 ?_
      refine j_aload_n C dX2_bidsFor_38 rfl 1 rfl ?_
      refine j_iload_n C dX2_bidsFor_39 rfl 2 rfl ?_
      refine jt_calli hg (As := [.int x1]) (rest := [.int (T_4 (78 + Int32.toNatClampNeg (r_2))), .int r_2, .ref (ad 3)]) C (M_tmoves G l hG h ad hg T_4 x1 _ hF) q449 cal_tmoves rfl rfl (Nat.le_of_ble_eq_true rfl) ⟨Nat.le_of_ble_eq_true rfl, Nat.le_of_ble_eq_true rfl⟩ dX2_bidsFor_40 (fun r_8 T_7 hF => ?_)
      refine j_iadd C dX2_bidsFor_43 ?_
      obtain ⟨hgd, hF⟩ := hF
      refine jtS3 C hg hm hgd dX2_bidsFor_44 ?_
      obtain ⟨T_9, eT_9, hF⟩ := nm_intro hF
      refine t_J eT_9 ?_
      refine j_aload_n C dX2_bidsFor_45 rfl 1 rfl ?_
      refine j_iload_n C dX2_bidsFor_46 rfl 0 rfl ?_
      refine jt_calli hg (As := [.int r_2]) (rest := []) C (M_tapprenticeAt G l hG h ad hg T_9 r_2 _ hF) q457 cal_tapprenticeAt rfl rfl (Nat.le_of_ble_eq_true rfl) ⟨Nat.le_of_ble_eq_true rfl, Nat.le_of_ble_eq_true rfl⟩ dX2_bidsFor_47 (fun r_11 T_10 hF => ?_)
      refine j_istore_n (L2 := [(3, .int r_11), (2, .int r_2), (0, .ref (ad 0)), (1, .int x1)]) C dX2_bidsFor_50 rfl (by decide) rfl ?_
      refine j_iload_n C dX2_bidsFor_51 rfl 0 rfl ?_
      refine j_iconst (v := (-1)) C dX2_bidsFor_52 rfl ?_
      obtain ⟨K_12, hK_12, hF⟩ := jn_intro (M := fun (K : TS → Prop) => ∀ (T_13 : TS), K T_13 → J G p l e ({ frames := 4, cells := 0, slots := 0, locals := 91 } : Room) s m args below meth c 4 Q 0 0 (TH G.2.2.1 h ad T_13) 63 [(0, .ref (ad 0)), (1, .int x1), (2, .int r_2)] []) (hk := by
          intro T_13 hF
          refine j_aload_n C dX2_bidsFor_63 rfl 0 rfl ?_
          refine jtG4 C hg dX2_bidsFor_64 ?_
          refine j_iload_n C dX2_bidsFor_67 rfl 1 rfl ?_
          refine j_iload_n C dX2_bidsFor_68 rfl 2 rfl ?_
          obtain ⟨hgd, hF⟩ := hF
          refine jtS5 C hg hm hgd dX2_bidsFor_69 ?_
          obtain ⟨T_14, eT_14, hF⟩ := nm_intro hF
          refine t_J eT_14 ?_
          refine j_iconst (v := 1) C dX2_bidsFor_70 rfl ?_
          rw [hQ]
          exact j_iret C rfl ⟨_, _, rfl, rfl, hF⟩ dX2_bidsFor_71) hF
      refine j_icmp_eq (tgt := 63) C dX2_bidsFor_53 (by decide) (fun hc_15 => ?_) (fun hc_15 => ?_)
      · replace hF := hF.1 hc_15
        exact J.locals [2, 3, 1] (hK_12 _ hF) rfl
      · replace hF := hF.2 hc_15
        refine j_aload_n C dX2_bidsFor_56 rfl 2 rfl ?_
        refine jtG4 C hg dX2_bidsFor_57 ?_
        refine j_iload_n C dX2_bidsFor_60 rfl 0 rfl ?_
        refine j_iconst (v := (-1)) C dX2_bidsFor_61 rfl ?_
        obtain ⟨hgd, hF⟩ := hF
        refine jtS5 C hg hm hgd dX2_bidsFor_62 ?_
        obtain ⟨T_16, eT_16, hF⟩ := nm_intro hF
        refine t_J eT_16 ?_
        exact J.locals [2, 3, 1] (hK_12 _ hF) rfl
    · replace hF := hF.2 hc_6
      refine j_iconst (v := 0) C dX2_bidsFor_29 rfl ?_
      rw [hQ]
      exact j_iret C rfl ⟨_, _, rfl, rfl, hF⟩ dX2_bidsFor_30
theorem cal_tlowestFree : CalV yX2_lowestFree RX2 cX2_lowestFree 2 (some .int) 0 := ⟨q430, q431, q94, q432, by decide +kernel⟩
def L_tlowestFree_2 (P : Int32 → TS → Prop) : Nat → TS → Int32 → Prop
  | 0, _, _ => False
  | n + 1, T, z1 => ((T 0) ≤ z1 → P (-1) T) ∧ (¬ (T 0) ≤ z1 → (vp_in z1 6) ∧ (((T (84 + Int32.toNatClampNeg (z1))) = (-1) → P z1 T) ∧ (¬ (T (84 + Int32.toNatClampNeg (z1))) = (-1) → L_tlowestFree_2 P n T (z1 + 1))))
def F_tlowestFree (T : TS) (P : Int32 → TS → Prop) : Prop := L_tlowestFree_2  P NF T 0
set_option maxHeartbeats 4000000 in
theorem WL_tlowestFree_2 {G : GT} {p : Program} {l : Launch} {e : Env} {s : State} {m : MethodId} {args : Array Value} {below : List Frame} {meth : Method} {c : Code} {h : AH} {ad : Nat → Nat} {Q : State → Prop} (C : Cx G p s m args meth c cX2_lowestFree RX2 2 (some .int)) (hG : GOK G) (hg : Tg ad) {P : Int32 → TS → Prop} (hQ : Q = MQ below (SQ G (fun v h' => ∃ (r : Int32) (S' : TS), v = some (.int r) ∧ h' = (TH G.2.2.1 h ad S') ∧ P r S')) args s (({ frames := 0, cells := 0, slots := 0, locals := 0 } : Room) : Room).cells (({ frames := 0, cells := 0, slots := 0, locals := 0 } : Room) : Room).slots (fun q => G.1 ≤ q)) :
    ∀ (n : Nat) (T : TS) (z1 : Int32), L_tlowestFree_2 P n T z1 → J G p l e ({ frames := 0, cells := 0, slots := 0, locals := 0 } : Room) s m args below meth c 2 Q 0 0 (TH G.2.2.1 h ad T) 2 [(0, .ref (ad 0)), (1, .int z1)] [] := by
  intro n
  induction n with
  | zero => intro T z1 hF; exact hF.elim
  | succ n ih =>
    intro T z1 hF
    unfold L_tlowestFree_2 at hF
    refine j_iload_n C dX2_lowestFree_2 rfl 1 rfl ?_
    refine j_aload_n C dX2_lowestFree_3 rfl 0 rfl ?_
    refine jtG5 C hg dX2_lowestFree_4 ?_
    refine j_icmp_ge (tgt := 28) C dX2_lowestFree_7 (by decide) (fun hc_1 => ?_) (fun hc_1 => ?_)
    · replace hF := hF.1 hc_1
      refine j_iconst (v := (-1)) C dX2_lowestFree_28 rfl ?_
      rw [hQ]
      exact j_iret C rfl ⟨_, _, rfl, rfl, hF⟩ dX2_lowestFree_29
    · replace hF := hF.2 hc_1
      refine j_aload_n C dX2_lowestFree_10 rfl 0 rfl ?_
      refine jtG4 C hg dX2_lowestFree_11 ?_
      refine j_iload_n C dX2_lowestFree_14 rfl 1 rfl ?_
      obtain ⟨hgd, hF⟩ := hF
      refine jtL5 C hg hgd dX2_lowestFree_15 ?_
      refine j_iconst (v := (-1)) C dX2_lowestFree_16 rfl ?_
      refine j_icmp_ne (tgt := 22) C dX2_lowestFree_17 (by decide) (fun hc_2 => ?_) (fun hc_2 => ?_)
      · replace hF := hF.2 hc_2
        refine j_iinc (q := 1) (v := z1 + 1) (L2 := [(1, .int (z1 + 1)), (0, .ref (ad 0))]) C dX2_lowestFree_22 rfl rfl (by decide) rfl ?_
        refine j_goto (tgt := 2) C dX2_lowestFree_25 (by decide) ?_
        exact J.locals [1, 0] (ih _ _ hF) rfl
      · replace hF := hF.1 hc_2
        refine j_iload_n C dX2_lowestFree_20 rfl 1 rfl ?_
        rw [hQ]
        exact j_iret C rfl ⟨_, _, rfl, rfl, hF⟩ dX2_lowestFree_21
set_option maxHeartbeats 4000000 in
theorem M_tlowestFree (G : GT) (l : Launch) (hG : GOK G) (h : AH) (ad : Nat → Nat) (hg : Tg ad) (T : TS) (P : Int32 → TS → Prop) (hF : F_tlowestFree T P) : TMi G l yX2_lowestFree cX2_lowestFree 2 .int 0 0 [.ref (ad 0)] h ad T P := by
  refine MT.mk (own := RX2) (by decide) rfl hG (Nat.le_of_ble_eq_true rfl) ?_
  intro p e s m below meth c args Q hargs hQ C _
  refine J.loca (L2 := [(0, .ref (ad 0))]) rfl ?_
  unfold F_tlowestFree at hF
  refine j_iconst (v := 0) C dX2_lowestFree_0 rfl ?_
  refine j_istore_n (L2 := [(1, .int 0), (0, .ref (ad 0))]) C dX2_lowestFree_1 rfl (by decide) rfl ?_
  refine J.locals [1, 0] (WL_tlowestFree_2 C hG hg hQ NF _ _ hF) rfl
theorem cal_tbidsIfCan : CalV yX2_bidsIfCan RX2 cX2_bidsIfCan 4 (some .int) 0 := ⟨q455, qs6, q94, q456, by decide +kernel⟩
def F_tbidsIfCan (T : TS) (P : Int32 → TS → Prop) : Prop := F_tlowestFree T (fun r_2 T_1 => jn (α := TS → Int32 → Prop) (fun T_4 t_5 => (t_5 = (-1) → P (-1) T_4) ∧ (¬ t_5 = (-1) → (vp_in t_5 6) ∧ (F_tmoves T_4 r_2 (fun r_8 T_7 => (((T_4 (78 + Int32.toNatClampNeg (t_5))) + r_8) ≤ 9999 → (vp_in t_5 6) ∧ (F_tmoves T_7 r_2 (fun r_11 T_10 => (vp_in t_5 6) ∧ (nm (upd T_10 (78 + Int32.toNatClampNeg (t_5)) ((T_7 (78 + Int32.toNatClampNeg (t_5))) + r_11)) (fun T_12 => F_tapprenticeAt T_12 t_5 (fun r_14 T_13 => jn (α := TS → Prop) (fun T_16 => (vp_in r_2 6) ∧ (nm (upd T_16 (84 + Int32.toNatClampNeg (r_2)) t_5) (fun T_17 => (vp_in t_5 6) ∧ ((vp_in t_5 6) ∧ (nm (upd T_17 (90 + Int32.toNatClampNeg (t_5)) ((T_17 (90 + Int32.toNatClampNeg (t_5))) + 1)) (fun T_18 => P t_5 T_18)))))) (fun K_15 => (r_14 = (-1) → K_15 T_13) ∧ (¬ r_14 = (-1) → (vp_in r_14 6) ∧ (nm (upd T_13 (84 + Int32.toNatClampNeg (r_14)) (-1)) (fun T_20 => nm (upd T_20 4 ((T_20 4) + 1)) (fun T_21 => K_15 T_21))))))))))) ∧ (¬ ((T_4 (78 + Int32.toNatClampNeg (t_5))) + r_8) ≤ 9999 → P (-1) T_7))))) (fun K_3 => (r_2 = (-1) → K_3 T_1 (-1)) ∧ (¬ r_2 = (-1) → F_tlikes T_1 r_2 (fun r_24 T_23 => K_3 T_23 r_24))))
set_option maxHeartbeats 4000000 in
theorem M_tbidsIfCan (G : GT) (l : Launch) (hG : GOK G) (h : AH) (ad : Nat → Nat) (hg : Tg ad) (hm : FreeG G) (T : TS) (P : Int32 → TS → Prop) (hF : F_tbidsIfCan T P) : TMi G l yX2_bidsIfCan cX2_bidsIfCan 4 .int 4 91 [.ref (ad 0)] h ad T P := by
  refine MT.mk (own := RX2) (by decide) rfl hG (Nat.le_of_ble_eq_true rfl) ?_
  intro p e s m below meth c args Q hargs hQ C _
  refine J.loca (L2 := [(0, .ref (ad 0))]) rfl ?_
  unfold F_tbidsIfCan at hF
  refine j_aload_n C dX2_bidsIfCan_0 rfl 0 rfl ?_
  refine jt_calli hg (As := []) (rest := []) C (M_tlowestFree G l hG h ad hg T _ hF) q429 cal_tlowestFree rfl rfl (Nat.le_of_ble_eq_true rfl) ⟨Nat.le_of_ble_eq_true rfl, Nat.le_of_ble_eq_true rfl⟩ dX2_bidsIfCan_1 (fun r_2 T_1 hF => ?_)
  refine j_istore_n (L2 := [(1, .int r_2), (0, .ref (ad 0))]) C dX2_bidsIfCan_4 rfl (by decide) rfl ?_
  refine j_iload_n C dX2_bidsIfCan_5 rfl 0 rfl ?_
  refine j_iconst (v := (-1)) C dX2_bidsIfCan_6 rfl ?_
  obtain ⟨K_3, hK_3, hF⟩ := jn_intro (M := fun (K : TS → Int32 → Prop) => ∀ (T_4 : TS) (t_5 : Int32), K T_4 t_5 → J G p l e ({ frames := 4, cells := 0, slots := 0, locals := 91 } : Room) s m args below meth c 4 Q 0 0 (TH G.2.2.1 h ad T_4) 19 [(0, .ref (ad 0)), (1, .int r_2)] [.int t_5]) (hk := by
      intro T_4 t_5 hF
      refine j_istore_n (L2 := [(2, .int t_5), (0, .ref (ad 0)), (1, .int r_2)]) C dX2_bidsIfCan_19 rfl (by decide) rfl ?_
      refine j_iload_n C dX2_bidsIfCan_20 rfl 0 rfl ?_
      refine j_iconst (v := (-1)) C dX2_bidsIfCan_21 rfl ?_
      refine j_icmp_eq (tgt := 43) C dX2_bidsIfCan_22 (by decide) (fun hc_6 => ?_) (fun hc_6 => ?_)
      · replace hF := hF.1 hc_6
        refine j_iconst (v := (-1)) C dX2_bidsIfCan_43 rfl ?_
        rw [hQ]
        exact j_iret C rfl ⟨_, _, rfl, rfl, hF⟩ dX2_bidsIfCan_44
      · replace hF := hF.2 hc_6
        refine j_aload_n C dX2_bidsIfCan_25 rfl 1 rfl ?_
        refine jtG2 C hg dX2_bidsIfCan_26 ?_
        refine j_iload_n C dX2_bidsIfCan_29 rfl 0 rfl ?_
        obtain ⟨hgd, hF⟩ := hF
        refine jtL3 C hg hgd dX2_bidsIfCan_30 ?_
        refine j_aload_n C dX2_bidsIfCan_31 rfl 1 rfl ?_
        refine j_iload_n C dX2_bidsIfCan_32 rfl 2 rfl ?_
        refine jt_calli hg (As := [.int r_2]) (rest := [.int (T_4 (78 + Int32.toNatClampNeg (t_5)))]) C (M_tmoves G l hG h ad hg T_4 r_2 _ hF) q449 cal_tmoves rfl rfl (Nat.le_of_ble_eq_true rfl) ⟨Nat.le_of_ble_eq_true rfl, Nat.le_of_ble_eq_true rfl⟩ dX2_bidsIfCan_33 (fun r_8 T_7 hF => ?_)
        refine j_iadd C dX2_bidsIfCan_36 ?_
        refine j_sipush (v := 9999) C dX2_bidsIfCan_37 rfl ?_
        refine j_icmp_le (tgt := 45) C dX2_bidsIfCan_40 (by decide) (fun hc_9 => ?_) (fun hc_9 => ?_)
        · replace hF := hF.1 hc_9
          refine j_aload_n C dX2_bidsIfCan_45 rfl 1 rfl ?_
          refine jtG2 C hg dX2_bidsIfCan_46 ?_
          refine j_iload_n C dX2_bidsIfCan_49 rfl 0 rfl ?_
          refine j_dup2 C dX2_bidsIfCan_50 rfl rfl ?_
          obtain ⟨hgd, hF⟩ := hF
          refine jtL3 C hg hgd dX2_bidsIfCan_51 ?_
          refine j_aload_n C dX2_bidsIfCan_52 rfl 1 rfl ?_
          refine j_iload_n C dX2_bidsIfCan_53 rfl 2 rfl ?_
          refine jt_calli hg (As := [.int r_2]) (rest := [.int (T_7 (78 + Int32.toNatClampNeg (t_5))), .int t_5, .ref (ad 3)]) C (M_tmoves G l hG h ad hg T_7 r_2 _ hF) q449 cal_tmoves rfl rfl (Nat.le_of_ble_eq_true rfl) ⟨Nat.le_of_ble_eq_true rfl, Nat.le_of_ble_eq_true rfl⟩ dX2_bidsIfCan_54 (fun r_11 T_10 hF => ?_)
          refine j_iadd C dX2_bidsIfCan_57 ?_
          obtain ⟨hgd, hF⟩ := hF
          refine jtS3 C hg hm hgd dX2_bidsIfCan_58 ?_
          obtain ⟨T_12, eT_12, hF⟩ := nm_intro hF
          refine t_J eT_12 ?_
          refine j_aload_n C dX2_bidsIfCan_59 rfl 1 rfl ?_
          refine j_iload_n C dX2_bidsIfCan_60 rfl 0 rfl ?_
          refine jt_calli hg (As := [.int t_5]) (rest := []) C (M_tapprenticeAt G l hG h ad hg T_12 t_5 _ hF) q457 cal_tapprenticeAt rfl rfl (Nat.le_of_ble_eq_true rfl) ⟨Nat.le_of_ble_eq_true rfl, Nat.le_of_ble_eq_true rfl⟩ dX2_bidsIfCan_61 (fun r_14 T_13 hF => ?_)
          refine j_istore_n (L2 := [(3, .int r_14), (2, .int t_5), (0, .ref (ad 0)), (1, .int r_2)]) C dX2_bidsIfCan_64 rfl (by decide) rfl ?_
          refine j_iload_n C dX2_bidsIfCan_65 rfl 0 rfl ?_
          refine j_iconst (v := (-1)) C dX2_bidsIfCan_66 rfl ?_
          obtain ⟨K_15, hK_15, hF⟩ := jn_intro (M := fun (K : TS → Prop) => ∀ (T_16 : TS), K T_16 → J G p l e ({ frames := 4, cells := 0, slots := 0, locals := 91 } : Room) s m args below meth c 4 Q 0 0 (TH G.2.2.1 h ad T_16) 87 [(0, .ref (ad 0)), (1, .int r_2), (2, .int t_5)] []) (hk := by
              intro T_16 hF
              refine j_aload_n C dX2_bidsIfCan_87 rfl 0 rfl ?_
              refine jtG4 C hg dX2_bidsIfCan_88 ?_
              refine j_iload_n C dX2_bidsIfCan_91 rfl 1 rfl ?_
              refine j_iload_n C dX2_bidsIfCan_92 rfl 2 rfl ?_
              obtain ⟨hgd, hF⟩ := hF
              refine jtS5 C hg hm hgd dX2_bidsIfCan_93 ?_
              obtain ⟨T_17, eT_17, hF⟩ := nm_intro hF
              refine t_J eT_17 ?_
              refine j_aload_n C dX2_bidsIfCan_94 rfl 0 rfl ?_
              refine jtG3 C hg dX2_bidsIfCan_95 ?_
              refine j_iload_n C dX2_bidsIfCan_98 rfl 2 rfl ?_
              refine j_dup2 C dX2_bidsIfCan_99 rfl rfl ?_
              obtain ⟨hgd, hF⟩ := hF
              refine jtL4 C hg hgd dX2_bidsIfCan_100 ?_
              refine j_iconst (v := 1) C dX2_bidsIfCan_101 rfl ?_
              refine j_iadd C dX2_bidsIfCan_102 ?_
              obtain ⟨hgd, hF⟩ := hF
              refine jtS4 C hg hm hgd dX2_bidsIfCan_103 ?_
              obtain ⟨T_18, eT_18, hF⟩ := nm_intro hF
              refine t_J eT_18 ?_
              refine j_iload_n C dX2_bidsIfCan_104 rfl 2 rfl ?_
              rw [hQ]
              exact j_iret C rfl ⟨_, _, rfl, rfl, hF⟩ dX2_bidsIfCan_105) hF
          refine j_icmp_eq (tgt := 87) C dX2_bidsIfCan_67 (by decide) (fun hc_19 => ?_) (fun hc_19 => ?_)
          · replace hF := hF.1 hc_19
            exact J.locals [2, 3, 1] (hK_15 _ hF) rfl
          · replace hF := hF.2 hc_19
            refine j_aload_n C dX2_bidsIfCan_70 rfl 2 rfl ?_
            refine jtG4 C hg dX2_bidsIfCan_71 ?_
            refine j_iload_n C dX2_bidsIfCan_74 rfl 0 rfl ?_
            refine j_iconst (v := (-1)) C dX2_bidsIfCan_75 rfl ?_
            obtain ⟨hgd, hF⟩ := hF
            refine jtS5 C hg hm hgd dX2_bidsIfCan_76 ?_
            obtain ⟨T_20, eT_20, hF⟩ := nm_intro hF
            refine t_J eT_20 ?_
            refine j_aload_n C dX2_bidsIfCan_77 rfl 2 rfl ?_
            refine j_dup C dX2_bidsIfCan_78 rfl ?_
            refine jtG7 C hg dX2_bidsIfCan_79 ?_
            refine j_iconst (v := 1) C dX2_bidsIfCan_82 rfl ?_
            refine j_iadd C dX2_bidsIfCan_83 ?_
            refine jtP7 C hg hm dX2_bidsIfCan_84 ?_
            obtain ⟨T_21, eT_21, hF⟩ := nm_intro hF
            refine t_J eT_21 ?_
            exact J.locals [2, 3, 1] (hK_15 _ hF) rfl
        · replace hF := hF.2 hc_9
          refine j_iconst (v := (-1)) C dX2_bidsIfCan_43 rfl ?_
          rw [hQ]
          exact j_iret C rfl ⟨_, _, rfl, rfl, hF⟩ dX2_bidsIfCan_44) hF
  refine j_icmp_ne (tgt := 14) C dX2_bidsIfCan_7 (by decide) (fun hc_22 => ?_) (fun hc_22 => ?_)
  · replace hF := hF.2 hc_22
    refine j_aload_n C dX2_bidsIfCan_14 rfl 1 rfl ?_
    refine j_iload_n C dX2_bidsIfCan_15 rfl 0 rfl ?_
    refine jt_calli hg (As := [.int r_2]) (rest := []) C (M_tlikes G l hG h ad hg T_1 r_2 _ hF) q433 cal_tlikes rfl rfl (Nat.le_of_ble_eq_true rfl) ⟨Nat.le_of_ble_eq_true rfl, Nat.le_of_ble_eq_true rfl⟩ dX2_bidsIfCan_16 (fun r_24 T_23 hF => ?_)
    exact J.locals [1, 0] (hK_3 _ _ hF) rfl
  · replace hF := hF.1 hc_22
    refine j_iconst (v := (-1)) C dX2_bidsIfCan_10 rfl ?_
    refine j_goto (tgt := 19) C dX2_bidsIfCan_11 (by decide) ?_
    exact J.locals [1, 0] (hK_3 _ _ hF) rfl
theorem cal_tbidsOn : CalV yX2_bidsOn RX2 cX2_bidsOn 2 (some .int) 0 := ⟨q478, qs8, q94, q479, by decide +kernel⟩
def L_tbidsOn_2 (P : Int32 → TS → Prop) : Nat → TS → Int32 → Prop
  | 0, _, _ => False
  | n + 1, T, z1 => F_tlowestFree T (fun r_2 T_1 => (r_2 = (-1) → P z1 T_1) ∧ (¬ r_2 = (-1) → F_tbidsIfCan T_1 (fun r_5 T_4 => (r_5 = (-1) → P (-1) T_4) ∧ (¬ r_5 = (-1) → L_tbidsOn_2 P n T_4 (z1 + 1)))))
def F_tbidsOn (T : TS) (P : Int32 → TS → Prop) : Prop := L_tbidsOn_2  P NF T 0
set_option maxHeartbeats 4000000 in
theorem WL_tbidsOn_2 {G : GT} {p : Program} {l : Launch} {e : Env} {s : State} {m : MethodId} {args : Array Value} {below : List Frame} {meth : Method} {c : Code} {h : AH} {ad : Nat → Nat} {Q : State → Prop} (C : Cx G p s m args meth c cX2_bidsOn RX2 2 (some .int)) (hG : GOK G) (hg : Tg ad) (hm : FreeG G) {P : Int32 → TS → Prop} (hQ : Q = MQ below (SQ G (fun v h' => ∃ (r : Int32) (S' : TS), v = some (.int r) ∧ h' = (TH G.2.2.1 h ad S') ∧ P r S')) args s (({ frames := 5, cells := 0, slots := 0, locals := 114 } : Room) : Room).cells (({ frames := 5, cells := 0, slots := 0, locals := 114 } : Room) : Room).slots (fun q => G.1 ≤ q)) :
    ∀ (n : Nat) (T : TS) (z1 : Int32), L_tbidsOn_2 P n T z1 → J G p l e ({ frames := 5, cells := 0, slots := 0, locals := 114 } : Room) s m args below meth c 2 Q 0 0 (TH G.2.2.1 h ad T) 2 [(0, .ref (ad 0)), (1, .int z1)] [] := by
  intro n
  induction n with
  | zero => intro T z1 hF; exact hF.elim
  | succ n ih =>
    intro T z1 hF
    unfold L_tbidsOn_2 at hF
    refine j_aload_n C dX2_bidsOn_2 rfl 0 rfl ?_
    refine jt_calli hg (As := []) (rest := []) C (M_tlowestFree G l hG h ad hg T _ hF) q429 cal_tlowestFree rfl rfl (Nat.le_of_ble_eq_true rfl) ⟨Nat.le_of_ble_eq_true rfl, Nat.le_of_ble_eq_true rfl⟩ dX2_bidsOn_3 (fun r_2 T_1 hF => ?_)
    refine j_iconst (v := (-1)) C dX2_bidsOn_6 rfl ?_
    refine j_icmp_eq (tgt := 26) C dX2_bidsOn_7 (by decide) (fun hc_3 => ?_) (fun hc_3 => ?_)
    · replace hF := hF.1 hc_3
      refine j_iload_n C dX2_bidsOn_26 rfl 1 rfl ?_
      rw [hQ]
      exact j_iret C rfl ⟨_, _, rfl, rfl, hF⟩ dX2_bidsOn_27
    · replace hF := hF.2 hc_3
      refine j_aload_n C dX2_bidsOn_10 rfl 0 rfl ?_
      refine jt_calli hg (As := []) (rest := []) C (M_tbidsIfCan G l hG h ad hg hm T_1 _ hF) q453 cal_tbidsIfCan rfl rfl (Nat.le_of_ble_eq_true rfl) ⟨Nat.le_of_ble_eq_true rfl, Nat.le_of_ble_eq_true rfl⟩ dX2_bidsOn_11 (fun r_5 T_4 hF => ?_)
      refine j_iconst (v := (-1)) C dX2_bidsOn_14 rfl ?_
      refine j_icmp_ne (tgt := 20) C dX2_bidsOn_15 (by decide) (fun hc_6 => ?_) (fun hc_6 => ?_)
      · replace hF := hF.2 hc_6
        refine j_iinc (q := 1) (v := z1 + 1) (L2 := [(1, .int (z1 + 1)), (0, .ref (ad 0))]) C dX2_bidsOn_20 rfl rfl (by decide) rfl ?_
        refine j_goto (tgt := 2) C dX2_bidsOn_23 (by decide) ?_
        exact J.locals [1, 0] (ih _ _ hF) rfl
      · replace hF := hF.1 hc_6
        refine j_iconst (v := (-1)) C dX2_bidsOn_18 rfl ?_
        rw [hQ]
        exact j_iret C rfl ⟨_, _, rfl, rfl, hF⟩ dX2_bidsOn_19
set_option maxHeartbeats 4000000 in
theorem M_tbidsOn (G : GT) (l : Launch) (hG : GOK G) (h : AH) (ad : Nat → Nat) (hg : Tg ad) (hm : FreeG G) (T : TS) (P : Int32 → TS → Prop) (hF : F_tbidsOn T P) : TMi G l yX2_bidsOn cX2_bidsOn 2 .int 5 114 [.ref (ad 0)] h ad T P := by
  refine MT.mk (own := RX2) (by decide) rfl hG (Nat.le_of_ble_eq_true rfl) ?_
  intro p e s m below meth c args Q hargs hQ C _
  refine J.loca (L2 := [(0, .ref (ad 0))]) rfl ?_
  unfold F_tbidsOn at hF
  refine j_iconst (v := 0) C dX2_bidsOn_0 rfl ?_
  refine j_istore_n (L2 := [(1, .int 0), (0, .ref (ad 0))]) C dX2_bidsOn_1 rfl (by decide) rfl ?_
  refine J.locals [1, 0] (WL_tbidsOn_2 C hG hg hm hQ NF _ _ hF) rfl
theorem cal_tcountLiked : CalV yX2_countLiked RX2 cX2_countLiked 3 (some .int) 0 := ⟨q1792, q1793, q94, q1794, by decide +kernel⟩
def L_tcountLiked_4 (P : Int32 → TS → Prop) : Nat → TS → Int32 → Int32 → Prop
  | 0, _, _, _ => False
  | n + 1, T, z1, z2 => ((T 0) ≤ z2 → P z1 T) ∧ (¬ (T 0) ≤ z2 → (vp_in z2 6) ∧ (jn (α := TS → Prop) (fun T_3 => L_tcountLiked_4 P n T_3 (z1 + 0) (z2 + 1)) (fun K_2 => ((T (84 + Int32.toNatClampNeg (z2))) = (-1) → K_2 T) ∧ (¬ (T (84 + Int32.toNatClampNeg (z2))) = (-1) → (vp_in z2 6) ∧ (F_tlikes T z2 (fun r_6 T_5 => ((T (84 + Int32.toNatClampNeg (z2))) = r_6 → L_tcountLiked_4 P n T_5 (z1 + 1) (z2 + 1)) ∧ (¬ (T (84 + Int32.toNatClampNeg (z2))) = r_6 → K_2 T_5)))))))
def F_tcountLiked (T : TS) (P : Int32 → TS → Prop) : Prop := L_tcountLiked_4  P NF T 0 0
set_option maxHeartbeats 4000000 in
theorem WL_tcountLiked_4 {G : GT} {p : Program} {l : Launch} {e : Env} {s : State} {m : MethodId} {args : Array Value} {below : List Frame} {meth : Method} {c : Code} {h : AH} {ad : Nat → Nat} {Q : State → Prop} (C : Cx G p s m args meth c cX2_countLiked RX2 3 (some .int)) (hG : GOK G) (hg : Tg ad) {P : Int32 → TS → Prop} (hQ : Q = MQ below (SQ G (fun v h' => ∃ (r : Int32) (S' : TS), v = some (.int r) ∧ h' = (TH G.2.2.1 h ad S') ∧ P r S')) args s (({ frames := 3, cells := 0, slots := 0, locals := 68 } : Room) : Room).cells (({ frames := 3, cells := 0, slots := 0, locals := 68 } : Room) : Room).slots (fun q => G.1 ≤ q)) :
    ∀ (n : Nat) (T : TS) (z1 : Int32) (z2 : Int32), L_tcountLiked_4 P n T z1 z2 → J G p l e ({ frames := 3, cells := 0, slots := 0, locals := 68 } : Room) s m args below meth c 3 Q 0 0 (TH G.2.2.1 h ad T) 4 [(0, .ref (ad 0)), (1, .int z1), (2, .int z2)] [] := by
  intro n
  induction n with
  | zero => intro T z1 z2 hF; exact hF.elim
  | succ n ih =>
    intro T z1 z2 hF
    unfold L_tcountLiked_4 at hF
    refine j_iload_n C dX2_countLiked_4 rfl 2 rfl ?_
    refine j_aload_n C dX2_countLiked_5 rfl 0 rfl ?_
    refine jtG5 C hg dX2_countLiked_6 ?_
    refine j_icmp_ge (tgt := 50) C dX2_countLiked_9 (by decide) (fun hc_1 => ?_) (fun hc_1 => ?_)
    · replace hF := hF.1 hc_1
      refine j_iload_n C dX2_countLiked_50 rfl 1 rfl ?_
      rw [hQ]
      exact j_iret C rfl ⟨_, _, rfl, rfl, hF⟩ dX2_countLiked_51
    · replace hF := hF.2 hc_1
      refine j_iload_n C dX2_countLiked_12 rfl 1 rfl ?_
      refine j_aload_n C dX2_countLiked_13 rfl 0 rfl ?_
      refine jtG4 C hg dX2_countLiked_14 ?_
      refine j_iload_n C dX2_countLiked_17 rfl 2 rfl ?_
      obtain ⟨hgd, hF⟩ := hF
      refine jtL5 C hg hgd dX2_countLiked_18 ?_
      refine j_iconst (v := (-1)) C dX2_countLiked_19 rfl ?_
      obtain ⟨K_2, hK_2, hF⟩ := jn_intro (M := fun (K : TS → Prop) => ∀ (T_3 : TS), K T_3 → J G p l e ({ frames := 3, cells := 0, slots := 0, locals := 68 } : Room) s m args below meth c 3 Q 0 0 (TH G.2.2.1 h ad T_3) 41 [(0, .ref (ad 0)), (2, .int z2)] [.int z1]) (hk := by
          intro T_3 hF
          refine j_iconst (v := 0) C dX2_countLiked_41 rfl ?_
          refine j_iadd C dX2_countLiked_42 ?_
          refine j_istore_n (L2 := [(1, .int (z1 + 0)), (0, .ref (ad 0)), (2, .int z2)]) C dX2_countLiked_43 rfl (by decide) rfl ?_
          refine j_iinc (q := 2) (v := z2 + 1) (L2 := [(2, .int (z2 + 1)), (1, .int (z1 + 0)), (0, .ref (ad 0))]) C dX2_countLiked_44 rfl rfl (by decide) rfl ?_
          refine j_goto (tgt := 4) C dX2_countLiked_47 (by decide) ?_
          exact J.locals [2, 1, 0] (ih _ _ _ hF) rfl) hF
      refine j_icmp_eq (tgt := 41) C dX2_countLiked_20 (by decide) (fun hc_4 => ?_) (fun hc_4 => ?_)
      · replace hF := hF.1 hc_4
        exact J.locals [0, 2] (hK_2 _ hF) rfl
      · replace hF := hF.2 hc_4
        refine j_aload_n C dX2_countLiked_23 rfl 0 rfl ?_
        refine jtG4 C hg dX2_countLiked_24 ?_
        refine j_iload_n C dX2_countLiked_27 rfl 2 rfl ?_
        obtain ⟨hgd, hF⟩ := hF
        refine jtL5 C hg hgd dX2_countLiked_28 ?_
        refine j_aload_n C dX2_countLiked_29 rfl 0 rfl ?_
        refine j_iload_n C dX2_countLiked_30 rfl 2 rfl ?_
        refine jt_calli hg (As := [.int z2]) (rest := [.int (T (84 + Int32.toNatClampNeg (z2))), .int z1]) C (M_tlikes G l hG h ad hg T z2 _ hF) q433 cal_tlikes rfl rfl (Nat.le_of_ble_eq_true rfl) ⟨Nat.le_of_ble_eq_true rfl, Nat.le_of_ble_eq_true rfl⟩ dX2_countLiked_31 (fun r_6 T_5 hF => ?_)
        refine j_icmp_ne (tgt := 41) C dX2_countLiked_34 (by decide) (fun hc_7 => ?_) (fun hc_7 => ?_)
        · replace hF := hF.2 hc_7
          exact J.locals [0, 2] (hK_2 _ hF) rfl
        · replace hF := hF.1 hc_7
          refine j_iconst (v := 1) C dX2_countLiked_37 rfl ?_
          refine j_goto (tgt := 42) C dX2_countLiked_38 (by decide) ?_
          refine j_iadd C dX2_countLiked_42 ?_
          refine j_istore_n (L2 := [(1, .int (z1 + 1)), (0, .ref (ad 0)), (2, .int z2)]) C dX2_countLiked_43 rfl (by decide) rfl ?_
          refine j_iinc (q := 2) (v := z2 + 1) (L2 := [(2, .int (z2 + 1)), (1, .int (z1 + 1)), (0, .ref (ad 0))]) C dX2_countLiked_44 rfl rfl (by decide) rfl ?_
          refine j_goto (tgt := 4) C dX2_countLiked_47 (by decide) ?_
          exact J.locals [2, 1, 0] (ih _ _ _ hF) rfl
set_option maxHeartbeats 4000000 in
theorem M_tcountLiked (G : GT) (l : Launch) (hG : GOK G) (h : AH) (ad : Nat → Nat) (hg : Tg ad) (T : TS) (P : Int32 → TS → Prop) (hF : F_tcountLiked T P) : TMi G l yX2_countLiked cX2_countLiked 3 .int 3 68 [.ref (ad 0)] h ad T P := by
  refine MT.mk (own := RX2) (by decide) rfl hG (Nat.le_of_ble_eq_true rfl) ?_
  intro p e s m below meth c args Q hargs hQ C _
  refine J.loca (L2 := [(0, .ref (ad 0))]) rfl ?_
  unfold F_tcountLiked at hF
  refine j_iconst (v := 0) C dX2_countLiked_0 rfl ?_
  refine j_istore_n (L2 := [(1, .int 0), (0, .ref (ad 0))]) C dX2_countLiked_1 rfl (by decide) rfl ?_
  refine j_iconst (v := 0) C dX2_countLiked_2 rfl ?_
  refine j_istore_n (L2 := [(2, .int 0), (1, .int 0), (0, .ref (ad 0))]) C dX2_countLiked_3 rfl (by decide) rfl ?_
  refine J.locals [2, 1, 0] (WL_tcountLiked_4 C hG hg hQ NF _ _ _ hF) rfl
theorem cal_tcountLiking : CalV yX2_countLiking RX2 cX2_countLiking 4 (some .int) 1 := ⟨q1207, q1208, q94, q1209, by decide +kernel⟩
def L_tcountLiking_4 (P : Int32 → TS → Prop) (f1 : Int32) : Nat → TS → Int32 → Int32 → Prop
  | 0, _, _, _ => False
  | n + 1, T, z2, z3 => ((T 0) ≤ z3 → P z2 T) ∧ (¬ (T 0) ≤ z3 → F_tlikes T z3 (fun r_3 T_2 => (r_3 = f1 → L_tcountLiking_4 P f1 n T_2 (z2 + 1) (z3 + 1)) ∧ (¬ r_3 = f1 → L_tcountLiking_4 P f1 n T_2 (z2 + 0) (z3 + 1))))
def F_tcountLiking (T : TS) (x1 : Int32) (P : Int32 → TS → Prop) : Prop := L_tcountLiking_4  P x1 NF T 0 0
set_option maxHeartbeats 4000000 in
theorem WL_tcountLiking_4 {G : GT} {p : Program} {l : Launch} {e : Env} {s : State} {m : MethodId} {args : Array Value} {below : List Frame} {meth : Method} {c : Code} {h : AH} {ad : Nat → Nat} {Q : State → Prop} (C : Cx G p s m args meth c cX2_countLiking RX2 4 (some .int)) (hG : GOK G) (hg : Tg ad) {P : Int32 → TS → Prop} (hQ : Q = MQ below (SQ G (fun v h' => ∃ (r : Int32) (S' : TS), v = some (.int r) ∧ h' = (TH G.2.2.1 h ad S') ∧ P r S')) args s (({ frames := 3, cells := 0, slots := 0, locals := 68 } : Room) : Room).cells (({ frames := 3, cells := 0, slots := 0, locals := 68 } : Room) : Room).slots (fun q => G.1 ≤ q)) {f1 : Int32} :
    ∀ (n : Nat) (T : TS) (z2 : Int32) (z3 : Int32), L_tcountLiking_4 P f1 n T z2 z3 → J G p l e ({ frames := 3, cells := 0, slots := 0, locals := 68 } : Room) s m args below meth c 4 Q 0 0 (TH G.2.2.1 h ad T) 4 [(0, .ref (ad 0)), (1, .int f1), (2, .int z2), (3, .int z3)] [] := by
  intro n
  induction n with
  | zero => intro T z2 z3 hF; exact hF.elim
  | succ n ih =>
    intro T z2 z3 hF
    unfold L_tcountLiking_4 at hF
    refine j_iload_n C dX2_countLiking_4 rfl 3 rfl ?_
    refine j_aload_n C dX2_countLiking_5 rfl 0 rfl ?_
    refine jtG5 C hg dX2_countLiking_6 ?_
    refine j_icmp_ge (tgt := 35) C dX2_countLiking_9 (by decide) (fun hc_1 => ?_) (fun hc_1 => ?_)
    · replace hF := hF.1 hc_1
      refine j_iload_n C dX2_countLiking_35 rfl 2 rfl ?_
      rw [hQ]
      exact j_iret C rfl ⟨_, _, rfl, rfl, hF⟩ dX2_countLiking_36
    · replace hF := hF.2 hc_1
      refine j_iload_n C dX2_countLiking_12 rfl 2 rfl ?_
      refine j_aload_n C dX2_countLiking_13 rfl 0 rfl ?_
      refine j_iload_n C dX2_countLiking_14 rfl 3 rfl ?_
      refine jt_calli hg (As := [.int z3]) (rest := [.int z2]) C (M_tlikes G l hG h ad hg T z3 _ hF) q433 cal_tlikes rfl rfl (Nat.le_of_ble_eq_true rfl) ⟨Nat.le_of_ble_eq_true rfl, Nat.le_of_ble_eq_true rfl⟩ dX2_countLiking_15 (fun r_3 T_2 hF => ?_)
      refine j_iload_n C dX2_countLiking_18 rfl 1 rfl ?_
      refine j_icmp_ne (tgt := 26) C dX2_countLiking_19 (by decide) (fun hc_4 => ?_) (fun hc_4 => ?_)
      · replace hF := hF.2 hc_4
        refine j_iconst (v := 0) C dX2_countLiking_26 rfl ?_
        refine j_iadd C dX2_countLiking_27 ?_
        refine j_istore_n (L2 := [(2, .int (z2 + 0)), (0, .ref (ad 0)), (1, .int f1), (3, .int z3)]) C dX2_countLiking_28 rfl (by decide) rfl ?_
        refine j_iinc (q := 3) (v := z3 + 1) (L2 := [(3, .int (z3 + 1)), (2, .int (z2 + 0)), (0, .ref (ad 0)), (1, .int f1)]) C dX2_countLiking_29 rfl rfl (by decide) rfl ?_
        refine j_goto (tgt := 4) C dX2_countLiking_32 (by decide) ?_
        exact J.locals [2, 3, 1, 0] (ih _ _ _ hF) rfl
      · replace hF := hF.1 hc_4
        refine j_iconst (v := 1) C dX2_countLiking_22 rfl ?_
        refine j_goto (tgt := 27) C dX2_countLiking_23 (by decide) ?_
        refine j_iadd C dX2_countLiking_27 ?_
        refine j_istore_n (L2 := [(2, .int (z2 + 1)), (0, .ref (ad 0)), (1, .int f1), (3, .int z3)]) C dX2_countLiking_28 rfl (by decide) rfl ?_
        refine j_iinc (q := 3) (v := z3 + 1) (L2 := [(3, .int (z3 + 1)), (2, .int (z2 + 1)), (0, .ref (ad 0)), (1, .int f1)]) C dX2_countLiking_29 rfl rfl (by decide) rfl ?_
        refine j_goto (tgt := 4) C dX2_countLiking_32 (by decide) ?_
        exact J.locals [2, 3, 1, 0] (ih _ _ _ hF) rfl
set_option maxHeartbeats 4000000 in
theorem M_tcountLiking (G : GT) (l : Launch) (hG : GOK G) (h : AH) (ad : Nat → Nat) (hg : Tg ad) (T : TS) (x1 : Int32) (P : Int32 → TS → Prop) (hF : F_tcountLiking T x1 P) : TMi G l yX2_countLiking cX2_countLiking 4 .int 3 68 [.ref (ad 0), .int x1] h ad T P := by
  refine MT.mk (own := RX2) (by decide) rfl hG (Nat.le_of_ble_eq_true rfl) ?_
  intro p e s m below meth c args Q hargs hQ C _
  refine J.loca (L2 := [(0, .ref (ad 0)), (1, .int x1)]) rfl ?_
  unfold F_tcountLiking at hF
  refine j_iconst (v := 0) C dX2_countLiking_0 rfl ?_
  refine j_istore_n (L2 := [(2, .int 0), (0, .ref (ad 0)), (1, .int x1)]) C dX2_countLiking_1 rfl (by decide) rfl ?_
  refine j_iconst (v := 0) C dX2_countLiking_2 rfl ?_
  refine j_istore_n (L2 := [(3, .int 0), (2, .int 0), (0, .ref (ad 0)), (1, .int x1)]) C dX2_countLiking_3 rfl (by decide) rfl ?_
  refine J.locals [2, 3, 1, 0] (WL_tcountLiking_4 C hG hg hQ NF _ _ _ hF) rfl
theorem cal_tlambda_costOfPairs_1 : CalV yX2_lambda_costOfPairs_1 RX2 cX2_lambda_costOfPairs_1 3 (some .int) 2 := ⟨q492, qs9, q94, q493, by decide +kernel⟩
def F_tlambda_costOfPairs_1 (T : TS) (x1 : Int32) (x2 : Int32) (P : Int32 → TS → Prop) : Prop := (vp_in x1 6) ∧ (((T (84 + Int32.toNatClampNeg (x1))) = x2 → (vp_in x1 6) ∧ ((vp_in x2 6) ∧ (P (T (6 + 6 * Int32.toNatClampNeg (x1) + Int32.toNatClampNeg (x2))) T))) ∧ (¬ (T (84 + Int32.toNatClampNeg (x1))) = x2 → P 0 T))
set_option maxHeartbeats 4000000 in
theorem M_tlambda_costOfPairs_1 (G : GT) (l : Launch) (hG : GOK G) (h : AH) (ad : Nat → Nat) (hg : Tg ad) (T : TS) (x1 : Int32) (x2 : Int32) (P : Int32 → TS → Prop) (hF : F_tlambda_costOfPairs_1 T x1 x2 P) : TMi G l yX2_lambda_costOfPairs_1 cX2_lambda_costOfPairs_1 3 .int 0 0 [.ref (ad 0), .int x1, .int x2] h ad T P := by
  refine MT.mk (own := RX2) (by decide) rfl hG (Nat.le_of_ble_eq_true rfl) ?_
  intro p e s m below meth c args Q hargs hQ C _
  refine J.loca (L2 := [(0, .ref (ad 0)), (1, .int x1), (2, .int x2)]) rfl ?_
  unfold F_tlambda_costOfPairs_1 at hF
  refine j_aload_n C dX2_lambda_costOfPairs_1_0 rfl 0 rfl ?_
  refine jtG4 C hg dX2_lambda_costOfPairs_1_1 ?_
  refine j_iload_n C dX2_lambda_costOfPairs_1_4 rfl 1 rfl ?_
  obtain ⟨hgd, hF⟩ := hF
  refine jtL5 C hg hgd dX2_lambda_costOfPairs_1_5 ?_
  refine j_iload_n C dX2_lambda_costOfPairs_1_6 rfl 2 rfl ?_
  refine j_icmp_ne (tgt := 21) C dX2_lambda_costOfPairs_1_7 (by decide) (fun hc_1 => ?_) (fun hc_1 => ?_)
  · replace hF := hF.2 hc_1
    refine j_iconst (v := 0) C dX2_lambda_costOfPairs_1_21 rfl ?_
    rw [hQ]
    exact j_iret C rfl ⟨_, _, rfl, rfl, hF⟩ dX2_lambda_costOfPairs_1_22
  · replace hF := hF.1 hc_1
    refine j_aload_n C dX2_lambda_costOfPairs_1_10 rfl 0 rfl ?_
    refine jtG0 C hg dX2_lambda_costOfPairs_1_11 ?_
    refine j_iload_n C dX2_lambda_costOfPairs_1_14 rfl 1 rfl ?_
    obtain ⟨hgd, hF⟩ := hF
    have hw_6 := in_lt6 hgd
    refine jtO1 C hg hgd dX2_lambda_costOfPairs_1_15 ?_
    refine j_iload_n C dX2_lambda_costOfPairs_1_16 rfl 2 rfl ?_
    obtain ⟨hgd, hF⟩ := hF
    refine jtLc C hg hw_6 hgd dX2_lambda_costOfPairs_1_17 ?_
    refine j_goto (tgt := 22) C dX2_lambda_costOfPairs_1_18 (by decide) ?_
    rw [hQ]
    exact j_iret C rfl ⟨_, _, rfl, rfl, hF⟩ dX2_lambda_costOfPairs_1_22
theorem cal_tlambda_countBarred_2 : CalV yX2_lambda_countBarred_2 RX2 cX2_lambda_countBarred_2 3 (some .int) 2 := ⟨q1808, qs39, q94, q1809, by decide +kernel⟩
def F_tlambda_countBarred_2 (T : TS) (x1 : Int32) (x2 : Int32) (P : Int32 → TS → Prop) : Prop := F_tcanBe T x1 x2 (fun r_2 T_1 => (r_2 = 0 → P 1 T_1) ∧ (¬ r_2 = 0 → P 0 T_1))
set_option maxHeartbeats 4000000 in
theorem M_tlambda_countBarred_2 (G : GT) (l : Launch) (hG : GOK G) (h : AH) (ad : Nat → Nat) (hg : Tg ad) (T : TS) (x1 : Int32) (x2 : Int32) (P : Int32 → TS → Prop) (hF : F_tlambda_countBarred_2 T x1 x2 P) : TMi G l yX2_lambda_countBarred_2 cX2_lambda_countBarred_2 3 .int 1 22 [.ref (ad 0), .int x1, .int x2] h ad T P := by
  refine MT.mk (own := RX2) (by decide) rfl hG (Nat.le_of_ble_eq_true rfl) ?_
  intro p e s m below meth c args Q hargs hQ C _
  refine J.loca (L2 := [(0, .ref (ad 0)), (1, .int x1), (2, .int x2)]) rfl ?_
  unfold F_tlambda_countBarred_2 at hF
  refine j_aload_n C dX2_lambda_countBarred_2_0 rfl 0 rfl ?_
  refine j_iload_n C dX2_lambda_countBarred_2_1 rfl 1 rfl ?_
  refine j_iload_n C dX2_lambda_countBarred_2_2 rfl 2 rfl ?_
  refine jt_calli hg (As := [.int x1, .int x2]) (rest := []) C (M_tcanBe G l hG h ad hg T x1 x2 _ hF) q441 cal_tcanBe rfl rfl (Nat.le_of_ble_eq_true rfl) ⟨Nat.le_of_ble_eq_true rfl, Nat.le_of_ble_eq_true rfl⟩ dX2_lambda_countBarred_2_3 (fun r_2 T_1 hF => ?_)
  refine j_if_eq (tgt := 13) C dX2_lambda_countBarred_2_6 (by decide) (fun hc_3 => ?_) (fun hc_3 => ?_)
  · replace hF := hF.1 hc_3
    refine j_iconst (v := 1) C dX2_lambda_countBarred_2_13 rfl ?_
    rw [hQ]
    exact j_iret C rfl ⟨_, _, rfl, rfl, hF⟩ dX2_lambda_countBarred_2_14
  · replace hF := hF.2 hc_3
    refine j_iconst (v := 0) C dX2_lambda_countBarred_2_9 rfl ?_
    refine j_goto (tgt := 14) C dX2_lambda_countBarred_2_10 (by decide) ?_
    rw [hQ]
    exact j_iret C rfl ⟨_, _, rfl, rfl, hF⟩ dX2_lambda_countBarred_2_14
theorem cal_tlambda_countMastersOf_5 : CalV yX2_lambda_countMastersOf_5 RX2 cX2_lambda_countMastersOf_5 4 (some .int) 3 := ⟨q1169, qs21, q94, q1170, by decide +kernel⟩
def F_tlambda_countMastersOf_5 (T : TS) (x1 : Int32) (x2 : Int32) (x3 : Int32) (P : Int32 → TS → Prop) : Prop := (x2 = x1 → F_tcanBe T x2 x3 (fun r_3 T_2 => (r_3 = 0 → P 0 T_2) ∧ (¬ r_3 = 0 → P 1 T_2))) ∧ (¬ x2 = x1 → P 0 T)
set_option maxHeartbeats 4000000 in
theorem M_tlambda_countMastersOf_5 (G : GT) (l : Launch) (hG : GOK G) (h : AH) (ad : Nat → Nat) (hg : Tg ad) (T : TS) (x1 : Int32) (x2 : Int32) (x3 : Int32) (P : Int32 → TS → Prop) (hF : F_tlambda_countMastersOf_5 T x1 x2 x3 P) : TMi G l yX2_lambda_countMastersOf_5 cX2_lambda_countMastersOf_5 4 .int 1 22 [.ref (ad 0), .int x1, .int x2, .int x3] h ad T P := by
  refine MT.mk (own := RX2) (by decide) rfl hG (Nat.le_of_ble_eq_true rfl) ?_
  intro p e s m below meth c args Q hargs hQ C _
  refine J.loca (L2 := [(0, .ref (ad 0)), (1, .int x1), (2, .int x2), (3, .int x3)]) rfl ?_
  unfold F_tlambda_countMastersOf_5 at hF
  refine j_iload_n C dX2_lambda_countMastersOf_5_0 rfl 2 rfl ?_
  refine j_iload_n C dX2_lambda_countMastersOf_5_1 rfl 1 rfl ?_
  refine j_icmp_ne (tgt := 18) C dX2_lambda_countMastersOf_5_2 (by decide) (fun hc_1 => ?_) (fun hc_1 => ?_)
  · replace hF := hF.2 hc_1
    refine j_iconst (v := 0) C dX2_lambda_countMastersOf_5_18 rfl ?_
    rw [hQ]
    exact j_iret C rfl ⟨_, _, rfl, rfl, hF⟩ dX2_lambda_countMastersOf_5_19
  · replace hF := hF.1 hc_1
    refine j_aload_n C dX2_lambda_countMastersOf_5_5 rfl 0 rfl ?_
    refine j_iload_n C dX2_lambda_countMastersOf_5_6 rfl 2 rfl ?_
    refine j_iload_n C dX2_lambda_countMastersOf_5_7 rfl 3 rfl ?_
    refine jt_calli hg (As := [.int x2, .int x3]) (rest := []) C (M_tcanBe G l hG h ad hg T x2 x3 _ hF) q441 cal_tcanBe rfl rfl (Nat.le_of_ble_eq_true rfl) ⟨Nat.le_of_ble_eq_true rfl, Nat.le_of_ble_eq_true rfl⟩ dX2_lambda_countMastersOf_5_8 (fun r_3 T_2 hF => ?_)
    refine j_if_eq (tgt := 18) C dX2_lambda_countMastersOf_5_11 (by decide) (fun hc_4 => ?_) (fun hc_4 => ?_)
    · replace hF := hF.1 hc_4
      refine j_iconst (v := 0) C dX2_lambda_countMastersOf_5_18 rfl ?_
      rw [hQ]
      exact j_iret C rfl ⟨_, _, rfl, rfl, hF⟩ dX2_lambda_countMastersOf_5_19
    · replace hF := hF.2 hc_4
      refine j_iconst (v := 1) C dX2_lambda_countMastersOf_5_14 rfl ?_
      refine j_goto (tgt := 19) C dX2_lambda_countMastersOf_5_15 (by decide) ?_
      rw [hQ]
      exact j_iret C rfl ⟨_, _, rfl, rfl, hF⟩ dX2_lambda_countMastersOf_5_19
theorem cal_tlambda_countPairs_0 : CalV yX2_lambda_countPairs_0 RX2 cX2_lambda_countPairs_0 3 (some .int) 2 := ⟨q966, qs16, q94, q967, by decide +kernel⟩
def F_tlambda_countPairs_0 (T : TS) (x1 : Int32) (x2 : Int32) (P : Int32 → TS → Prop) : Prop := (vp_in x1 6) ∧ (((T (84 + Int32.toNatClampNeg (x1))) = x2 → P 1 T) ∧ (¬ (T (84 + Int32.toNatClampNeg (x1))) = x2 → P 0 T))
set_option maxHeartbeats 4000000 in
theorem M_tlambda_countPairs_0 (G : GT) (l : Launch) (hG : GOK G) (h : AH) (ad : Nat → Nat) (hg : Tg ad) (T : TS) (x1 : Int32) (x2 : Int32) (P : Int32 → TS → Prop) (hF : F_tlambda_countPairs_0 T x1 x2 P) : TMi G l yX2_lambda_countPairs_0 cX2_lambda_countPairs_0 3 .int 0 0 [.ref (ad 0), .int x1, .int x2] h ad T P := by
  refine MT.mk (own := RX2) (by decide) rfl hG (Nat.le_of_ble_eq_true rfl) ?_
  intro p e s m below meth c args Q hargs hQ C _
  refine J.loca (L2 := [(0, .ref (ad 0)), (1, .int x1), (2, .int x2)]) rfl ?_
  unfold F_tlambda_countPairs_0 at hF
  refine j_aload_n C dX2_lambda_countPairs_0_0 rfl 0 rfl ?_
  refine jtG4 C hg dX2_lambda_countPairs_0_1 ?_
  refine j_iload_n C dX2_lambda_countPairs_0_4 rfl 1 rfl ?_
  obtain ⟨hgd, hF⟩ := hF
  refine jtL5 C hg hgd dX2_lambda_countPairs_0_5 ?_
  refine j_iload_n C dX2_lambda_countPairs_0_6 rfl 2 rfl ?_
  refine j_icmp_ne (tgt := 14) C dX2_lambda_countPairs_0_7 (by decide) (fun hc_1 => ?_) (fun hc_1 => ?_)
  · replace hF := hF.2 hc_1
    refine j_iconst (v := 0) C dX2_lambda_countPairs_0_14 rfl ?_
    rw [hQ]
    exact j_iret C rfl ⟨_, _, rfl, rfl, hF⟩ dX2_lambda_countPairs_0_15
  · replace hF := hF.1 hc_1
    refine j_iconst (v := 1) C dX2_lambda_countPairs_0_10 rfl ?_
    refine j_goto (tgt := 15) C dX2_lambda_countPairs_0_11 (by decide) ?_
    rw [hQ]
    exact j_iret C rfl ⟨_, _, rfl, rfl, hF⟩ dX2_lambda_countPairs_0_15
theorem cal_tlambda_yearsAt_3 : CalV yX2_lambda_yearsAt_3 RX2 cX2_lambda_yearsAt_3 4 (some .int) 3 := ⟨q1204, qs23, q94, q1205, by decide +kernel⟩
def F_tlambda_yearsAt_3 (T : TS) (x1 : Int32) (x2 : Int32) (x3 : Int32) (P : Int32 → TS → Prop) : Prop := (x3 = x1 → (vp_in x2 6) ∧ ((vp_in x3 6) ∧ (P (T (42 + 6 * Int32.toNatClampNeg (x2) + Int32.toNatClampNeg (x3))) T))) ∧ (¬ x3 = x1 → P 0 T)
set_option maxHeartbeats 4000000 in
theorem M_tlambda_yearsAt_3 (G : GT) (l : Launch) (hG : GOK G) (h : AH) (ad : Nat → Nat) (hg : Tg ad) (T : TS) (x1 : Int32) (x2 : Int32) (x3 : Int32) (P : Int32 → TS → Prop) (hF : F_tlambda_yearsAt_3 T x1 x2 x3 P) : TMi G l yX2_lambda_yearsAt_3 cX2_lambda_yearsAt_3 4 .int 0 0 [.ref (ad 0), .int x1, .int x2, .int x3] h ad T P := by
  refine MT.mk (own := RX2) (by decide) rfl hG (Nat.le_of_ble_eq_true rfl) ?_
  intro p e s m below meth c args Q hargs hQ C _
  refine J.loca (L2 := [(0, .ref (ad 0)), (1, .int x1), (2, .int x2), (3, .int x3)]) rfl ?_
  unfold F_tlambda_yearsAt_3 at hF
  refine j_iload_n C dX2_lambda_yearsAt_3_0 rfl 3 rfl ?_
  refine j_iload_n C dX2_lambda_yearsAt_3_1 rfl 1 rfl ?_
  refine j_icmp_ne (tgt := 16) C dX2_lambda_yearsAt_3_2 (by decide) (fun hc_1 => ?_) (fun hc_1 => ?_)
  · replace hF := hF.2 hc_1
    refine j_iconst (v := 0) C dX2_lambda_yearsAt_3_16 rfl ?_
    rw [hQ]
    exact j_iret C rfl ⟨_, _, rfl, rfl, hF⟩ dX2_lambda_yearsAt_3_17
  · replace hF := hF.1 hc_1
    refine j_aload_n C dX2_lambda_yearsAt_3_5 rfl 0 rfl ?_
    refine jtG1 C hg dX2_lambda_yearsAt_3_6 ?_
    refine j_iload_n C dX2_lambda_yearsAt_3_9 rfl 2 rfl ?_
    obtain ⟨hgd, hF⟩ := hF
    have hw_8 := in_lt6 hgd
    refine jtO2 C hg hgd dX2_lambda_yearsAt_3_10 ?_
    refine j_iload_n C dX2_lambda_yearsAt_3_11 rfl 3 rfl ?_
    obtain ⟨hgd, hF⟩ := hF
    refine jtLs C hg hw_8 hgd dX2_lambda_yearsAt_3_12 ?_
    refine j_goto (tgt := 17) C dX2_lambda_yearsAt_3_13 (by decide) ?_
    rw [hQ]
    exact j_iret C rfl ⟨_, _, rfl, rfl, hF⟩ dX2_lambda_yearsAt_3_17
theorem cal_tlambda_yearsOf_4 : CalV yX2_lambda_yearsOf_4 RX2 cX2_lambda_yearsOf_4 4 (some .int) 3 := ⟨q1162, qs20, q94, q1163, by decide +kernel⟩
def F_tlambda_yearsOf_4 (T : TS) (x1 : Int32) (x2 : Int32) (x3 : Int32) (P : Int32 → TS → Prop) : Prop := (x2 = x1 → (vp_in x2 6) ∧ ((vp_in x3 6) ∧ (P (T (42 + 6 * Int32.toNatClampNeg (x2) + Int32.toNatClampNeg (x3))) T))) ∧ (¬ x2 = x1 → P 0 T)
set_option maxHeartbeats 4000000 in
theorem M_tlambda_yearsOf_4 (G : GT) (l : Launch) (hG : GOK G) (h : AH) (ad : Nat → Nat) (hg : Tg ad) (T : TS) (x1 : Int32) (x2 : Int32) (x3 : Int32) (P : Int32 → TS → Prop) (hF : F_tlambda_yearsOf_4 T x1 x2 x3 P) : TMi G l yX2_lambda_yearsOf_4 cX2_lambda_yearsOf_4 4 .int 0 0 [.ref (ad 0), .int x1, .int x2, .int x3] h ad T P := by
  refine MT.mk (own := RX2) (by decide) rfl hG (Nat.le_of_ble_eq_true rfl) ?_
  intro p e s m below meth c args Q hargs hQ C _
  refine J.loca (L2 := [(0, .ref (ad 0)), (1, .int x1), (2, .int x2), (3, .int x3)]) rfl ?_
  unfold F_tlambda_yearsOf_4 at hF
  refine j_iload_n C dX2_lambda_yearsOf_4_0 rfl 2 rfl ?_
  refine j_iload_n C dX2_lambda_yearsOf_4_1 rfl 1 rfl ?_
  refine j_icmp_ne (tgt := 16) C dX2_lambda_yearsOf_4_2 (by decide) (fun hc_1 => ?_) (fun hc_1 => ?_)
  · replace hF := hF.2 hc_1
    refine j_iconst (v := 0) C dX2_lambda_yearsOf_4_16 rfl ?_
    rw [hQ]
    exact j_iret C rfl ⟨_, _, rfl, rfl, hF⟩ dX2_lambda_yearsOf_4_17
  · replace hF := hF.1 hc_1
    refine j_aload_n C dX2_lambda_yearsOf_4_5 rfl 0 rfl ?_
    refine jtG1 C hg dX2_lambda_yearsOf_4_6 ?_
    refine j_iload_n C dX2_lambda_yearsOf_4_9 rfl 2 rfl ?_
    obtain ⟨hgd, hF⟩ := hF
    have hw_10 := in_lt6 hgd
    refine jtO2 C hg hgd dX2_lambda_yearsOf_4_10 ?_
    refine j_iload_n C dX2_lambda_yearsOf_4_11 rfl 3 rfl ?_
    obtain ⟨hgd, hF⟩ := hF
    refine jtLs C hg hw_10 hgd dX2_lambda_yearsOf_4_12 ?_
    refine j_goto (tgt := 17) C dX2_lambda_yearsOf_4_13 (by decide) ?_
    rw [hQ]
    exact j_iret C rfl ⟨_, _, rfl, rfl, hF⟩ dX2_lambda_yearsOf_4_17
