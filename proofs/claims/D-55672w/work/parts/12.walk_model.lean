/-! THE MODEL's methods: mirrors and walks (printed by gen/walk.py) -/
set_option maxRecDepth 100000
theorem cal_min : CalS yX3_in cX3_in 3 (some .boolean) 3 := ⟨q1997, q101, q1998, by decide +kernel⟩
def F_min (S : MS) (x0 : Int32) (x1 : Int32) (x2 : Int32) (P : Int32 → MS → Prop) : Prop := (x0 < x1 → P 0 S) ∧ (¬ x0 < x1 → (x2 < x0 → P 0 S) ∧ (¬ x2 < x0 → P 1 S))
set_option maxHeartbeats 4000000 in
theorem M_min (G : GT) (l : Launch) (hG : GOK G) (h : AH) (g : Nat → Nat) (hg : Mg G g) (S : MS) (x0 : Int32) (x1 : Int32) (x2 : Int32) (P : Int32 → MS → Prop) (hF : F_min S x0 x1 x2 P) : MMi G l yX3_in cX3_in 3 .boolean 0 0 [.int x0, .int x1, .int x2] h g S P := by
  refine MT.mk (own := RX3) (by decide) rfl hG (Nat.le_of_ble_eq_true rfl) ?_
  intro p e s m below meth c args Q hargs hQ C _
  refine J.loca (L2 := [(0, .int x0), (1, .int x1), (2, .int x2)]) rfl ?_
  unfold F_min at hF
  refine j_iload_n C dX3_in_0 rfl 0 rfl ?_
  refine j_iload_n C dX3_in_1 rfl 1 rfl ?_
  refine j_icmp_lt (tgt := 14) C dX3_in_2 (by decide) (fun hc_1 => ?_) (fun hc_1 => ?_)
  · replace hF := hF.1 hc_1
    refine j_iconst (v := 0) C dX3_in_14 rfl ?_
    rw [hQ]
    exact j_iret C rfl ⟨_, _, rfl, rfl, hF⟩ dX3_in_15
  · replace hF := hF.2 hc_1
    refine j_iload_n C dX3_in_5 rfl 0 rfl ?_
    refine j_iload_n C dX3_in_6 rfl 2 rfl ?_
    refine j_icmp_gt (tgt := 14) C dX3_in_7 (by decide) (fun hc_2 => ?_) (fun hc_2 => ?_)
    · replace hF := hF.1 hc_2
      refine j_iconst (v := 0) C dX3_in_14 rfl ?_
      rw [hQ]
      exact j_iret C rfl ⟨_, _, rfl, rfl, hF⟩ dX3_in_15
    · replace hF := hF.2 hc_2
      refine j_iconst (v := 1) C dX3_in_10 rfl ?_
      refine j_goto (tgt := 15) C dX3_in_11 (by decide) ?_
      rw [hQ]
      exact j_iret C rfl ⟨_, _, rfl, rfl, hF⟩ dX3_in_15
theorem cal_misThere : CalV yX3_isThere RX3 cX3_isThere 2 (some .boolean) 1 := ⟨q1946, qs40, q101, q1947, by decide +kernel⟩
def F_misThere (S : MS) (x1 : Int32) (P : Int32 → MS → Prop) : Prop := (x1 = 0 → nm (sput S 0 0 1) (fun S_2 => (narrow .boolean (.int x1) = .int x1) ∧ P x1 S_2)) ∧ (¬ x1 = 0 → nm (sput S 0 0 0) (fun S_3 => (narrow .boolean (.int x1) = .int x1) ∧ P x1 S_3))
set_option maxHeartbeats 4000000 in
theorem M_misThere (G : GT) (l : Launch) (hG : GOK G) (h : AH) (g : Nat → Nat) (hg : Mg G g) (S : MS) (x1 : Int32) (P : Int32 → MS → Prop) (hF : F_misThere S x1 P) : MMi G l yX3_isThere cX3_isThere 2 .boolean 0 0 [.ref (g 0), .int x1] h g S P := by
  refine MT.mk (own := RX3) (by decide) rfl hG (Nat.le_of_ble_eq_true rfl) ?_
  intro p e s m below meth c args Q hargs hQ C _
  refine J.loca (L2 := [(0, .ref (g 0)), (1, .int x1)]) rfl ?_
  unfold F_misThere at hF
  refine j_aload_n C dX3_isThere_0 rfl 0 rfl ?_
  refine j_iload_n C dX3_isThere_1 rfl 1 rfl ?_
  refine j_if_eq (tgt := 9) C dX3_isThere_2 (by decide) (fun hc_1 => ?_) (fun hc_1 => ?_)
  · replace hF := hF.1 hc_1
    refine j_iconst (v := 1) C dX3_isThere_9 rfl ?_
    refine jmP0 C hg dX3_isThere_10 ?_
    obtain ⟨S_2, eS_2, hF⟩ := nm_intro hF
    refine m_J eS_2 ?_
    refine j_iload_n C dX3_isThere_13 rfl 1 rfl ?_
    rw [hQ]
    exact j_iret C hF.1 ⟨_, _, rfl, rfl, hF.2⟩ dX3_isThere_14
  · replace hF := hF.2 hc_1
    refine j_iconst (v := 0) C dX3_isThere_5 rfl ?_
    refine j_goto (tgt := 10) C dX3_isThere_6 (by decide) ?_
    refine jmP0 C hg dX3_isThere_10 ?_
    obtain ⟨S_3, eS_3, hF⟩ := nm_intro hF
    refine m_J eS_3 ?_
    refine j_iload_n C dX3_isThere_13 rfl 1 rfl ?_
    rw [hQ]
    exact j_iret C hF.1 ⟨_, _, rfl, rfl, hF.2⟩ dX3_isThere_14
theorem cal_mfound : CalV yX3_found RX3 cX3_found 3 none 1 := ⟨q2078, qs66, q101, q2079, by decide +kernel⟩
def L_mfound_30 (K54 : MS → Prop) (P : MS → Prop) (f1 : Int32) : Nat → MS → Int32 → Prop
  | 0, _, _ => False
  | n + 1, S, z2 => (6 ≤ z2 → K54 S) ∧ (¬ 6 ≤ z2 → (vp_in z2 6) ∧ ((vp_in z2 6) ∧ (nm (sput S 3 (Int32.toNatClampNeg (z2)) (S 2 (Int32.toNatClampNeg (z2)))) (fun S_11 => L_mfound_30 K54 P f1 n S_11 (z2 + 1)))))
def F_mfound (S : MS) (x1 : Int32) (P : MS → Prop) : Prop := nm (sput S 0 11 ((S 0 11) + 1)) (fun S_1 => jn (α := MS → Prop) (fun S_3 => (x1 = (S_3 0 13) → nm (sput S_3 0 12 ((S_3 0 12) + 1)) (fun S_6 => P S_6)) ∧ (¬ x1 = (S_3 0 13) → nm (sput S_3 0 12 ((S_3 0 12) + 0)) (fun S_5 => P S_5))) (fun K_2 => ((S_1 0 13) ≤ x1 → K_2 S_1) ∧ (¬ (S_1 0 13) ≤ x1 → nm (sput S_1 0 13 x1) (fun S_8 => nm (sput S_8 0 12 0) (fun S_9 => L_mfound_30 (fun S_12 => K_2 S_12) P x1 NF S_9 0)))))
set_option maxHeartbeats 4000000 in
theorem WL_mfound_30 {G : GT} {p : Program} {l : Launch} {e : Env} {s : State} {m : MethodId} {args : Array Value} {below : List Frame} {meth : Method} {c : Code} {h : AH} {g : Nat → Nat} {Q : State → Prop} (C : Cx G p s m args meth c cX3_found RX3 3 none) (hG : GOK G) (hg : Mg G g) {P : MS → Prop} (hQ : Q = MQ below (SQ G (fun v h' => ∃ (S' : MS), v = none ∧ h' = (MH G.2.2.1 h g S') ∧ P S')) args s (({ frames := 0, cells := 0, slots := 0, locals := 0 } : Room) : Room).cells (({ frames := 0, cells := 0, slots := 0, locals := 0 } : Room) : Room).slots (fun q => G.1 ≤ q)) {K54 : MS → Prop} {f1 : Int32} (hK54 : ∀ (S0 : MS), K54 S0 → J G p l e ({ frames := 0, cells := 0, slots := 0, locals := 0 } : Room) s m args below meth c 3 Q 0 0 (MH G.2.2.1 h g S0) 54 [(0, .ref (g 0)), (1, .int f1)] []) :
    ∀ (n : Nat) (S : MS) (z2 : Int32), L_mfound_30 K54 P f1 n S z2 → J G p l e ({ frames := 0, cells := 0, slots := 0, locals := 0 } : Room) s m args below meth c 3 Q 0 0 (MH G.2.2.1 h g S) 30 [(0, .ref (g 0)), (1, .int f1), (2, .int z2)] [] := by
  intro n
  induction n with
  | zero => intro S z2 hF; exact hF.elim
  | succ n ih =>
    intro S z2 hF
    unfold L_mfound_30 at hF
    refine j_iload_n C dX3_found_30 rfl 2 rfl ?_
    refine j_bipush (v := 6) C dX3_found_31 rfl ?_
    refine j_icmp_ge (tgt := 54) C dX3_found_33 (by decide) (fun hc_10 => ?_) (fun hc_10 => ?_)
    · replace hF := hF.1 hc_10
      exact J.locals [0, 1] (hK54 _ hF) rfl
    · replace hF := hF.2 hc_10
      refine j_aload_n C dX3_found_36 rfl 0 rfl ?_
      refine jmG10 C dX3_found_37 ?_
      refine j_iload_n C dX3_found_40 rfl 2 rfl ?_
      refine j_aload_n C dX3_found_41 rfl 0 rfl ?_
      refine jmG9 C dX3_found_42 ?_
      refine j_iload_n C dX3_found_45 rfl 2 rfl ?_
      obtain ⟨hgd, hF⟩ := hF
      refine jmL2 C hg hgd dX3_found_46 ?_
      obtain ⟨hgd, hF⟩ := hF
      refine jmS3 C hg hgd dX3_found_47 ?_
      obtain ⟨S_11, eS_11, hF⟩ := nm_intro hF
      refine m_J eS_11 ?_
      refine j_iinc (q := 2) (v := z2 + 1) (L2 := [(2, .int (z2 + 1)), (0, .ref (g 0)), (1, .int f1)]) C dX3_found_48 rfl rfl (by decide) rfl ?_
      refine j_goto (tgt := 30) C dX3_found_51 (by decide) ?_
      exact J.locals [1, 2, 0] (ih _ _ hF) rfl
set_option maxHeartbeats 4000000 in
theorem M_mfound (G : GT) (l : Launch) (hG : GOK G) (h : AH) (g : Nat → Nat) (hg : Mg G g) (S : MS) (x1 : Int32) (P : MS → Prop) (hF : F_mfound S x1 P) : MMv G l yX3_found cX3_found 3 0 0 [.ref (g 0), .int x1] h g S P := by
  refine MT.mk (own := RX3) (by decide) rfl hG (Nat.le_of_ble_eq_true rfl) ?_
  intro p e s m below meth c args Q hargs hQ C _
  refine J.loca (L2 := [(0, .ref (g 0)), (1, .int x1)]) rfl ?_
  unfold F_mfound at hF
  refine j_aload_n C dX3_found_0 rfl 0 rfl ?_
  refine j_dup C dX3_found_1 rfl ?_
  refine jmG11 C dX3_found_2 ?_
  refine j_iconst (v := 1) C dX3_found_5 rfl ?_
  refine j_iadd C dX3_found_6 ?_
  refine jmP11 C hg dX3_found_7 ?_
  obtain ⟨S_1, eS_1, hF⟩ := nm_intro hF
  refine m_J eS_1 ?_
  refine j_iload_n C dX3_found_10 rfl 1 rfl ?_
  refine j_aload_n C dX3_found_11 rfl 0 rfl ?_
  refine jmG13 C dX3_found_12 ?_
  obtain ⟨K_2, hK_2, hF⟩ := jn_intro (M := fun (K : MS → Prop) => ∀ (S_3 : MS), K S_3 → J G p l e ({ frames := 0, cells := 0, slots := 0, locals := 0 } : Room) s m args below meth c 3 Q 0 0 (MH G.2.2.1 h g S_3) 54 [(0, .ref (g 0)), (1, .int x1)] []) (hk := by
      intro S_3 hF
      refine j_aload_n C dX3_found_54 rfl 0 rfl ?_
      refine j_dup C dX3_found_55 rfl ?_
      refine jmG12 C dX3_found_56 ?_
      refine j_iload_n C dX3_found_59 rfl 1 rfl ?_
      refine j_aload_n C dX3_found_60 rfl 0 rfl ?_
      refine jmG13 C dX3_found_61 ?_
      refine j_icmp_ne (tgt := 71) C dX3_found_64 (by decide) (fun hc_4 => ?_) (fun hc_4 => ?_)
      · replace hF := hF.2 hc_4
        refine j_iconst (v := 0) C dX3_found_71 rfl ?_
        refine j_iadd C dX3_found_72 ?_
        refine jmP12 C hg dX3_found_73 ?_
        obtain ⟨S_5, eS_5, hF⟩ := nm_intro hF
        refine m_J eS_5 ?_
        rw [hQ]
        exact j_vret C ⟨_, rfl, rfl, hF⟩ dX3_found_76
      · replace hF := hF.1 hc_4
        refine j_iconst (v := 1) C dX3_found_67 rfl ?_
        refine j_goto (tgt := 72) C dX3_found_68 (by decide) ?_
        refine j_iadd C dX3_found_72 ?_
        refine jmP12 C hg dX3_found_73 ?_
        obtain ⟨S_6, eS_6, hF⟩ := nm_intro hF
        refine m_J eS_6 ?_
        rw [hQ]
        exact j_vret C ⟨_, rfl, rfl, hF⟩ dX3_found_76) hF
  refine j_icmp_ge (tgt := 54) C dX3_found_15 (by decide) (fun hc_7 => ?_) (fun hc_7 => ?_)
  · replace hF := hF.1 hc_7
    exact J.locals [0, 1] (hK_2 _ hF) rfl
  · replace hF := hF.2 hc_7
    refine j_aload_n C dX3_found_18 rfl 0 rfl ?_
    refine j_iload_n C dX3_found_19 rfl 1 rfl ?_
    refine jmP13 C hg dX3_found_20 ?_
    obtain ⟨S_8, eS_8, hF⟩ := nm_intro hF
    refine m_J eS_8 ?_
    refine j_aload_n C dX3_found_23 rfl 0 rfl ?_
    refine j_iconst (v := 0) C dX3_found_24 rfl ?_
    refine jmP12 C hg dX3_found_25 ?_
    obtain ⟨S_9, eS_9, hF⟩ := nm_intro hF
    refine m_J eS_9 ?_
    refine j_iconst (v := 0) C dX3_found_28 rfl ?_
    refine j_istore_n (L2 := [(2, .int 0), (0, .ref (g 0)), (1, .int x1)]) C dX3_found_29 rfl (by decide) rfl ?_
    refine J.locals [1, 2, 0] (WL_mfound_30 C hG hg hQ ?_ NF _ _ hF) rfl
    · intro S_12 hF
      exact J.locals [0, 1] (hK_2 _ hF) rfl
theorem cal_mc : CalV yX3_c RX3 cX3_c 3 (some .int) 2 := ⟨q2005, qs51, q101, q2006, by decide +kernel⟩
def F_mc (S : MS) (x1 : Int32) (x2 : Int32) (P : Int32 → MS → Prop) : Prop := (vp_in ((6 + (6 * x1)) + x2) 1152) ∧ (P (S 1 (Int32.toNatClampNeg ((6 + (6 * x1)) + x2))) S)
set_option maxHeartbeats 4000000 in
theorem M_mc (G : GT) (l : Launch) (hG : GOK G) (h : AH) (g : Nat → Nat) (hg : Mg G g) (S : MS) (x1 : Int32) (x2 : Int32) (P : Int32 → MS → Prop) (hF : F_mc S x1 x2 P) : MMi G l yX3_c cX3_c 3 .int 0 0 [.ref (g 0), .int x1, .int x2] h g S P := by
  refine MT.mk (own := RX3) (by decide) rfl hG (Nat.le_of_ble_eq_true rfl) ?_
  intro p e s m below meth c args Q hargs hQ C _
  refine J.loca (L2 := [(0, .ref (g 0)), (1, .int x1), (2, .int x2)]) rfl ?_
  unfold F_mc at hF
  refine j_aload_n C dX3_c_0 rfl 0 rfl ?_
  refine jmG1 C dX3_c_1 ?_
  refine j_bipush (v := 6) C dX3_c_4 rfl ?_
  refine j_bipush (v := 6) C dX3_c_6 rfl ?_
  refine j_iload_n C dX3_c_8 rfl 1 rfl ?_
  refine j_imul C dX3_c_9 ?_
  refine j_iadd C dX3_c_10 ?_
  refine j_iload_n C dX3_c_11 rfl 2 rfl ?_
  refine j_iadd C dX3_c_12 ?_
  obtain ⟨hgd, hF⟩ := hF
  refine jmL1 C hg hgd dX3_c_13 ?_
  rw [hQ]
  exact j_iret C rfl ⟨_, _, rfl, rfl, hF⟩ dX3_c_14
theorem cal_misBarred : CalV yX3_isBarred RX3 cX3_isBarred 3 (some .boolean) 2 := ⟨q2017, qs53, q101, q2018, by decide +kernel⟩
def F_misBarred (S : MS) (x1 : Int32) (x2 : Int32) (P : Int32 → MS → Prop) : Prop := F_mc S x1 x2 (fun r_2 S_1 => (r_2 = (-1) → P 1 S_1) ∧ (¬ r_2 = (-1) → P 0 S_1))
set_option maxHeartbeats 4000000 in
theorem M_misBarred (G : GT) (l : Launch) (hG : GOK G) (h : AH) (g : Nat → Nat) (hg : Mg G g) (S : MS) (x1 : Int32) (x2 : Int32) (P : Int32 → MS → Prop) (hF : F_misBarred S x1 x2 P) : MMi G l yX3_isBarred cX3_isBarred 3 .boolean 1 22 [.ref (g 0), .int x1, .int x2] h g S P := by
  refine MT.mk (own := RX3) (by decide) rfl hG (Nat.le_of_ble_eq_true rfl) ?_
  intro p e s m below meth c args Q hargs hQ C _
  refine J.loca (L2 := [(0, .ref (g 0)), (1, .int x1), (2, .int x2)]) rfl ?_
  unfold F_misBarred at hF
  refine j_aload_n C dX3_isBarred_0 rfl 0 rfl ?_
  refine j_iload_n C dX3_isBarred_1 rfl 1 rfl ?_
  refine j_iload_n C dX3_isBarred_2 rfl 2 rfl ?_
  refine jm_calli (As := [.int x1, .int x2]) (rest := []) C (M_mc G l hG h g hg S x1 x2 _ hF) q2003 cal_mc rfl rfl (Nat.le_of_ble_eq_true rfl) ⟨Nat.le_of_ble_eq_true rfl, Nat.le_of_ble_eq_true rfl⟩ dX3_isBarred_3 (fun r_2 S_1 hF => ?_)
  refine j_iconst (v := (-1)) C dX3_isBarred_6 rfl ?_
  refine j_icmp_ne (tgt := 14) C dX3_isBarred_7 (by decide) (fun hc_3 => ?_) (fun hc_3 => ?_)
  · replace hF := hF.2 hc_3
    refine j_iconst (v := 0) C dX3_isBarred_14 rfl ?_
    rw [hQ]
    exact j_iret C rfl ⟨_, _, rfl, rfl, hF⟩ dX3_isBarred_15
  · replace hF := hF.1 hc_3
    refine j_iconst (v := 1) C dX3_isBarred_10 rfl ?_
    refine j_goto (tgt := 15) C dX3_isBarred_11 (by decide) ?_
    rw [hQ]
    exact j_iret C rfl ⟨_, _, rfl, rfl, hF⟩ dX3_isBarred_15
theorem cal_misTaken : CalV yX3_isTaken RX3 cX3_isTaken 4 (some .boolean) 2 := ⟨q2082, qs67, q101, q2083, by decide +kernel⟩
def L_misTaken_2 (P : Int32 → MS → Prop) (f1 : Int32) (f2 : Int32) : Nat → MS → Int32 → Prop
  | 0, _, _ => False
  | n + 1, S, z3 => (f1 ≤ z3 → P 0 S) ∧ (¬ f1 ≤ z3 → (vp_in z3 6) ∧ (((S 2 (Int32.toNatClampNeg (z3))) = f2 → P 1 S) ∧ (¬ (S 2 (Int32.toNatClampNeg (z3))) = f2 → L_misTaken_2 P f1 f2 n S (z3 + 1))))
def F_misTaken (S : MS) (x1 : Int32) (x2 : Int32) (P : Int32 → MS → Prop) : Prop := L_misTaken_2  P x1 x2 NF S 0
set_option maxHeartbeats 4000000 in
theorem WL_misTaken_2 {G : GT} {p : Program} {l : Launch} {e : Env} {s : State} {m : MethodId} {args : Array Value} {below : List Frame} {meth : Method} {c : Code} {h : AH} {g : Nat → Nat} {Q : State → Prop} (C : Cx G p s m args meth c cX3_isTaken RX3 4 (some .boolean)) (hG : GOK G) (hg : Mg G g) {P : Int32 → MS → Prop} (hQ : Q = MQ below (SQ G (fun v h' => ∃ (r : Int32) (S' : MS), v = some (.int r) ∧ h' = (MH G.2.2.1 h g S') ∧ P r S')) args s (({ frames := 0, cells := 0, slots := 0, locals := 0 } : Room) : Room).cells (({ frames := 0, cells := 0, slots := 0, locals := 0 } : Room) : Room).slots (fun q => G.1 ≤ q)) {f1 : Int32} {f2 : Int32} :
    ∀ (n : Nat) (S : MS) (z3 : Int32), L_misTaken_2 P f1 f2 n S z3 → J G p l e ({ frames := 0, cells := 0, slots := 0, locals := 0 } : Room) s m args below meth c 4 Q 0 0 (MH G.2.2.1 h g S) 2 [(0, .ref (g 0)), (1, .int f1), (2, .int f2), (3, .int z3)] [] := by
  intro n
  induction n with
  | zero => intro S z3 hF; exact hF.elim
  | succ n ih =>
    intro S z3 hF
    unfold L_misTaken_2 at hF
    refine j_iload_n C dX3_isTaken_2 rfl 3 rfl ?_
    refine j_iload_n C dX3_isTaken_3 rfl 1 rfl ?_
    refine j_icmp_ge (tgt := 25) C dX3_isTaken_4 (by decide) (fun hc_1 => ?_) (fun hc_1 => ?_)
    · replace hF := hF.1 hc_1
      refine j_iconst (v := 0) C dX3_isTaken_25 rfl ?_
      rw [hQ]
      exact j_iret C rfl ⟨_, _, rfl, rfl, hF⟩ dX3_isTaken_26
    · replace hF := hF.2 hc_1
      refine j_aload_n C dX3_isTaken_7 rfl 0 rfl ?_
      refine jmG9 C dX3_isTaken_8 ?_
      refine j_iload_n C dX3_isTaken_11 rfl 3 rfl ?_
      obtain ⟨hgd, hF⟩ := hF
      refine jmL2 C hg hgd dX3_isTaken_12 ?_
      refine j_iload_n C dX3_isTaken_13 rfl 2 rfl ?_
      refine j_icmp_ne (tgt := 19) C dX3_isTaken_14 (by decide) (fun hc_2 => ?_) (fun hc_2 => ?_)
      · replace hF := hF.2 hc_2
        refine j_iinc (q := 3) (v := z3 + 1) (L2 := [(3, .int (z3 + 1)), (0, .ref (g 0)), (1, .int f1), (2, .int f2)]) C dX3_isTaken_19 rfl rfl (by decide) rfl ?_
        refine j_goto (tgt := 2) C dX3_isTaken_22 (by decide) ?_
        exact J.locals [1, 2, 3, 0] (ih _ _ hF) rfl
      · replace hF := hF.1 hc_2
        refine j_iconst (v := 1) C dX3_isTaken_17 rfl ?_
        rw [hQ]
        exact j_iret C rfl ⟨_, _, rfl, rfl, hF⟩ dX3_isTaken_18
set_option maxHeartbeats 4000000 in
theorem M_misTaken (G : GT) (l : Launch) (hG : GOK G) (h : AH) (g : Nat → Nat) (hg : Mg G g) (S : MS) (x1 : Int32) (x2 : Int32) (P : Int32 → MS → Prop) (hF : F_misTaken S x1 x2 P) : MMi G l yX3_isTaken cX3_isTaken 4 .boolean 0 0 [.ref (g 0), .int x1, .int x2] h g S P := by
  refine MT.mk (own := RX3) (by decide) rfl hG (Nat.le_of_ble_eq_true rfl) ?_
  intro p e s m below meth c args Q hargs hQ C _
  refine J.loca (L2 := [(0, .ref (g 0)), (1, .int x1), (2, .int x2)]) rfl ?_
  unfold F_misTaken at hF
  refine j_iconst (v := 0) C dX3_isTaken_0 rfl ?_
  refine j_istore_n (L2 := [(3, .int 0), (0, .ref (g 0)), (1, .int x1), (2, .int x2)]) C dX3_isTaken_1 rfl (by decide) rfl ?_
  refine J.locals [1, 2, 3, 0] (WL_misTaken_2 C hG hg hQ NF _ _ hF) rfl
theorem cal_mgoes : CalV yX3_goes RX3 cX3_goes 6 none 4 := ⟨q2074, qs65, q101, q2075, by decide +kernel⟩
def L_mgoes_19 (rec : MS → Int32 → Int32 → Int32 → Int32 → (MS → Prop) → Prop) (P : MS → Prop) (f1 : Int32) (f2 : Int32) (f3 : Int32) (f4 : Int32) : Nat → MS → Int32 → Prop
  | 0, _, _ => False
  | n + 1, S, z5 => (vp_in 1 1152) ∧ (((S 1 (Int32.toNatClampNeg (1))) ≤ z5 → P S) ∧ (¬ (S 1 (Int32.toNatClampNeg (1))) ≤ z5 → F_misBarred S f1 z5 (fun r_4 S_3 => (r_4 = 0 → F_misTaken S_3 f1 z5 (fun r_7 S_6 => (r_7 = 0 → jn (α := MS → Prop) (fun S_10 => (vp_in f1 6) ∧ (nm (sput S_10 2 (Int32.toNatClampNeg (f1)) z5) (fun S_11 => F_mc S_11 f1 z5 (fun r_13 S_12 => rec S_12 (f1 + 1) (f2 + r_13) f3 f4 (fun S_14 => L_mgoes_19 rec P f1 f2 f3 f4 n S_14 (z5 + 1)))))) (fun K_9 => (f1 = f3 → (z5 = f4 → K_9 S_6) ∧ (¬ z5 = f4 → L_mgoes_19 rec P f1 f2 f3 f4 n S_6 (z5 + 1))) ∧ (¬ f1 = f3 → K_9 S_6))) ∧ (¬ r_7 = 0 → L_mgoes_19 rec P f1 f2 f3 f4 n S_6 (z5 + 1)))) ∧ (¬ r_4 = 0 → L_mgoes_19 rec P f1 f2 f3 f4 n S_3 (z5 + 1)))))
def F_mgoes : Nat → MS → Int32 → Int32 → Int32 → Int32 → (MS → Prop) → Prop
  | 0, _, _, _, _, _, _ => False
  | d + 1, S, x1, x2, x3, x4, P => (vp_in 0 1152) ∧ ((x1 = (S 1 (Int32.toNatClampNeg (0))) → F_mfound S x2 (fun S_17 => P S_17)) ∧ (¬ x1 = (S 1 (Int32.toNatClampNeg (0))) → L_mgoes_19 (F_mgoes d)  P x1 x2 x3 x4 NF S 0))
set_option maxHeartbeats 4000000 in
theorem WL_mgoes_19 {G : GT} {p : Program} {l : Launch} {e : Env} {s : State} {m : MethodId} {args : Array Value} {below : List Frame} {meth : Method} {c : Code} {h : AH} {g : Nat → Nat} {d : Nat} {Q : State → Prop} (C : Cx G p s m args meth c cX3_goes RX3 6 none) (hG : GOK G) (hg : Mg G g) {rec : MS → Int32 → Int32 → Int32 → Int32 → (MS → Prop) → Prop} (hrec : ∀ (S0 : MS) (x1 : Int32) (x2 : Int32) (x3 : Int32) (x4 : Int32) (P0 : MS → Prop), rec S0 x1 x2 x3 x4 P0 → MMv G l yX3_goes cX3_goes 6 (2 + d) (44 + 25 * d) [.ref (g 0), .int x1, .int x2, .int x3, .int x4] h g S0 P0) {P : MS → Prop} (hQ : Q = MQ below (SQ G (fun v h' => ∃ (S' : MS), v = none ∧ h' = (MH G.2.2.1 h g S') ∧ P S')) args s (({ frames := 2 + (d + 1), cells := 0, slots := 0, locals := 44 + 25 * (d + 1) } : Room) : Room).cells (({ frames := 2 + (d + 1), cells := 0, slots := 0, locals := 44 + 25 * (d + 1) } : Room) : Room).slots (fun q => G.1 ≤ q)) {f1 : Int32} {f2 : Int32} {f3 : Int32} {f4 : Int32} :
    ∀ (n : Nat) (S : MS) (z5 : Int32), L_mgoes_19 rec P f1 f2 f3 f4 n S z5 → J G p l e ({ frames := 2 + (d + 1), cells := 0, slots := 0, locals := 44 + 25 * (d + 1) } : Room) s m args below meth c 6 Q 0 0 (MH G.2.2.1 h g S) 19 [(0, .ref (g 0)), (1, .int f1), (2, .int f2), (3, .int f3), (4, .int f4), (5, .int z5)] [] := by
  intro n
  induction n with
  | zero => intro S z5 hF; exact hF.elim
  | succ n ih =>
    intro S z5 hF
    unfold L_mgoes_19 at hF
    refine j_iload C dX3_goes_19 5 rfl ?_
    refine j_aload_n C dX3_goes_21 rfl 0 rfl ?_
    refine jmG1 C dX3_goes_22 ?_
    refine j_iconst (v := 1) C dX3_goes_25 rfl ?_
    obtain ⟨hgd, hF⟩ := hF
    refine jmL1 C hg hgd dX3_goes_26 ?_
    refine j_icmp_ge (tgt := 98) C dX3_goes_27 (by decide) (fun hc_2 => ?_) (fun hc_2 => ?_)
    · replace hF := hF.1 hc_2
      rw [hQ]
      exact j_vret C ⟨_, rfl, rfl, hF⟩ dX3_goes_98
    · replace hF := hF.2 hc_2
      refine j_aload_n C dX3_goes_30 rfl 0 rfl ?_
      refine j_iload_n C dX3_goes_31 rfl 1 rfl ?_
      refine j_iload C dX3_goes_32 5 rfl ?_
      refine jm_calli (As := [.int f1, .int z5]) (rest := []) C (M_misBarred G l hG h g hg S f1 z5 _ hF) q2015 cal_misBarred rfl rfl (Nat.le_of_ble_eq_true rfl) ⟨by dsimp only; omega, by dsimp only; omega⟩ dX3_goes_34 (fun r_4 S_3 hF => ?_)
      refine j_if_ne (tgt := 92) C dX3_goes_37 (by decide) (fun hc_5 => ?_) (fun hc_5 => ?_)
      · replace hF := hF.2 hc_5
        refine j_iinc (q := 5) (v := z5 + 1) (L2 := [(5, .int (z5 + 1)), (0, .ref (g 0)), (1, .int f1), (2, .int f2), (3, .int f3), (4, .int f4)]) C dX3_goes_92 rfl rfl (by decide) rfl ?_
        refine j_goto (tgt := 19) C dX3_goes_95 (by decide) ?_
        exact J.locals [1, 2, 3, 4, 5, 0] (ih _ _ hF) rfl
      · replace hF := hF.1 hc_5
        refine j_aload_n C dX3_goes_40 rfl 0 rfl ?_
        refine j_iload_n C dX3_goes_41 rfl 1 rfl ?_
        refine j_iload C dX3_goes_42 5 rfl ?_
        refine jm_calli (As := [.int f1, .int z5]) (rest := []) C (M_misTaken G l hG h g hg S_3 f1 z5 _ hF) q2080 cal_misTaken rfl rfl (Nat.le_of_ble_eq_true rfl) ⟨by dsimp only; omega, by dsimp only; omega⟩ dX3_goes_44 (fun r_7 S_6 hF => ?_)
        refine j_if_ne (tgt := 92) C dX3_goes_47 (by decide) (fun hc_8 => ?_) (fun hc_8 => ?_)
        · replace hF := hF.2 hc_8
          refine j_iinc (q := 5) (v := z5 + 1) (L2 := [(5, .int (z5 + 1)), (0, .ref (g 0)), (1, .int f1), (2, .int f2), (3, .int f3), (4, .int f4)]) C dX3_goes_92 rfl rfl (by decide) rfl ?_
          refine j_goto (tgt := 19) C dX3_goes_95 (by decide) ?_
          exact J.locals [1, 2, 3, 4, 5, 0] (ih _ _ hF) rfl
        · replace hF := hF.1 hc_8
          refine j_iload_n C dX3_goes_50 rfl 1 rfl ?_
          refine j_iload_n C dX3_goes_51 rfl 3 rfl ?_
          obtain ⟨K_9, hK_9, hF⟩ := jn_intro (M := fun (K : MS → Prop) => ∀ (S_10 : MS), K S_10 → J G p l e ({ frames := 2 + (d + 1), cells := 0, slots := 0, locals := 44 + 25 * (d + 1) } : Room) s m args below meth c 6 Q 0 0 (MH G.2.2.1 h g S_10) 65 [(0, .ref (g 0)), (1, .int f1), (2, .int f2), (3, .int f3), (4, .int f4), (5, .int z5)] []) (hk := by
              intro S_10 hF
              refine j_aload_n C dX3_goes_65 rfl 0 rfl ?_
              refine jmG9 C dX3_goes_66 ?_
              refine j_iload_n C dX3_goes_69 rfl 1 rfl ?_
              refine j_iload C dX3_goes_70 5 rfl ?_
              obtain ⟨hgd, hF⟩ := hF
              refine jmS2 C hg hgd dX3_goes_72 ?_
              obtain ⟨S_11, eS_11, hF⟩ := nm_intro hF
              refine m_J eS_11 ?_
              refine j_aload_n C dX3_goes_73 rfl 0 rfl ?_
              refine j_iload_n C dX3_goes_74 rfl 1 rfl ?_
              refine j_iconst (v := 1) C dX3_goes_75 rfl ?_
              refine j_iadd C dX3_goes_76 ?_
              refine j_iload_n C dX3_goes_77 rfl 2 rfl ?_
              refine j_aload_n C dX3_goes_78 rfl 0 rfl ?_
              refine j_iload_n C dX3_goes_79 rfl 1 rfl ?_
              refine j_iload C dX3_goes_80 5 rfl ?_
              refine jm_calli (As := [.int f1, .int z5]) (rest := [.int f2, .int (f1 + 1), .ref (g 0)]) C (M_mc G l hG h g hg S_11 f1 z5 _ hF) q2003 cal_mc rfl rfl (Nat.le_of_ble_eq_true rfl) ⟨by dsimp only; omega, by dsimp only; omega⟩ dX3_goes_82 (fun r_13 S_12 hF => ?_)
              refine j_iadd C dX3_goes_85 ?_
              refine j_iload_n C dX3_goes_86 rfl 3 rfl ?_
              refine j_iload C dX3_goes_87 4 rfl ?_
              refine jm_callv (As := [.int (f1 + 1), .int (f2 + r_13), .int f3, .int f4]) (rest := []) C (hrec S_12 (f1 + 1) (f2 + r_13) f3 f4 _ hF) q2072 cal_mgoes rfl rfl (Nat.le_of_ble_eq_true rfl) ⟨by dsimp only; omega, by dsimp only; omega⟩ dX3_goes_89 (fun S_14 hF => ?_)
              refine j_iinc (q := 5) (v := z5 + 1) (L2 := [(5, .int (z5 + 1)), (0, .ref (g 0)), (1, .int f1), (2, .int f2), (3, .int f3), (4, .int f4)]) C dX3_goes_92 rfl rfl (by decide) rfl ?_
              refine j_goto (tgt := 19) C dX3_goes_95 (by decide) ?_
              exact J.locals [1, 2, 3, 4, 5, 0] (ih _ _ hF) rfl) hF
          refine j_icmp_ne (tgt := 65) C dX3_goes_52 (by decide) (fun hc_15 => ?_) (fun hc_15 => ?_)
          · replace hF := hF.2 hc_15
            exact J.locals [0, 1, 2, 3, 4, 5] (hK_9 _ hF) rfl
          · replace hF := hF.1 hc_15
            refine j_iload C dX3_goes_55 5 rfl ?_
            refine j_iload C dX3_goes_57 4 rfl ?_
            refine j_icmp_eq (tgt := 65) C dX3_goes_59 (by decide) (fun hc_16 => ?_) (fun hc_16 => ?_)
            · replace hF := hF.1 hc_16
              exact J.locals [0, 1, 2, 3, 4, 5] (hK_9 _ hF) rfl
            · replace hF := hF.2 hc_16
              refine j_goto (tgt := 92) C dX3_goes_62 (by decide) ?_
              refine j_iinc (q := 5) (v := z5 + 1) (L2 := [(5, .int (z5 + 1)), (0, .ref (g 0)), (1, .int f1), (2, .int f2), (3, .int f3), (4, .int f4)]) C dX3_goes_92 rfl rfl (by decide) rfl ?_
              refine j_goto (tgt := 19) C dX3_goes_95 (by decide) ?_
              exact J.locals [1, 2, 3, 4, 5, 0] (ih _ _ hF) rfl
set_option maxHeartbeats 4000000 in
theorem M_mgoes (G : GT) (l : Launch) (hG : GOK G) : ∀ (d : Nat) (h : AH) (g : Nat → Nat) (hg : Mg G g) (S : MS) (x1 : Int32) (x2 : Int32) (x3 : Int32) (x4 : Int32) (P : MS → Prop) (hF : F_mgoes d S x1 x2 x3 x4 P), MMv G l yX3_goes cX3_goes 6 (2 + d) (44 + 25 * d) [.ref (g 0), .int x1, .int x2, .int x3, .int x4] h g S P := by
  intro d
  induction d with
  | zero => intro h g hg S x1 x2 x3 x4 P hF; exact hF.elim
  | succ d ihd =>
    intro h g hg S x1 x2 x3 x4 P hF
    have hrec : ∀ (S0 : MS) (x1 : Int32) (x2 : Int32) (x3 : Int32) (x4 : Int32) (P0 : MS → Prop), F_mgoes d S0 x1 x2 x3 x4 P0 → MMv G l yX3_goes cX3_goes 6 (2 + d) (44 + 25 * d) [.ref (g 0), .int x1, .int x2, .int x3, .int x4] h g S0 P0 := fun S0 x1 x2 x3 x4 P0 h0 => ihd h g hg S0 x1 x2 x3 x4 P0 h0
    refine MT.mk (own := RX3) (by decide) rfl hG (Nat.le_of_ble_eq_true rfl) ?_
    intro p e s m below meth c args Q hargs hQ C _
    refine J.loca (L2 := [(0, .ref (g 0)), (1, .int x1), (2, .int x2), (3, .int x3), (4, .int x4)]) rfl ?_
    unfold F_mgoes at hF
    refine j_iload_n C dX3_goes_0 rfl 1 rfl ?_
    refine j_aload_n C dX3_goes_1 rfl 0 rfl ?_
    refine jmG1 C dX3_goes_2 ?_
    refine j_iconst (v := 0) C dX3_goes_5 rfl ?_
    obtain ⟨hgd, hF⟩ := hF
    refine jmL1 C hg hgd dX3_goes_6 ?_
    refine j_icmp_ne (tgt := 16) C dX3_goes_7 (by decide) (fun hc_1 => ?_) (fun hc_1 => ?_)
    · replace hF := hF.2 hc_1
      refine j_iconst (v := 0) C dX3_goes_16 rfl ?_
      refine j_istore (L2 := [(5, .int 0), (0, .ref (g 0)), (1, .int x1), (2, .int x2), (3, .int x3), (4, .int x4)]) C dX3_goes_17 (by decide) rfl ?_
      refine J.locals [1, 2, 3, 4, 5, 0] (WL_mgoes_19 C hG hg hrec hQ NF _ _ hF) rfl
    · replace hF := hF.1 hc_1
      refine j_aload_n C dX3_goes_10 rfl 0 rfl ?_
      refine j_iload_n C dX3_goes_11 rfl 2 rfl ?_
      refine jm_callv (As := [.int x2]) (rest := []) C (M_mfound G l hG h g hg S x2 _ hF) q2076 cal_mfound rfl rfl (Nat.le_of_ble_eq_true rfl) ⟨by dsimp only; omega, by dsimp only; omega⟩ dX3_goes_12 (fun S_17 hF => ?_)
      rw [hQ]
      exact j_vret C ⟨_, rfl, rfl, hF⟩ dX3_goes_15
theorem cal_mlooksWith : CalV yX3_looksWith RX3 cX3_looksWith 3 none 2 := ⟨q2070, qs64, q101, q2071, by decide +kernel⟩
def F_mlooksWith (S : MS) (x1 : Int32) (x2 : Int32) (P : MS → Prop) : Prop := nm (sput S 0 11 0) (fun S_1 => nm (sput S_1 0 12 0) (fun S_2 => nm (sput S_2 0 13 1000000) (fun S_3 => F_mgoes 8 S_3 0 0 x1 x2 (fun S_4 => P S_4))))
set_option maxHeartbeats 4000000 in
theorem M_mlooksWith (G : GT) (l : Launch) (hG : GOK G) (h : AH) (g : Nat → Nat) (hg : Mg G g) (S : MS) (x1 : Int32) (x2 : Int32) (P : MS → Prop) (hF : F_mlooksWith S x1 x2 P) : MMv G l yX3_looksWith cX3_looksWith 3 11 269 [.ref (g 0), .int x1, .int x2] h g S P := by
  refine MT.mk (own := RX3) (by decide) rfl hG (Nat.le_of_ble_eq_true rfl) ?_
  intro p e s m below meth c args Q hargs hQ C _
  refine J.loca (L2 := [(0, .ref (g 0)), (1, .int x1), (2, .int x2)]) rfl ?_
  unfold F_mlooksWith at hF
  refine j_aload_n C dX3_looksWith_0 rfl 0 rfl ?_
  refine j_iconst (v := 0) C dX3_looksWith_1 rfl ?_
  refine jmP11 C hg dX3_looksWith_2 ?_
  obtain ⟨S_1, eS_1, hF⟩ := nm_intro hF
  refine m_J eS_1 ?_
  refine j_aload_n C dX3_looksWith_5 rfl 0 rfl ?_
  refine j_iconst (v := 0) C dX3_looksWith_6 rfl ?_
  refine jmP12 C hg dX3_looksWith_7 ?_
  obtain ⟨S_2, eS_2, hF⟩ := nm_intro hF
  refine m_J eS_2 ?_
  refine j_aload_n C dX3_looksWith_10 rfl 0 rfl ?_
  refine j_ldc C dX3_looksWith_11 q2047 ?_
  refine jmP13 C hg dX3_looksWith_13 ?_
  obtain ⟨S_3, eS_3, hF⟩ := nm_intro hF
  refine m_J eS_3 ?_
  refine j_aload_n C dX3_looksWith_16 rfl 0 rfl ?_
  refine j_iconst (v := 0) C dX3_looksWith_17 rfl ?_
  refine j_iconst (v := 0) C dX3_looksWith_18 rfl ?_
  refine j_iload_n C dX3_looksWith_19 rfl 1 rfl ?_
  refine j_iload_n C dX3_looksWith_20 rfl 2 rfl ?_
  refine jm_callv (As := [.int 0, .int 0, .int x1, .int x2]) (rest := []) C (M_mgoes G l hG 8 h g hg S_3 0 0 x1 x2 _ hF) q2072 cal_mgoes rfl rfl (Nat.le_of_ble_eq_true rfl) ⟨Nat.le_of_ble_eq_true rfl, Nat.le_of_ble_eq_true rfl⟩ dX3_looksWith_21 (fun S_4 hF => ?_)
  rw [hQ]
  exact j_vret C ⟨_, rfl, rfl, hF⟩ dX3_looksWith_24
theorem cal_mlooks : CalV yX3_looks RX3 cX3_looks 1 none 0 := ⟨q2066, qs63, q101, q2067, by decide +kernel⟩
def F_mlooks (S : MS) (P : MS → Prop) : Prop := F_mlooksWith S (-1) (-1) (fun S_1 => P S_1)
set_option maxHeartbeats 4000000 in
theorem M_mlooks (G : GT) (l : Launch) (hG : GOK G) (h : AH) (g : Nat → Nat) (hg : Mg G g) (S : MS) (P : MS → Prop) (hF : F_mlooks S P) : MMv G l yX3_looks cX3_looks 1 12 291 [.ref (g 0)] h g S P := by
  refine MT.mk (own := RX3) (by decide) rfl hG (Nat.le_of_ble_eq_true rfl) ?_
  intro p e s m below meth c args Q hargs hQ C _
  refine J.loca (L2 := [(0, .ref (g 0))]) rfl ?_
  unfold F_mlooks at hF
  refine j_aload_n C dX3_looks_0 rfl 0 rfl ?_
  refine j_iconst (v := (-1)) C dX3_looks_1 rfl ?_
  refine j_iconst (v := (-1)) C dX3_looks_2 rfl ?_
  refine jm_callv (As := [.int (-1), .int (-1)]) (rest := []) C (M_mlooksWith G l hG h g hg S (-1) (-1) _ hF) q2068 cal_mlooksWith rfl rfl (Nat.le_of_ble_eq_true rfl) ⟨Nat.le_of_ble_eq_true rfl, Nat.le_of_ble_eq_true rfl⟩ dX3_looks_3 (fun S_1 hF => ?_)
  rw [hQ]
  exact j_vret C ⟨_, rfl, rfl, hF⟩ dX3_looks_6
theorem cal_mpairs : CalV yX3_pairs RX3 cX3_pairs 3 (some .int) 0 := ⟨q2272, qs90, q101, q2273, by decide +kernel⟩
def L_mpairs_4 (P : Int32 → MS → Prop) : Nat → MS → Int32 → Int32 → Prop
  | 0, _, _, _ => False
  | n + 1, S, z1, z2 => (vp_in 0 1152) ∧ (((S 1 (Int32.toNatClampNeg (0))) ≤ z2 → P z1 S) ∧ (¬ (S 1 (Int32.toNatClampNeg (0))) ≤ z2 → (vp_in (84 + z2) 1152) ∧ (((S 1 (Int32.toNatClampNeg (84 + z2))) = (-1) → L_mpairs_4 P n S (z1 + 0) (z2 + 1)) ∧ (¬ (S 1 (Int32.toNatClampNeg (84 + z2))) = (-1) → L_mpairs_4 P n S (z1 + 1) (z2 + 1)))))
def F_mpairs (S : MS) (P : Int32 → MS → Prop) : Prop := L_mpairs_4  P NF S 0 0
set_option maxHeartbeats 4000000 in
theorem WL_mpairs_4 {G : GT} {p : Program} {l : Launch} {e : Env} {s : State} {m : MethodId} {args : Array Value} {below : List Frame} {meth : Method} {c : Code} {h : AH} {g : Nat → Nat} {Q : State → Prop} (C : Cx G p s m args meth c cX3_pairs RX3 3 (some .int)) (hG : GOK G) (hg : Mg G g) {P : Int32 → MS → Prop} (hQ : Q = MQ below (SQ G (fun v h' => ∃ (r : Int32) (S' : MS), v = some (.int r) ∧ h' = (MH G.2.2.1 h g S') ∧ P r S')) args s (({ frames := 0, cells := 0, slots := 0, locals := 0 } : Room) : Room).cells (({ frames := 0, cells := 0, slots := 0, locals := 0 } : Room) : Room).slots (fun q => G.1 ≤ q)) :
    ∀ (n : Nat) (S : MS) (z1 : Int32) (z2 : Int32), L_mpairs_4 P n S z1 z2 → J G p l e ({ frames := 0, cells := 0, slots := 0, locals := 0 } : Room) s m args below meth c 3 Q 0 0 (MH G.2.2.1 h g S) 4 [(0, .ref (g 0)), (1, .int z1), (2, .int z2)] [] := by
  intro n
  induction n with
  | zero => intro S z1 z2 hF; exact hF.elim
  | succ n ih =>
    intro S z1 z2 hF
    unfold L_mpairs_4 at hF
    refine j_iload_n C dX3_pairs_4 rfl 2 rfl ?_
    refine j_aload_n C dX3_pairs_5 rfl 0 rfl ?_
    refine jmG1 C dX3_pairs_6 ?_
    refine j_iconst (v := 0) C dX3_pairs_9 rfl ?_
    obtain ⟨hgd, hF⟩ := hF
    refine jmL1 C hg hgd dX3_pairs_10 ?_
    refine j_icmp_ge (tgt := 41) C dX3_pairs_11 (by decide) (fun hc_1 => ?_) (fun hc_1 => ?_)
    · replace hF := hF.1 hc_1
      refine j_iload_n C dX3_pairs_41 rfl 1 rfl ?_
      rw [hQ]
      exact j_iret C rfl ⟨_, _, rfl, rfl, hF⟩ dX3_pairs_42
    · replace hF := hF.2 hc_1
      refine j_iload_n C dX3_pairs_14 rfl 1 rfl ?_
      refine j_aload_n C dX3_pairs_15 rfl 0 rfl ?_
      refine jmG1 C dX3_pairs_16 ?_
      refine j_bipush (v := 84) C dX3_pairs_19 rfl ?_
      refine j_iload_n C dX3_pairs_21 rfl 2 rfl ?_
      refine j_iadd C dX3_pairs_22 ?_
      obtain ⟨hgd, hF⟩ := hF
      refine jmL1 C hg hgd dX3_pairs_23 ?_
      refine j_iconst (v := (-1)) C dX3_pairs_24 rfl ?_
      refine j_icmp_ne (tgt := 32) C dX3_pairs_25 (by decide) (fun hc_2 => ?_) (fun hc_2 => ?_)
      · replace hF := hF.2 hc_2
        refine j_iconst (v := 1) C dX3_pairs_32 rfl ?_
        refine j_iadd C dX3_pairs_33 ?_
        refine j_istore_n (L2 := [(1, .int (z1 + 1)), (0, .ref (g 0)), (2, .int z2)]) C dX3_pairs_34 rfl (by decide) rfl ?_
        refine j_iinc (q := 2) (v := z2 + 1) (L2 := [(2, .int (z2 + 1)), (1, .int (z1 + 1)), (0, .ref (g 0))]) C dX3_pairs_35 rfl rfl (by decide) rfl ?_
        refine j_goto (tgt := 4) C dX3_pairs_38 (by decide) ?_
        exact J.locals [2, 1, 0] (ih _ _ _ hF) rfl
      · replace hF := hF.1 hc_2
        refine j_iconst (v := 0) C dX3_pairs_28 rfl ?_
        refine j_goto (tgt := 33) C dX3_pairs_29 (by decide) ?_
        refine j_iadd C dX3_pairs_33 ?_
        refine j_istore_n (L2 := [(1, .int (z1 + 0)), (0, .ref (g 0)), (2, .int z2)]) C dX3_pairs_34 rfl (by decide) rfl ?_
        refine j_iinc (q := 2) (v := z2 + 1) (L2 := [(2, .int (z2 + 1)), (1, .int (z1 + 0)), (0, .ref (g 0))]) C dX3_pairs_35 rfl rfl (by decide) rfl ?_
        refine j_goto (tgt := 4) C dX3_pairs_38 (by decide) ?_
        exact J.locals [2, 1, 0] (ih _ _ _ hF) rfl
set_option maxHeartbeats 4000000 in
theorem M_mpairs (G : GT) (l : Launch) (hG : GOK G) (h : AH) (g : Nat → Nat) (hg : Mg G g) (S : MS) (P : Int32 → MS → Prop) (hF : F_mpairs S P) : MMi G l yX3_pairs cX3_pairs 3 .int 0 0 [.ref (g 0)] h g S P := by
  refine MT.mk (own := RX3) (by decide) rfl hG (Nat.le_of_ble_eq_true rfl) ?_
  intro p e s m below meth c args Q hargs hQ C _
  refine J.loca (L2 := [(0, .ref (g 0))]) rfl ?_
  unfold F_mpairs at hF
  refine j_iconst (v := 0) C dX3_pairs_0 rfl ?_
  refine j_istore_n (L2 := [(1, .int 0), (0, .ref (g 0))]) C dX3_pairs_1 rfl (by decide) rfl ?_
  refine j_iconst (v := 0) C dX3_pairs_2 rfl ?_
  refine j_istore_n (L2 := [(2, .int 0), (1, .int 0), (0, .ref (g 0))]) C dX3_pairs_3 rfl (by decide) rfl ?_
  refine J.locals [2, 1, 0] (WL_mpairs_4 C hG hg hQ NF _ _ _ hF) rfl
theorem cal_mpairCost : CalV yX3_pairCost RX3 cX3_pairCost 3 (some .int) 0 := ⟨q2114, qs73, q101, q2115, by decide +kernel⟩
def L_mpairCost_4 (P : Int32 → MS → Prop) : Nat → MS → Int32 → Int32 → Prop
  | 0, _, _, _ => False
  | n + 1, S, z1, z2 => (vp_in 0 1152) ∧ (((S 1 (Int32.toNatClampNeg (0))) ≤ z2 → P z1 S) ∧ (¬ (S 1 (Int32.toNatClampNeg (0))) ≤ z2 → (vp_in (84 + z2) 1152) ∧ (((S 1 (Int32.toNatClampNeg (84 + z2))) = (-1) → L_mpairCost_4 P n S (z1 + 0) (z2 + 1)) ∧ (¬ (S 1 (Int32.toNatClampNeg (84 + z2))) = (-1) → (vp_in (84 + z2) 1152) ∧ (F_mc S z2 (S 1 (Int32.toNatClampNeg (84 + z2))) (fun r_4 S_3 => L_mpairCost_4 P n S_3 (z1 + r_4) (z2 + 1)))))))
def F_mpairCost (S : MS) (P : Int32 → MS → Prop) : Prop := L_mpairCost_4  P NF S 0 0
set_option maxHeartbeats 4000000 in
theorem WL_mpairCost_4 {G : GT} {p : Program} {l : Launch} {e : Env} {s : State} {m : MethodId} {args : Array Value} {below : List Frame} {meth : Method} {c : Code} {h : AH} {g : Nat → Nat} {Q : State → Prop} (C : Cx G p s m args meth c cX3_pairCost RX3 3 (some .int)) (hG : GOK G) (hg : Mg G g) {P : Int32 → MS → Prop} (hQ : Q = MQ below (SQ G (fun v h' => ∃ (r : Int32) (S' : MS), v = some (.int r) ∧ h' = (MH G.2.2.1 h g S') ∧ P r S')) args s (({ frames := 1, cells := 0, slots := 0, locals := 22 } : Room) : Room).cells (({ frames := 1, cells := 0, slots := 0, locals := 22 } : Room) : Room).slots (fun q => G.1 ≤ q)) :
    ∀ (n : Nat) (S : MS) (z1 : Int32) (z2 : Int32), L_mpairCost_4 P n S z1 z2 → J G p l e ({ frames := 1, cells := 0, slots := 0, locals := 22 } : Room) s m args below meth c 3 Q 0 0 (MH G.2.2.1 h g S) 4 [(0, .ref (g 0)), (1, .int z1), (2, .int z2)] [] := by
  intro n
  induction n with
  | zero => intro S z1 z2 hF; exact hF.elim
  | succ n ih =>
    intro S z1 z2 hF
    unfold L_mpairCost_4 at hF
    refine j_iload_n C dX3_pairCost_4 rfl 2 rfl ?_
    refine j_aload_n C dX3_pairCost_5 rfl 0 rfl ?_
    refine jmG1 C dX3_pairCost_6 ?_
    refine j_iconst (v := 0) C dX3_pairCost_9 rfl ?_
    obtain ⟨hgd, hF⟩ := hF
    refine jmL1 C hg hgd dX3_pairCost_10 ?_
    refine j_icmp_ge (tgt := 54) C dX3_pairCost_11 (by decide) (fun hc_1 => ?_) (fun hc_1 => ?_)
    · replace hF := hF.1 hc_1
      refine j_iload_n C dX3_pairCost_54 rfl 1 rfl ?_
      rw [hQ]
      exact j_iret C rfl ⟨_, _, rfl, rfl, hF⟩ dX3_pairCost_55
    · replace hF := hF.2 hc_1
      refine j_iload_n C dX3_pairCost_14 rfl 1 rfl ?_
      refine j_aload_n C dX3_pairCost_15 rfl 0 rfl ?_
      refine jmG1 C dX3_pairCost_16 ?_
      refine j_bipush (v := 84) C dX3_pairCost_19 rfl ?_
      refine j_iload_n C dX3_pairCost_21 rfl 2 rfl ?_
      refine j_iadd C dX3_pairCost_22 ?_
      obtain ⟨hgd, hF⟩ := hF
      refine jmL1 C hg hgd dX3_pairCost_23 ?_
      refine j_iconst (v := (-1)) C dX3_pairCost_24 rfl ?_
      refine j_icmp_ne (tgt := 32) C dX3_pairCost_25 (by decide) (fun hc_2 => ?_) (fun hc_2 => ?_)
      · replace hF := hF.2 hc_2
        refine j_aload_n C dX3_pairCost_32 rfl 0 rfl ?_
        refine j_iload_n C dX3_pairCost_33 rfl 2 rfl ?_
        refine j_aload_n C dX3_pairCost_34 rfl 0 rfl ?_
        refine jmG1 C dX3_pairCost_35 ?_
        refine j_bipush (v := 84) C dX3_pairCost_38 rfl ?_
        refine j_iload_n C dX3_pairCost_40 rfl 2 rfl ?_
        refine j_iadd C dX3_pairCost_41 ?_
        obtain ⟨hgd, hF⟩ := hF
        refine jmL1 C hg hgd dX3_pairCost_42 ?_
        refine jm_calli (As := [.int z2, .int (S 1 (Int32.toNatClampNeg (84 + z2)))]) (rest := [.int z1]) C (M_mc G l hG h g hg S z2 (S 1 (Int32.toNatClampNeg (84 + z2))) _ hF) q2003 cal_mc rfl rfl (Nat.le_of_ble_eq_true rfl) ⟨Nat.le_of_ble_eq_true rfl, Nat.le_of_ble_eq_true rfl⟩ dX3_pairCost_43 (fun r_4 S_3 hF => ?_)
        refine j_iadd C dX3_pairCost_46 ?_
        refine j_istore_n (L2 := [(1, .int (z1 + r_4)), (0, .ref (g 0)), (2, .int z2)]) C dX3_pairCost_47 rfl (by decide) rfl ?_
        refine j_iinc (q := 2) (v := z2 + 1) (L2 := [(2, .int (z2 + 1)), (1, .int (z1 + r_4)), (0, .ref (g 0))]) C dX3_pairCost_48 rfl rfl (by decide) rfl ?_
        refine j_goto (tgt := 4) C dX3_pairCost_51 (by decide) ?_
        exact J.locals [2, 1, 0] (ih _ _ _ hF) rfl
      · replace hF := hF.1 hc_2
        refine j_iconst (v := 0) C dX3_pairCost_28 rfl ?_
        refine j_goto (tgt := 46) C dX3_pairCost_29 (by decide) ?_
        refine j_iadd C dX3_pairCost_46 ?_
        refine j_istore_n (L2 := [(1, .int (z1 + 0)), (0, .ref (g 0)), (2, .int z2)]) C dX3_pairCost_47 rfl (by decide) rfl ?_
        refine j_iinc (q := 2) (v := z2 + 1) (L2 := [(2, .int (z2 + 1)), (1, .int (z1 + 0)), (0, .ref (g 0))]) C dX3_pairCost_48 rfl rfl (by decide) rfl ?_
        refine j_goto (tgt := 4) C dX3_pairCost_51 (by decide) ?_
        exact J.locals [2, 1, 0] (ih _ _ _ hF) rfl
set_option maxHeartbeats 4000000 in
theorem M_mpairCost (G : GT) (l : Launch) (hG : GOK G) (h : AH) (g : Nat → Nat) (hg : Mg G g) (S : MS) (P : Int32 → MS → Prop) (hF : F_mpairCost S P) : MMi G l yX3_pairCost cX3_pairCost 3 .int 1 22 [.ref (g 0)] h g S P := by
  refine MT.mk (own := RX3) (by decide) rfl hG (Nat.le_of_ble_eq_true rfl) ?_
  intro p e s m below meth c args Q hargs hQ C _
  refine J.loca (L2 := [(0, .ref (g 0))]) rfl ?_
  unfold F_mpairCost at hF
  refine j_iconst (v := 0) C dX3_pairCost_0 rfl ?_
  refine j_istore_n (L2 := [(1, .int 0), (0, .ref (g 0))]) C dX3_pairCost_1 rfl (by decide) rfl ?_
  refine j_iconst (v := 0) C dX3_pairCost_2 rfl ?_
  refine j_istore_n (L2 := [(2, .int 0), (1, .int 0), (0, .ref (g 0))]) C dX3_pairCost_3 rfl (by decide) rfl ?_
  refine J.locals [2, 1, 0] (WL_mpairCost_4 C hG hg hQ NF _ _ _ hF) rfl
theorem cal_mmayHave : CalV yX3_mayHave RX3 cX3_mayHave 4 (some .int) 1 := ⟨q2138, qs76, q101, q2139, by decide +kernel⟩
def L_mmayHave_4 (P : Int32 → MS → Prop) (f1 : Int32) : Nat → MS → Int32 → Int32 → Prop
  | 0, _, _, _ => False
  | n + 1, S, z2, z3 => (vp_in 1 1152) ∧ (((S 1 (Int32.toNatClampNeg (1))) ≤ z3 → P z2 S) ∧ (¬ (S 1 (Int32.toNatClampNeg (1))) ≤ z3 → F_misBarred S f1 z3 (fun r_3 S_2 => (r_3 = 0 → L_mmayHave_4 P f1 n S_2 (z2 + 1) (z3 + 1)) ∧ (¬ r_3 = 0 → L_mmayHave_4 P f1 n S_2 (z2 + 0) (z3 + 1)))))
def F_mmayHave (S : MS) (x1 : Int32) (P : Int32 → MS → Prop) : Prop := L_mmayHave_4  P x1 NF S 0 0
set_option maxHeartbeats 4000000 in
theorem WL_mmayHave_4 {G : GT} {p : Program} {l : Launch} {e : Env} {s : State} {m : MethodId} {args : Array Value} {below : List Frame} {meth : Method} {c : Code} {h : AH} {g : Nat → Nat} {Q : State → Prop} (C : Cx G p s m args meth c cX3_mayHave RX3 4 (some .int)) (hG : GOK G) (hg : Mg G g) {P : Int32 → MS → Prop} (hQ : Q = MQ below (SQ G (fun v h' => ∃ (r : Int32) (S' : MS), v = some (.int r) ∧ h' = (MH G.2.2.1 h g S') ∧ P r S')) args s (({ frames := 2, cells := 0, slots := 0, locals := 44 } : Room) : Room).cells (({ frames := 2, cells := 0, slots := 0, locals := 44 } : Room) : Room).slots (fun q => G.1 ≤ q)) {f1 : Int32} :
    ∀ (n : Nat) (S : MS) (z2 : Int32) (z3 : Int32), L_mmayHave_4 P f1 n S z2 z3 → J G p l e ({ frames := 2, cells := 0, slots := 0, locals := 44 } : Room) s m args below meth c 4 Q 0 0 (MH G.2.2.1 h g S) 4 [(0, .ref (g 0)), (1, .int f1), (2, .int z2), (3, .int z3)] [] := by
  intro n
  induction n with
  | zero => intro S z2 z3 hF; exact hF.elim
  | succ n ih =>
    intro S z2 z3 hF
    unfold L_mmayHave_4 at hF
    refine j_iload_n C dX3_mayHave_4 rfl 3 rfl ?_
    refine j_aload_n C dX3_mayHave_5 rfl 0 rfl ?_
    refine jmG1 C dX3_mayHave_6 ?_
    refine j_iconst (v := 1) C dX3_mayHave_9 rfl ?_
    obtain ⟨hgd, hF⟩ := hF
    refine jmL1 C hg hgd dX3_mayHave_10 ?_
    refine j_icmp_ge (tgt := 37) C dX3_mayHave_11 (by decide) (fun hc_1 => ?_) (fun hc_1 => ?_)
    · replace hF := hF.1 hc_1
      refine j_iload_n C dX3_mayHave_37 rfl 2 rfl ?_
      rw [hQ]
      exact j_iret C rfl ⟨_, _, rfl, rfl, hF⟩ dX3_mayHave_38
    · replace hF := hF.2 hc_1
      refine j_iload_n C dX3_mayHave_14 rfl 2 rfl ?_
      refine j_aload_n C dX3_mayHave_15 rfl 0 rfl ?_
      refine j_iload_n C dX3_mayHave_16 rfl 1 rfl ?_
      refine j_iload_n C dX3_mayHave_17 rfl 3 rfl ?_
      refine jm_calli (As := [.int f1, .int z3]) (rest := [.int z2]) C (M_misBarred G l hG h g hg S f1 z3 _ hF) q2015 cal_misBarred rfl rfl (Nat.le_of_ble_eq_true rfl) ⟨Nat.le_of_ble_eq_true rfl, Nat.le_of_ble_eq_true rfl⟩ dX3_mayHave_18 (fun r_3 S_2 hF => ?_)
      refine j_if_eq (tgt := 28) C dX3_mayHave_21 (by decide) (fun hc_4 => ?_) (fun hc_4 => ?_)
      · replace hF := hF.1 hc_4
        refine j_iconst (v := 1) C dX3_mayHave_28 rfl ?_
        refine j_iadd C dX3_mayHave_29 ?_
        refine j_istore_n (L2 := [(2, .int (z2 + 1)), (0, .ref (g 0)), (1, .int f1), (3, .int z3)]) C dX3_mayHave_30 rfl (by decide) rfl ?_
        refine j_iinc (q := 3) (v := z3 + 1) (L2 := [(3, .int (z3 + 1)), (2, .int (z2 + 1)), (0, .ref (g 0)), (1, .int f1)]) C dX3_mayHave_31 rfl rfl (by decide) rfl ?_
        refine j_goto (tgt := 4) C dX3_mayHave_34 (by decide) ?_
        exact J.locals [2, 3, 1, 0] (ih _ _ _ hF) rfl
      · replace hF := hF.2 hc_4
        refine j_iconst (v := 0) C dX3_mayHave_24 rfl ?_
        refine j_goto (tgt := 29) C dX3_mayHave_25 (by decide) ?_
        refine j_iadd C dX3_mayHave_29 ?_
        refine j_istore_n (L2 := [(2, .int (z2 + 0)), (0, .ref (g 0)), (1, .int f1), (3, .int z3)]) C dX3_mayHave_30 rfl (by decide) rfl ?_
        refine j_iinc (q := 3) (v := z3 + 1) (L2 := [(3, .int (z3 + 1)), (2, .int (z2 + 0)), (0, .ref (g 0)), (1, .int f1)]) C dX3_mayHave_31 rfl rfl (by decide) rfl ?_
        refine j_goto (tgt := 4) C dX3_mayHave_34 (by decide) ?_
        exact J.locals [2, 3, 1, 0] (ih _ _ _ hF) rfl
set_option maxHeartbeats 4000000 in
theorem M_mmayHave (G : GT) (l : Launch) (hG : GOK G) (h : AH) (g : Nat → Nat) (hg : Mg G g) (S : MS) (x1 : Int32) (P : Int32 → MS → Prop) (hF : F_mmayHave S x1 P) : MMi G l yX3_mayHave cX3_mayHave 4 .int 2 44 [.ref (g 0), .int x1] h g S P := by
  refine MT.mk (own := RX3) (by decide) rfl hG (Nat.le_of_ble_eq_true rfl) ?_
  intro p e s m below meth c args Q hargs hQ C _
  refine J.loca (L2 := [(0, .ref (g 0)), (1, .int x1)]) rfl ?_
  unfold F_mmayHave at hF
  refine j_iconst (v := 0) C dX3_mayHave_0 rfl ?_
  refine j_istore_n (L2 := [(2, .int 0), (0, .ref (g 0)), (1, .int x1)]) C dX3_mayHave_1 rfl (by decide) rfl ?_
  refine j_iconst (v := 0) C dX3_mayHave_2 rfl ?_
  refine j_istore_n (L2 := [(3, .int 0), (2, .int 0), (0, .ref (g 0)), (1, .int x1)]) C dX3_mayHave_3 rfl (by decide) rfl ?_
  refine J.locals [2, 3, 1, 0] (WL_mmayHave_4 C hG hg hQ NF _ _ _ hF) rfl
theorem cal_mbarred : CalV yX3_barred RX3 cX3_barred 3 (some .int) 0 := ⟨q2276, qs91, q101, q2277, by decide +kernel⟩
def L_mbarred_4 (P : Int32 → MS → Prop) : Nat → MS → Int32 → Int32 → Prop
  | 0, _, _, _ => False
  | n + 1, S, z1, z2 => (vp_in 0 1152) ∧ (((S 1 (Int32.toNatClampNeg (0))) ≤ z2 → P z1 S) ∧ (¬ (S 1 (Int32.toNatClampNeg (0))) ≤ z2 → (vp_in 1 1152) ∧ (F_mmayHave S z2 (fun r_3 S_2 => L_mbarred_4 P n S_2 (z1 + ((S 1 (Int32.toNatClampNeg (1))) - r_3)) (z2 + 1)))))
def F_mbarred (S : MS) (P : Int32 → MS → Prop) : Prop := L_mbarred_4  P NF S 0 0
set_option maxHeartbeats 4000000 in
theorem WL_mbarred_4 {G : GT} {p : Program} {l : Launch} {e : Env} {s : State} {m : MethodId} {args : Array Value} {below : List Frame} {meth : Method} {c : Code} {h : AH} {g : Nat → Nat} {Q : State → Prop} (C : Cx G p s m args meth c cX3_barred RX3 3 (some .int)) (hG : GOK G) (hg : Mg G g) {P : Int32 → MS → Prop} (hQ : Q = MQ below (SQ G (fun v h' => ∃ (r : Int32) (S' : MS), v = some (.int r) ∧ h' = (MH G.2.2.1 h g S') ∧ P r S')) args s (({ frames := 3, cells := 0, slots := 0, locals := 67 } : Room) : Room).cells (({ frames := 3, cells := 0, slots := 0, locals := 67 } : Room) : Room).slots (fun q => G.1 ≤ q)) :
    ∀ (n : Nat) (S : MS) (z1 : Int32) (z2 : Int32), L_mbarred_4 P n S z1 z2 → J G p l e ({ frames := 3, cells := 0, slots := 0, locals := 67 } : Room) s m args below meth c 3 Q 0 0 (MH G.2.2.1 h g S) 4 [(0, .ref (g 0)), (1, .int z1), (2, .int z2)] [] := by
  intro n
  induction n with
  | zero => intro S z1 z2 hF; exact hF.elim
  | succ n ih =>
    intro S z1 z2 hF
    unfold L_mbarred_4 at hF
    refine j_iload_n C dX3_barred_4 rfl 2 rfl ?_
    refine j_aload_n C dX3_barred_5 rfl 0 rfl ?_
    refine jmG1 C dX3_barred_6 ?_
    refine j_iconst (v := 0) C dX3_barred_9 rfl ?_
    obtain ⟨hgd, hF⟩ := hF
    refine jmL1 C hg hgd dX3_barred_10 ?_
    refine j_icmp_ge (tgt := 35) C dX3_barred_11 (by decide) (fun hc_1 => ?_) (fun hc_1 => ?_)
    · replace hF := hF.1 hc_1
      refine j_iload_n C dX3_barred_35 rfl 1 rfl ?_
      rw [hQ]
      exact j_iret C rfl ⟨_, _, rfl, rfl, hF⟩ dX3_barred_36
    · replace hF := hF.2 hc_1
      refine j_iload_n C dX3_barred_14 rfl 1 rfl ?_
      refine j_aload_n C dX3_barred_15 rfl 0 rfl ?_
      refine jmG1 C dX3_barred_16 ?_
      refine j_iconst (v := 1) C dX3_barred_19 rfl ?_
      obtain ⟨hgd, hF⟩ := hF
      refine jmL1 C hg hgd dX3_barred_20 ?_
      refine j_aload_n C dX3_barred_21 rfl 0 rfl ?_
      refine j_iload_n C dX3_barred_22 rfl 2 rfl ?_
      refine jm_calli (As := [.int z2]) (rest := [.int (S 1 (Int32.toNatClampNeg (1))), .int z1]) C (M_mmayHave G l hG h g hg S z2 _ hF) q2136 cal_mmayHave rfl rfl (Nat.le_of_ble_eq_true rfl) ⟨Nat.le_of_ble_eq_true rfl, Nat.le_of_ble_eq_true rfl⟩ dX3_barred_23 (fun r_3 S_2 hF => ?_)
      refine j_isub C dX3_barred_26 ?_
      refine j_iadd C dX3_barred_27 ?_
      refine j_istore_n (L2 := [(1, .int (z1 + ((S 1 (Int32.toNatClampNeg (1))) - r_3))), (0, .ref (g 0)), (2, .int z2)]) C dX3_barred_28 rfl (by decide) rfl ?_
      refine j_iinc (q := 2) (v := z2 + 1) (L2 := [(2, .int (z2 + 1)), (1, .int (z1 + ((S 1 (Int32.toNatClampNeg (1))) - r_3))), (0, .ref (g 0))]) C dX3_barred_29 rfl rfl (by decide) rfl ?_
      refine j_goto (tgt := 4) C dX3_barred_32 (by decide) ?_
      exact J.locals [2, 1, 0] (ih _ _ _ hF) rfl
set_option maxHeartbeats 4000000 in
theorem M_mbarred (G : GT) (l : Launch) (hG : GOK G) (h : AH) (g : Nat → Nat) (hg : Mg G g) (S : MS) (P : Int32 → MS → Prop) (hF : F_mbarred S P) : MMi G l yX3_barred cX3_barred 3 .int 3 67 [.ref (g 0)] h g S P := by
  refine MT.mk (own := RX3) (by decide) rfl hG (Nat.le_of_ble_eq_true rfl) ?_
  intro p e s m below meth c args Q hargs hQ C _
  refine J.loca (L2 := [(0, .ref (g 0))]) rfl ?_
  unfold F_mbarred at hF
  refine j_iconst (v := 0) C dX3_barred_0 rfl ?_
  refine j_istore_n (L2 := [(1, .int 0), (0, .ref (g 0))]) C dX3_barred_1 rfl (by decide) rfl ?_
  refine j_iconst (v := 0) C dX3_barred_2 rfl ?_
  refine j_istore_n (L2 := [(2, .int 0), (1, .int 0), (0, .ref (g 0))]) C dX3_barred_3 rfl (by decide) rfl ?_
  refine J.locals [2, 1, 0] (WL_mbarred_4 C hG hg hQ NF _ _ _ hF) rfl
theorem cal_maccount : CalV yX3_account RX3 cX3_account 2 (some .int) 1 := ⟨q2267, q2268, q101, q2269, by decide +kernel⟩
def F_maccount (S : MS) (x1 : Int32) (P : Int32 → MS → Prop) : Prop := F_min S x1 0 12 (fun r_2 S_1 => F_misThere S_1 r_2 (fun r_4 S_3 => (r_4 = 0 → P 0 S_3) ∧ (¬ r_4 = 0 → F_mlooks S_3 (fun S_6 => (x1 = 0 → (vp_in 0 1152) ∧ (P (S_6 1 (Int32.toNatClampNeg (0))) S_6)) ∧ (¬ x1 = 0 → (x1 = 1 → (vp_in 1 1152) ∧ (P (S_6 1 (Int32.toNatClampNeg (1))) S_6)) ∧ (¬ x1 = 1 → (x1 = 2 → F_mpairs S_6 (fun r_11 S_10 => P r_11 S_10)) ∧ (¬ x1 = 2 → (x1 = 3 → F_mpairCost S_6 (fun r_14 S_13 => P r_14 S_13)) ∧ (¬ x1 = 3 → (x1 = 4 → F_mbarred S_6 (fun r_17 S_16 => P r_17 S_16)) ∧ (¬ x1 = 4 → (x1 = 5 → (vp_in 3 1152) ∧ (P (S_6 1 (Int32.toNatClampNeg (3))) S_6)) ∧ (¬ x1 = 5 → (x1 = 6 → (vp_in 4 1152) ∧ (P (S_6 1 (Int32.toNatClampNeg (4))) S_6)) ∧ (¬ x1 = 6 → (x1 = 7 → (vp_in 2 1152) ∧ (P (S_6 1 (Int32.toNatClampNeg (2))) S_6)) ∧ (¬ x1 = 7 → (x1 = 8 → P (S_6 0 11) S_6) ∧ (¬ x1 = 8 → (x1 = 9 → P (S_6 0 12) S_6) ∧ (¬ x1 = 9 → (x1 = 10 → (vp_in 5 1152) ∧ (P (S_6 1 (Int32.toNatClampNeg (5))) S_6)) ∧ (¬ x1 = 10 → (x1 = 11 → P (S_6 0 15) S_6) ∧ (¬ x1 = 11 → P (S_6 0 2) S_6))))))))))))))))
set_option maxHeartbeats 4000000 in
theorem M_maccount (G : GT) (l : Launch) (hG : GOK G) (h : AH) (g : Nat → Nat) (hg : Mg G g) (S : MS) (x1 : Int32) (P : Int32 → MS → Prop) (hF : F_maccount S x1 P) : MMi G l yX3_account cX3_account 2 .int 13 311 [.ref (g 0), .int x1] h g S P := by
  refine MT.mk (own := RX3) (by decide) rfl hG (Nat.le_of_ble_eq_true rfl) ?_
  intro p e s m below meth c args Q hargs hQ C _
  refine J.loca (L2 := [(0, .ref (g 0)), (1, .int x1)]) rfl ?_
  unfold F_maccount at hF
  refine j_aload_n C dX3_account_0 rfl 0 rfl ?_
  refine j_iload_n C dX3_account_1 rfl 1 rfl ?_
  refine j_iconst (v := 0) C dX3_account_2 rfl ?_
  refine j_bipush (v := 12) C dX3_account_3 rfl ?_
  refine jm_callsi (As := [.int x1, .int 0, .int 12]) (rest := [.ref (g 0)]) C (M_min G l hG h g hg S x1 0 12 _ hF) q1996 cal_min rfl rfl (Nat.le_of_ble_eq_true rfl) ⟨Nat.le_of_ble_eq_true rfl, Nat.le_of_ble_eq_true rfl⟩ dX3_account_5 (fun r_2 S_1 hF => ?_)
  refine jm_calli (As := [.int r_2]) (rest := []) C (M_misThere G l hG h g hg S_1 r_2 _ hF) q1944 cal_misThere rfl rfl (Nat.le_of_ble_eq_true rfl) ⟨Nat.le_of_ble_eq_true rfl, Nat.le_of_ble_eq_true rfl⟩ dX3_account_8 (fun r_4 S_3 hF => ?_)
  refine j_if_ne (tgt := 16) C dX3_account_11 (by decide) (fun hc_5 => ?_) (fun hc_5 => ?_)
  · replace hF := hF.2 hc_5
    refine j_aload_n C dX3_account_16 rfl 0 rfl ?_
    refine jm_callv (As := []) (rest := []) C (M_mlooks G l hG h g hg S_3 _ hF) q2064 cal_mlooks rfl rfl (Nat.le_of_ble_eq_true rfl) ⟨Nat.le_of_ble_eq_true rfl, Nat.le_of_ble_eq_true rfl⟩ dX3_account_17 (fun S_6 hF => ?_)
    refine j_iload_n C dX3_account_20 rfl 1 rfl ?_
    by_cases hc_7 : x1 = 0
    · replace hF := hF.1 hc_7
      refine j_tableIn (tgt := 84) C dX3_account_21 (by rw [hc_7]; decide) (by rw [hc_7]; decide) (by rw [hc_7]; rfl) (by decide) ?_
      refine j_aload_n C dX3_account_84 rfl 0 rfl ?_
      refine jmG1 C dX3_account_85 ?_
      refine j_iconst (v := 0) C dX3_account_88 rfl ?_
      obtain ⟨hgd, hF⟩ := hF
      refine jmL1 C hg hgd dX3_account_89 ?_
      rw [hQ]
      exact j_iret C rfl ⟨_, _, rfl, rfl, hF⟩ dX3_account_90
    replace hF := hF.2 hc_7
    by_cases hc_8 : x1 = 1
    · replace hF := hF.1 hc_8
      refine j_tableIn (tgt := 91) C dX3_account_21 (by rw [hc_8]; decide) (by rw [hc_8]; decide) (by rw [hc_8]; rfl) (by decide) ?_
      refine j_aload_n C dX3_account_91 rfl 0 rfl ?_
      refine jmG1 C dX3_account_92 ?_
      refine j_iconst (v := 1) C dX3_account_95 rfl ?_
      obtain ⟨hgd, hF⟩ := hF
      refine jmL1 C hg hgd dX3_account_96 ?_
      rw [hQ]
      exact j_iret C rfl ⟨_, _, rfl, rfl, hF⟩ dX3_account_97
    replace hF := hF.2 hc_8
    by_cases hc_9 : x1 = 2
    · replace hF := hF.1 hc_9
      refine j_tableIn (tgt := 98) C dX3_account_21 (by rw [hc_9]; decide) (by rw [hc_9]; decide) (by rw [hc_9]; rfl) (by decide) ?_
      refine j_aload_n C dX3_account_98 rfl 0 rfl ?_
      refine jm_calli (As := []) (rest := []) C (M_mpairs G l hG h g hg S_6 _ hF) q2270 cal_mpairs rfl rfl (Nat.le_of_ble_eq_true rfl) ⟨Nat.le_of_ble_eq_true rfl, Nat.le_of_ble_eq_true rfl⟩ dX3_account_99 (fun r_11 S_10 hF => ?_)
      rw [hQ]
      exact j_iret C rfl ⟨_, _, rfl, rfl, hF⟩ dX3_account_102
    replace hF := hF.2 hc_9
    by_cases hc_12 : x1 = 3
    · replace hF := hF.1 hc_12
      refine j_tableIn (tgt := 103) C dX3_account_21 (by rw [hc_12]; decide) (by rw [hc_12]; decide) (by rw [hc_12]; rfl) (by decide) ?_
      refine j_aload_n C dX3_account_103 rfl 0 rfl ?_
      refine jm_calli (As := []) (rest := []) C (M_mpairCost G l hG h g hg S_6 _ hF) q2112 cal_mpairCost rfl rfl (Nat.le_of_ble_eq_true rfl) ⟨Nat.le_of_ble_eq_true rfl, Nat.le_of_ble_eq_true rfl⟩ dX3_account_104 (fun r_14 S_13 hF => ?_)
      rw [hQ]
      exact j_iret C rfl ⟨_, _, rfl, rfl, hF⟩ dX3_account_107
    replace hF := hF.2 hc_12
    by_cases hc_15 : x1 = 4
    · replace hF := hF.1 hc_15
      refine j_tableIn (tgt := 108) C dX3_account_21 (by rw [hc_15]; decide) (by rw [hc_15]; decide) (by rw [hc_15]; rfl) (by decide) ?_
      refine j_aload_n C dX3_account_108 rfl 0 rfl ?_
      refine jm_calli (As := []) (rest := []) C (M_mbarred G l hG h g hg S_6 _ hF) q2274 cal_mbarred rfl rfl (Nat.le_of_ble_eq_true rfl) ⟨Nat.le_of_ble_eq_true rfl, Nat.le_of_ble_eq_true rfl⟩ dX3_account_109 (fun r_17 S_16 hF => ?_)
      rw [hQ]
      exact j_iret C rfl ⟨_, _, rfl, rfl, hF⟩ dX3_account_112
    replace hF := hF.2 hc_15
    by_cases hc_18 : x1 = 5
    · replace hF := hF.1 hc_18
      refine j_tableIn (tgt := 113) C dX3_account_21 (by rw [hc_18]; decide) (by rw [hc_18]; decide) (by rw [hc_18]; rfl) (by decide) ?_
      refine j_aload_n C dX3_account_113 rfl 0 rfl ?_
      refine jmG1 C dX3_account_114 ?_
      refine j_iconst (v := 3) C dX3_account_117 rfl ?_
      obtain ⟨hgd, hF⟩ := hF
      refine jmL1 C hg hgd dX3_account_118 ?_
      rw [hQ]
      exact j_iret C rfl ⟨_, _, rfl, rfl, hF⟩ dX3_account_119
    replace hF := hF.2 hc_18
    by_cases hc_19 : x1 = 6
    · replace hF := hF.1 hc_19
      refine j_tableIn (tgt := 120) C dX3_account_21 (by rw [hc_19]; decide) (by rw [hc_19]; decide) (by rw [hc_19]; rfl) (by decide) ?_
      refine j_aload_n C dX3_account_120 rfl 0 rfl ?_
      refine jmG1 C dX3_account_121 ?_
      refine j_iconst (v := 4) C dX3_account_124 rfl ?_
      obtain ⟨hgd, hF⟩ := hF
      refine jmL1 C hg hgd dX3_account_125 ?_
      rw [hQ]
      exact j_iret C rfl ⟨_, _, rfl, rfl, hF⟩ dX3_account_126
    replace hF := hF.2 hc_19
    by_cases hc_20 : x1 = 7
    · replace hF := hF.1 hc_20
      refine j_tableIn (tgt := 127) C dX3_account_21 (by rw [hc_20]; decide) (by rw [hc_20]; decide) (by rw [hc_20]; rfl) (by decide) ?_
      refine j_aload_n C dX3_account_127 rfl 0 rfl ?_
      refine jmG1 C dX3_account_128 ?_
      refine j_iconst (v := 2) C dX3_account_131 rfl ?_
      obtain ⟨hgd, hF⟩ := hF
      refine jmL1 C hg hgd dX3_account_132 ?_
      rw [hQ]
      exact j_iret C rfl ⟨_, _, rfl, rfl, hF⟩ dX3_account_133
    replace hF := hF.2 hc_20
    by_cases hc_21 : x1 = 8
    · replace hF := hF.1 hc_21
      refine j_tableIn (tgt := 134) C dX3_account_21 (by rw [hc_21]; decide) (by rw [hc_21]; decide) (by rw [hc_21]; rfl) (by decide) ?_
      refine j_aload_n C dX3_account_134 rfl 0 rfl ?_
      refine jmG11 C dX3_account_135 ?_
      rw [hQ]
      exact j_iret C rfl ⟨_, _, rfl, rfl, hF⟩ dX3_account_138
    replace hF := hF.2 hc_21
    by_cases hc_22 : x1 = 9
    · replace hF := hF.1 hc_22
      refine j_tableIn (tgt := 139) C dX3_account_21 (by rw [hc_22]; decide) (by rw [hc_22]; decide) (by rw [hc_22]; rfl) (by decide) ?_
      refine j_aload_n C dX3_account_139 rfl 0 rfl ?_
      refine jmG12 C dX3_account_140 ?_
      rw [hQ]
      exact j_iret C rfl ⟨_, _, rfl, rfl, hF⟩ dX3_account_143
    replace hF := hF.2 hc_22
    by_cases hc_23 : x1 = 10
    · replace hF := hF.1 hc_23
      refine j_tableIn (tgt := 144) C dX3_account_21 (by rw [hc_23]; decide) (by rw [hc_23]; decide) (by rw [hc_23]; rfl) (by decide) ?_
      refine j_aload_n C dX3_account_144 rfl 0 rfl ?_
      refine jmG1 C dX3_account_145 ?_
      refine j_iconst (v := 5) C dX3_account_148 rfl ?_
      obtain ⟨hgd, hF⟩ := hF
      refine jmL1 C hg hgd dX3_account_149 ?_
      rw [hQ]
      exact j_iret C rfl ⟨_, _, rfl, rfl, hF⟩ dX3_account_150
    replace hF := hF.2 hc_23
    by_cases hc_24 : x1 = 11
    · replace hF := hF.1 hc_24
      refine j_tableIn (tgt := 151) C dX3_account_21 (by rw [hc_24]; decide) (by rw [hc_24]; decide) (by rw [hc_24]; rfl) (by decide) ?_
      refine j_aload_n C dX3_account_151 rfl 0 rfl ?_
      refine jmG15 C dX3_account_152 ?_
      rw [hQ]
      exact j_iret C rfl ⟨_, _, rfl, rfl, hF⟩ dX3_account_155
    replace hF := hF.2 hc_24
    refine j_tableOut (tgt := 156) C dX3_account_21 (sw_out (by decide) (by decide) (fun k hk => by
        rcases (show k = 0 ∨ k = 1 ∨ k = 2 ∨ k = 3 ∨ k = 4 ∨ k = 5 ∨ k = 6 ∨ k = 7 ∨ k = 8 ∨ k = 9 ∨ k = 10 ∨ k = 11 by omega) with rfl | rfl | rfl | rfl | rfl | rfl | rfl | rfl | rfl | rfl | rfl | rfl
        · exact hc_7
        · exact hc_8
        · exact hc_9
        · exact hc_12
        · exact hc_15
        · exact hc_18
        · exact hc_19
        · exact hc_20
        · exact hc_21
        · exact hc_22
        · exact hc_23
        · exact hc_24)) (by decide) ?_
    refine j_aload_n C dX3_account_156 rfl 0 rfl ?_
    refine jmG2 C dX3_account_157 ?_
    rw [hQ]
    exact j_iret C rfl ⟨_, _, rfl, rfl, hF⟩ dX3_account_160
  · replace hF := hF.1 hc_5
    refine j_iconst (v := 0) C dX3_account_14 rfl ?_
    rw [hQ]
    exact j_iret C rfl ⟨_, _, rfl, rfl, hF⟩ dX3_account_15
theorem cal_mallFree : CalV yX3_allFree RX3 cX3_allFree 3 none 1 := ⟨q1970, qs45, q101, q1971, by decide +kernel⟩
def L_mallFree_2 (P : MS → Prop) (f1 : Int32) : Nat → MS → Int32 → Prop
  | 0, _, _ => False
  | n + 1, S, z2 => (6 ≤ z2 → P S) ∧ (¬ 6 ≤ z2 → (vp_in (84 + z2) 1152) ∧ (nm (sput S 1 (Int32.toNatClampNeg (84 + z2)) (-1)) (fun S_2 => (f1 = 0 → (vp_in (78 + z2) 1152) ∧ ((vp_in (78 + z2) 1152) ∧ (nm (sput S_2 1 (Int32.toNatClampNeg (78 + z2)) ((S_2 1 (Int32.toNatClampNeg (78 + z2))) / 2)) (fun S_4 => L_mallFree_2 P f1 n S_4 (z2 + 1))))) ∧ (¬ f1 = 0 → (vp_in (78 + z2) 1152) ∧ (nm (sput S_2 1 (Int32.toNatClampNeg (78 + z2)) 0) (fun S_5 => L_mallFree_2 P f1 n S_5 (z2 + 1)))))))
def F_mallFree (S : MS) (x1 : Int32) (P : MS → Prop) : Prop := L_mallFree_2  P x1 NF S 0
set_option maxHeartbeats 4000000 in
theorem WL_mallFree_2 {G : GT} {p : Program} {l : Launch} {e : Env} {s : State} {m : MethodId} {args : Array Value} {below : List Frame} {meth : Method} {c : Code} {h : AH} {g : Nat → Nat} {Q : State → Prop} (C : Cx G p s m args meth c cX3_allFree RX3 3 none) (hG : GOK G) (hg : Mg G g) {P : MS → Prop} (hQ : Q = MQ below (SQ G (fun v h' => ∃ (S' : MS), v = none ∧ h' = (MH G.2.2.1 h g S') ∧ P S')) args s (({ frames := 0, cells := 0, slots := 0, locals := 0 } : Room) : Room).cells (({ frames := 0, cells := 0, slots := 0, locals := 0 } : Room) : Room).slots (fun q => G.1 ≤ q)) {f1 : Int32} :
    ∀ (n : Nat) (S : MS) (z2 : Int32), L_mallFree_2 P f1 n S z2 → J G p l e ({ frames := 0, cells := 0, slots := 0, locals := 0 } : Room) s m args below meth c 3 Q 0 0 (MH G.2.2.1 h g S) 2 [(0, .ref (g 0)), (1, .int f1), (2, .int z2)] [] := by
  intro n
  induction n with
  | zero => intro S z2 hF; exact hF.elim
  | succ n ih =>
    intro S z2 hF
    unfold L_mallFree_2 at hF
    refine j_iload_n C dX3_allFree_2 rfl 2 rfl ?_
    refine j_bipush (v := 6) C dX3_allFree_3 rfl ?_
    refine j_icmp_ge (tgt := 52) C dX3_allFree_5 (by decide) (fun hc_1 => ?_) (fun hc_1 => ?_)
    · replace hF := hF.1 hc_1
      rw [hQ]
      exact j_vret C ⟨_, rfl, rfl, hF⟩ dX3_allFree_52
    · replace hF := hF.2 hc_1
      refine j_aload_n C dX3_allFree_8 rfl 0 rfl ?_
      refine jmG1 C dX3_allFree_9 ?_
      refine j_bipush (v := 84) C dX3_allFree_12 rfl ?_
      refine j_iload_n C dX3_allFree_14 rfl 2 rfl ?_
      refine j_iadd C dX3_allFree_15 ?_
      refine j_iconst (v := (-1)) C dX3_allFree_16 rfl ?_
      obtain ⟨hgd, hF⟩ := hF
      refine jmS1 C hg hgd dX3_allFree_17 ?_
      obtain ⟨S_2, eS_2, hF⟩ := nm_intro hF
      refine m_J eS_2 ?_
      refine j_aload_n C dX3_allFree_18 rfl 0 rfl ?_
      refine jmG1 C dX3_allFree_19 ?_
      refine j_bipush (v := 78) C dX3_allFree_22 rfl ?_
      refine j_iload_n C dX3_allFree_24 rfl 2 rfl ?_
      refine j_iadd C dX3_allFree_25 ?_
      refine j_iload_n C dX3_allFree_26 rfl 1 rfl ?_
      refine j_if_eq (tgt := 34) C dX3_allFree_27 (by decide) (fun hc_3 => ?_) (fun hc_3 => ?_)
      · replace hF := hF.1 hc_3
        refine j_aload_n C dX3_allFree_34 rfl 0 rfl ?_
        refine jmG1 C dX3_allFree_35 ?_
        refine j_bipush (v := 78) C dX3_allFree_38 rfl ?_
        refine j_iload_n C dX3_allFree_40 rfl 2 rfl ?_
        refine j_iadd C dX3_allFree_41 ?_
        obtain ⟨hgd, hF⟩ := hF
        refine jmL1 C hg hgd dX3_allFree_42 ?_
        refine j_iconst (v := 2) C dX3_allFree_43 rfl ?_
        refine j_idiv C dX3_allFree_44 (by decide) ?_
        obtain ⟨hgd, hF⟩ := hF
        refine jmS1 C hg hgd dX3_allFree_45 ?_
        obtain ⟨S_4, eS_4, hF⟩ := nm_intro hF
        refine m_J eS_4 ?_
        refine j_iinc (q := 2) (v := z2 + 1) (L2 := [(2, .int (z2 + 1)), (0, .ref (g 0)), (1, .int f1)]) C dX3_allFree_46 rfl rfl (by decide) rfl ?_
        refine j_goto (tgt := 2) C dX3_allFree_49 (by decide) ?_
        exact J.locals [1, 2, 0] (ih _ _ hF) rfl
      · replace hF := hF.2 hc_3
        refine j_iconst (v := 0) C dX3_allFree_30 rfl ?_
        refine j_goto (tgt := 45) C dX3_allFree_31 (by decide) ?_
        obtain ⟨hgd, hF⟩ := hF
        refine jmS1 C hg hgd dX3_allFree_45 ?_
        obtain ⟨S_5, eS_5, hF⟩ := nm_intro hF
        refine m_J eS_5 ?_
        refine j_iinc (q := 2) (v := z2 + 1) (L2 := [(2, .int (z2 + 1)), (0, .ref (g 0)), (1, .int f1)]) C dX3_allFree_46 rfl rfl (by decide) rfl ?_
        refine j_goto (tgt := 2) C dX3_allFree_49 (by decide) ?_
        exact J.locals [1, 2, 0] (ih _ _ hF) rfl
set_option maxHeartbeats 4000000 in
theorem M_mallFree (G : GT) (l : Launch) (hG : GOK G) (h : AH) (g : Nat → Nat) (hg : Mg G g) (S : MS) (x1 : Int32) (P : MS → Prop) (hF : F_mallFree S x1 P) : MMv G l yX3_allFree cX3_allFree 3 0 0 [.ref (g 0), .int x1] h g S P := by
  refine MT.mk (own := RX3) (by decide) rfl hG (Nat.le_of_ble_eq_true rfl) ?_
  intro p e s m below meth c args Q hargs hQ C _
  refine J.loca (L2 := [(0, .ref (g 0)), (1, .int x1)]) rfl ?_
  unfold F_mallFree at hF
  refine j_iconst (v := 0) C dX3_allFree_0 rfl ?_
  refine j_istore_n (L2 := [(2, .int 0), (0, .ref (g 0)), (1, .int x1)]) C dX3_allFree_1 rfl (by decide) rfl ?_
  refine J.locals [1, 2, 0] (WL_mallFree_2 C hG hg hQ NF _ _ hF) rfl
theorem cal_mcopies : CalV yX3_copies RX3 cX3_copies 4 none 2 := ⟨q1958, qs42, q101, q1959, by decide +kernel⟩
def L_mcopies_2 (P : MS → Prop) (f1 : Int32) (f2 : Int32) : Nat → MS → Int32 → Prop
  | 0, _, _ => False
  | n + 1, S, z3 => (96 ≤ z3 → P S) ∧ (¬ 96 ≤ z3 → (vp_in ((96 * f1) + z3) 1152) ∧ ((vp_in ((96 * f2) + z3) 1152) ∧ (nm (sput S 1 (Int32.toNatClampNeg ((96 * f2) + z3)) (S 1 (Int32.toNatClampNeg ((96 * f1) + z3)))) (fun S_2 => L_mcopies_2 P f1 f2 n S_2 (z3 + 1)))))
def F_mcopies (S : MS) (x1 : Int32) (x2 : Int32) (P : MS → Prop) : Prop := L_mcopies_2  P x1 x2 NF S 0
set_option maxHeartbeats 4000000 in
theorem WL_mcopies_2 {G : GT} {p : Program} {l : Launch} {e : Env} {s : State} {m : MethodId} {args : Array Value} {below : List Frame} {meth : Method} {c : Code} {h : AH} {g : Nat → Nat} {Q : State → Prop} (C : Cx G p s m args meth c cX3_copies RX3 4 none) (hG : GOK G) (hg : Mg G g) {P : MS → Prop} (hQ : Q = MQ below (SQ G (fun v h' => ∃ (S' : MS), v = none ∧ h' = (MH G.2.2.1 h g S') ∧ P S')) args s (({ frames := 0, cells := 0, slots := 0, locals := 0 } : Room) : Room).cells (({ frames := 0, cells := 0, slots := 0, locals := 0 } : Room) : Room).slots (fun q => G.1 ≤ q)) {f1 : Int32} {f2 : Int32} :
    ∀ (n : Nat) (S : MS) (z3 : Int32), L_mcopies_2 P f1 f2 n S z3 → J G p l e ({ frames := 0, cells := 0, slots := 0, locals := 0 } : Room) s m args below meth c 4 Q 0 0 (MH G.2.2.1 h g S) 2 [(0, .ref (g 0)), (1, .int f1), (2, .int f2), (3, .int z3)] [] := by
  intro n
  induction n with
  | zero => intro S z3 hF; exact hF.elim
  | succ n ih =>
    intro S z3 hF
    unfold L_mcopies_2 at hF
    refine j_iload_n C dX3_copies_2 rfl 3 rfl ?_
    refine j_bipush (v := 96) C dX3_copies_3 rfl ?_
    refine j_icmp_ge (tgt := 36) C dX3_copies_5 (by decide) (fun hc_1 => ?_) (fun hc_1 => ?_)
    · replace hF := hF.1 hc_1
      rw [hQ]
      exact j_vret C ⟨_, rfl, rfl, hF⟩ dX3_copies_36
    · replace hF := hF.2 hc_1
      refine j_aload_n C dX3_copies_8 rfl 0 rfl ?_
      refine jmG1 C dX3_copies_9 ?_
      refine j_bipush (v := 96) C dX3_copies_12 rfl ?_
      refine j_iload_n C dX3_copies_14 rfl 2 rfl ?_
      refine j_imul C dX3_copies_15 ?_
      refine j_iload_n C dX3_copies_16 rfl 3 rfl ?_
      refine j_iadd C dX3_copies_17 ?_
      refine j_aload_n C dX3_copies_18 rfl 0 rfl ?_
      refine jmG1 C dX3_copies_19 ?_
      refine j_bipush (v := 96) C dX3_copies_22 rfl ?_
      refine j_iload_n C dX3_copies_24 rfl 1 rfl ?_
      refine j_imul C dX3_copies_25 ?_
      refine j_iload_n C dX3_copies_26 rfl 3 rfl ?_
      refine j_iadd C dX3_copies_27 ?_
      obtain ⟨hgd, hF⟩ := hF
      refine jmL1 C hg hgd dX3_copies_28 ?_
      obtain ⟨hgd, hF⟩ := hF
      refine jmS1 C hg hgd dX3_copies_29 ?_
      obtain ⟨S_2, eS_2, hF⟩ := nm_intro hF
      refine m_J eS_2 ?_
      refine j_iinc (q := 3) (v := z3 + 1) (L2 := [(3, .int (z3 + 1)), (0, .ref (g 0)), (1, .int f1), (2, .int f2)]) C dX3_copies_30 rfl rfl (by decide) rfl ?_
      refine j_goto (tgt := 2) C dX3_copies_33 (by decide) ?_
      exact J.locals [1, 2, 3, 0] (ih _ _ hF) rfl
set_option maxHeartbeats 4000000 in
theorem M_mcopies (G : GT) (l : Launch) (hG : GOK G) (h : AH) (g : Nat → Nat) (hg : Mg G g) (S : MS) (x1 : Int32) (x2 : Int32) (P : MS → Prop) (hF : F_mcopies S x1 x2 P) : MMv G l yX3_copies cX3_copies 4 0 0 [.ref (g 0), .int x1, .int x2] h g S P := by
  refine MT.mk (own := RX3) (by decide) rfl hG (Nat.le_of_ble_eq_true rfl) ?_
  intro p e s m below meth c args Q hargs hQ C _
  refine J.loca (L2 := [(0, .ref (g 0)), (1, .int x1), (2, .int x2)]) rfl ?_
  unfold F_mcopies at hF
  refine j_iconst (v := 0) C dX3_copies_0 rfl ?_
  refine j_istore_n (L2 := [(3, .int 0), (0, .ref (g 0)), (1, .int x1), (2, .int x2)]) C dX3_copies_1 rfl (by decide) rfl ?_
  refine J.locals [1, 2, 3, 0] (WL_mcopies_2 C hG hg hQ NF _ _ hF) rfl
theorem cal_mbegins : CalV yX3_begins RX3 cX3_begins 1 none 0 := ⟨q1954, qs41, q101, q1955, by decide +kernel⟩
def F_mbegins (S : MS) (P : MS → Prop) : Prop := F_mcopies S 0 10 (fun S_1 => P S_1)
set_option maxHeartbeats 4000000 in
theorem M_mbegins (G : GT) (l : Launch) (hG : GOK G) (h : AH) (g : Nat → Nat) (hg : Mg G g) (S : MS) (P : MS → Prop) (hF : F_mbegins S P) : MMv G l yX3_begins cX3_begins 1 1 23 [.ref (g 0)] h g S P := by
  refine MT.mk (own := RX3) (by decide) rfl hG (Nat.le_of_ble_eq_true rfl) ?_
  intro p e s m below meth c args Q hargs hQ C _
  refine J.loca (L2 := [(0, .ref (g 0))]) rfl ?_
  unfold F_mbegins at hF
  refine j_aload_n C dX3_begins_0 rfl 0 rfl ?_
  refine j_iconst (v := 0) C dX3_begins_1 rfl ?_
  refine j_bipush (v := 10) C dX3_begins_2 rfl ?_
  refine jm_callv (As := [.int 0, .int 10]) (rest := []) C (M_mcopies G l hG h g hg S 0 10 _ hF) q1956 cal_mcopies rfl rfl (Nat.le_of_ble_eq_true rfl) ⟨Nat.le_of_ble_eq_true rfl, Nat.le_of_ble_eq_true rfl⟩ dX3_begins_4 (fun S_1 hF => ?_)
  rw [hQ]
  exact j_vret C ⟨_, rfl, rfl, hF⟩ dX3_begins_7
theorem cal_mrefuses : CalV yX3_refuses RX3 cX3_refuses 4 (some .boolean) 3 := ⟨q1966, qs44, q101, q1967, by decide +kernel⟩
def F_mrefuses (S : MS) (x1 : Int32) (x2 : Int32) (x3 : Int32) (P : Int32 → MS → Prop) : Prop := (x1 = 0 → (narrow .boolean (.int x1) = .int x1) ∧ P x1 S) ∧ (¬ x1 = 0 → nm (sput S 0 5 x2) (fun S_2 => nm (sput S_2 0 6 x3) (fun S_3 => nm (sput S_3 0 7 0) (fun S_4 => (narrow .boolean (.int x1) = .int x1) ∧ P x1 S_4))))
set_option maxHeartbeats 4000000 in
theorem M_mrefuses (G : GT) (l : Launch) (hG : GOK G) (h : AH) (g : Nat → Nat) (hg : Mg G g) (S : MS) (x1 : Int32) (x2 : Int32) (x3 : Int32) (P : Int32 → MS → Prop) (hF : F_mrefuses S x1 x2 x3 P) : MMi G l yX3_refuses cX3_refuses 4 .boolean 0 0 [.ref (g 0), .int x1, .int x2, .int x3] h g S P := by
  refine MT.mk (own := RX3) (by decide) rfl hG (Nat.le_of_ble_eq_true rfl) ?_
  intro p e s m below meth c args Q hargs hQ C _
  refine J.loca (L2 := [(0, .ref (g 0)), (1, .int x1), (2, .int x2), (3, .int x3)]) rfl ?_
  unfold F_mrefuses at hF
  refine j_iload_n C dX3_refuses_0 rfl 1 rfl ?_
  refine j_if_eq (tgt := 19) C dX3_refuses_1 (by decide) (fun hc_1 => ?_) (fun hc_1 => ?_)
  · replace hF := hF.1 hc_1
    refine j_iload_n C dX3_refuses_19 rfl 1 rfl ?_
    rw [hQ]
    exact j_iret C hF.1 ⟨_, _, rfl, rfl, hF.2⟩ dX3_refuses_20
  · replace hF := hF.2 hc_1
    refine j_aload_n C dX3_refuses_4 rfl 0 rfl ?_
    refine j_iload_n C dX3_refuses_5 rfl 2 rfl ?_
    refine jmP5 C hg dX3_refuses_6 ?_
    obtain ⟨S_2, eS_2, hF⟩ := nm_intro hF
    refine m_J eS_2 ?_
    refine j_aload_n C dX3_refuses_9 rfl 0 rfl ?_
    refine j_iload_n C dX3_refuses_10 rfl 3 rfl ?_
    refine jmP6 C hg dX3_refuses_11 ?_
    obtain ⟨S_3, eS_3, hF⟩ := nm_intro hF
    refine m_J eS_3 ?_
    refine j_aload_n C dX3_refuses_14 rfl 0 rfl ?_
    refine j_iconst (v := 0) C dX3_refuses_15 rfl ?_
    refine jmP7 C hg dX3_refuses_16 ?_
    obtain ⟨S_4, eS_4, hF⟩ := nm_intro hF
    refine m_J eS_4 ?_
    refine j_iload_n C dX3_refuses_19 rfl 1 rfl ?_
    rw [hQ]
    exact j_iret C hF.1 ⟨_, _, rfl, rfl, hF.2⟩ dX3_refuses_20
theorem cal_mcomes : CalV yX3_comes RX3 cX3_comes 4 (some .boolean) 1 := ⟨q1962, qs43, q101, q1963, by decide +kernel⟩
def L_mcomes_42 (P : Int32 → MS → Prop) (f1 : Int32) (f2 : Int32) : Nat → MS → Int32 → Prop
  | 0, _, _ => False
  | n + 1, S, z3 => (6 ≤ z3 → F_mallFree S 1 (fun S_9 => nm (sput S_9 0 4 f2) (fun S_10 => P 1 S_10))) ∧ (¬ 6 ≤ z3 → (f1 = 0 → (vp_in ((6 + (6 * f2)) + z3) 1152) ∧ (nm (sput S 1 (Int32.toNatClampNeg ((6 + (6 * f2)) + z3)) 30) (fun S_13 => L_mcomes_42 P f1 f2 n S_13 (z3 + 1)))) ∧ (¬ f1 = 0 → (vp_in ((6 + (6 * z3)) + f2) 1152) ∧ (nm (sput S 1 (Int32.toNatClampNeg ((6 + (6 * z3)) + f2)) 30) (fun S_12 => L_mcomes_42 P f1 f2 n S_12 (z3 + 1)))))
def F_mcomes (S : MS) (x1 : Int32) (P : Int32 → MS → Prop) : Prop := (vp_in x1 1152) ∧ (jn (α := MS → Int32 → Prop) (fun S_2 t_3 => F_mrefuses S_2 t_3 1 6 (fun r_5 S_4 => (r_5 = 0 → (vp_in x1 1152) ∧ ((vp_in x1 1152) ∧ (nm (sput S_4 1 (Int32.toNatClampNeg (x1)) ((S_4 1 (Int32.toNatClampNeg (x1))) + 1)) (fun S_7 => L_mcomes_42  P x1 (S 1 (Int32.toNatClampNeg (x1))) NF S_7 0)))) ∧ (¬ r_5 = 0 → P 0 S_4))) (fun K_1 => ((S 1 (Int32.toNatClampNeg (x1))) = 6 → K_1 S 1) ∧ (¬ (S 1 (Int32.toNatClampNeg (x1))) = 6 → K_1 S 0)))
set_option maxHeartbeats 4000000 in
theorem WL_mcomes_42 {G : GT} {p : Program} {l : Launch} {e : Env} {s : State} {m : MethodId} {args : Array Value} {below : List Frame} {meth : Method} {c : Code} {h : AH} {g : Nat → Nat} {Q : State → Prop} (C : Cx G p s m args meth c cX3_comes RX3 4 (some .boolean)) (hG : GOK G) (hg : Mg G g) {P : Int32 → MS → Prop} (hQ : Q = MQ below (SQ G (fun v h' => ∃ (r : Int32) (S' : MS), v = some (.int r) ∧ h' = (MH G.2.2.1 h g S') ∧ P r S')) args s (({ frames := 1, cells := 0, slots := 0, locals := 23 } : Room) : Room).cells (({ frames := 1, cells := 0, slots := 0, locals := 23 } : Room) : Room).slots (fun q => G.1 ≤ q)) {f1 : Int32} {f2 : Int32} :
    ∀ (n : Nat) (S : MS) (z3 : Int32), L_mcomes_42 P f1 f2 n S z3 → J G p l e ({ frames := 1, cells := 0, slots := 0, locals := 23 } : Room) s m args below meth c 4 Q 0 0 (MH G.2.2.1 h g S) 42 [(0, .ref (g 0)), (1, .int f1), (2, .int f2), (3, .int z3)] [] := by
  intro n
  induction n with
  | zero => intro S z3 hF; exact hF.elim
  | succ n ih =>
    intro S z3 hF
    unfold L_mcomes_42 at hF
    refine j_iload_n C dX3_comes_42 rfl 3 rfl ?_
    refine j_bipush (v := 6) C dX3_comes_43 rfl ?_
    refine j_icmp_ge (tgt := 86) C dX3_comes_45 (by decide) (fun hc_8 => ?_) (fun hc_8 => ?_)
    · replace hF := hF.1 hc_8
      refine j_aload_n C dX3_comes_86 rfl 0 rfl ?_
      refine j_iconst (v := 1) C dX3_comes_87 rfl ?_
      refine jm_callv (As := [.int 1]) (rest := []) C (M_mallFree G l hG h g hg S 1 _ hF) q1968 cal_mallFree rfl rfl (Nat.le_of_ble_eq_true rfl) ⟨Nat.le_of_ble_eq_true rfl, Nat.le_of_ble_eq_true rfl⟩ dX3_comes_88 (fun S_9 hF => ?_)
      refine j_aload_n C dX3_comes_91 rfl 0 rfl ?_
      refine j_iload_n C dX3_comes_92 rfl 2 rfl ?_
      refine jmP4 C hg dX3_comes_93 ?_
      obtain ⟨S_10, eS_10, hF⟩ := nm_intro hF
      refine m_J eS_10 ?_
      refine j_iconst (v := 1) C dX3_comes_96 rfl ?_
      rw [hQ]
      exact j_iret C rfl ⟨_, _, rfl, rfl, hF⟩ dX3_comes_97
    · replace hF := hF.2 hc_8
      refine j_aload_n C dX3_comes_48 rfl 0 rfl ?_
      refine jmG1 C dX3_comes_49 ?_
      refine j_iload_n C dX3_comes_52 rfl 1 rfl ?_
      refine j_if_ne (tgt := 68) C dX3_comes_53 (by decide) (fun hc_11 => ?_) (fun hc_11 => ?_)
      · replace hF := hF.2 hc_11
        refine j_bipush (v := 6) C dX3_comes_68 rfl ?_
        refine j_bipush (v := 6) C dX3_comes_70 rfl ?_
        refine j_iload_n C dX3_comes_72 rfl 3 rfl ?_
        refine j_imul C dX3_comes_73 ?_
        refine j_iadd C dX3_comes_74 ?_
        refine j_iload_n C dX3_comes_75 rfl 2 rfl ?_
        refine j_iadd C dX3_comes_76 ?_
        refine j_bipush (v := 30) C dX3_comes_77 rfl ?_
        obtain ⟨hgd, hF⟩ := hF
        refine jmS1 C hg hgd dX3_comes_79 ?_
        obtain ⟨S_12, eS_12, hF⟩ := nm_intro hF
        refine m_J eS_12 ?_
        refine j_iinc (q := 3) (v := z3 + 1) (L2 := [(3, .int (z3 + 1)), (0, .ref (g 0)), (1, .int f1), (2, .int f2)]) C dX3_comes_80 rfl rfl (by decide) rfl ?_
        refine j_goto (tgt := 42) C dX3_comes_83 (by decide) ?_
        exact J.locals [1, 2, 3, 0] (ih _ _ hF) rfl
      · replace hF := hF.1 hc_11
        refine j_bipush (v := 6) C dX3_comes_56 rfl ?_
        refine j_bipush (v := 6) C dX3_comes_58 rfl ?_
        refine j_iload_n C dX3_comes_60 rfl 2 rfl ?_
        refine j_imul C dX3_comes_61 ?_
        refine j_iadd C dX3_comes_62 ?_
        refine j_iload_n C dX3_comes_63 rfl 3 rfl ?_
        refine j_iadd C dX3_comes_64 ?_
        refine j_goto (tgt := 77) C dX3_comes_65 (by decide) ?_
        refine j_bipush (v := 30) C dX3_comes_77 rfl ?_
        obtain ⟨hgd, hF⟩ := hF
        refine jmS1 C hg hgd dX3_comes_79 ?_
        obtain ⟨S_13, eS_13, hF⟩ := nm_intro hF
        refine m_J eS_13 ?_
        refine j_iinc (q := 3) (v := z3 + 1) (L2 := [(3, .int (z3 + 1)), (0, .ref (g 0)), (1, .int f1), (2, .int f2)]) C dX3_comes_80 rfl rfl (by decide) rfl ?_
        refine j_goto (tgt := 42) C dX3_comes_83 (by decide) ?_
        exact J.locals [1, 2, 3, 0] (ih _ _ hF) rfl
set_option maxHeartbeats 4000000 in
theorem M_mcomes (G : GT) (l : Launch) (hG : GOK G) (h : AH) (g : Nat → Nat) (hg : Mg G g) (S : MS) (x1 : Int32) (P : Int32 → MS → Prop) (hF : F_mcomes S x1 P) : MMi G l yX3_comes cX3_comes 4 .boolean 1 23 [.ref (g 0), .int x1] h g S P := by
  refine MT.mk (own := RX3) (by decide) rfl hG (Nat.le_of_ble_eq_true rfl) ?_
  intro p e s m below meth c args Q hargs hQ C _
  refine J.loca (L2 := [(0, .ref (g 0)), (1, .int x1)]) rfl ?_
  unfold F_mcomes at hF
  refine j_aload_n C dX3_comes_0 rfl 0 rfl ?_
  refine jmG1 C dX3_comes_1 ?_
  refine j_iload_n C dX3_comes_4 rfl 1 rfl ?_
  obtain ⟨hgd, hF⟩ := hF
  refine jmL1 C hg hgd dX3_comes_5 ?_
  refine j_istore_n (L2 := [(2, .int (S 1 (Int32.toNatClampNeg (x1)))), (0, .ref (g 0)), (1, .int x1)]) C dX3_comes_6 rfl (by decide) rfl ?_
  refine j_aload_n C dX3_comes_7 rfl 1 rfl ?_
  refine j_iload_n C dX3_comes_8 rfl 0 rfl ?_
  refine j_bipush (v := 6) C dX3_comes_9 rfl ?_
  obtain ⟨K_1, hK_1, hF⟩ := jn_intro (M := fun (K : MS → Int32 → Prop) => ∀ (S_2 : MS) (t_3 : Int32), K S_2 t_3 → J G p l e ({ frames := 1, cells := 0, slots := 0, locals := 23 } : Room) s m args below meth c 4 Q 0 0 (MH G.2.2.1 h g S_2) 19 [(0, .ref (g 0)), (1, .int x1), (2, .int (S 1 (Int32.toNatClampNeg (x1))))] [.int t_3, .ref (g 0)]) (hk := by
      intro S_2 t_3 hF
      refine j_iconst (v := 1) C dX3_comes_19 rfl ?_
      refine j_bipush (v := 6) C dX3_comes_20 rfl ?_
      refine jm_calli (As := [.int t_3, .int 1, .int 6]) (rest := []) C (M_mrefuses G l hG h g hg S_2 t_3 1 6 _ hF) q1964 cal_mrefuses rfl rfl (Nat.le_of_ble_eq_true rfl) ⟨Nat.le_of_ble_eq_true rfl, Nat.le_of_ble_eq_true rfl⟩ dX3_comes_22 (fun r_5 S_4 hF => ?_)
      refine j_if_eq (tgt := 30) C dX3_comes_25 (by decide) (fun hc_6 => ?_) (fun hc_6 => ?_)
      · replace hF := hF.1 hc_6
        refine j_aload_n C dX3_comes_30 rfl 0 rfl ?_
        refine jmG1 C dX3_comes_31 ?_
        refine j_iload_n C dX3_comes_34 rfl 1 rfl ?_
        refine j_dup2 C dX3_comes_35 rfl rfl ?_
        obtain ⟨hgd, hF⟩ := hF
        refine jmL1 C hg hgd dX3_comes_36 ?_
        refine j_iconst (v := 1) C dX3_comes_37 rfl ?_
        refine j_iadd C dX3_comes_38 ?_
        obtain ⟨hgd, hF⟩ := hF
        refine jmS1 C hg hgd dX3_comes_39 ?_
        obtain ⟨S_7, eS_7, hF⟩ := nm_intro hF
        refine m_J eS_7 ?_
        refine j_iconst (v := 0) C dX3_comes_40 rfl ?_
        refine j_istore_n (L2 := [(3, .int 0), (0, .ref (g 0)), (1, .int x1), (2, .int (S 1 (Int32.toNatClampNeg (x1))))]) C dX3_comes_41 rfl (by decide) rfl ?_
        refine J.locals [1, 2, 3, 0] (WL_mcomes_42 C hG hg hQ NF _ _ hF) rfl
      · replace hF := hF.2 hc_6
        refine j_iconst (v := 0) C dX3_comes_28 rfl ?_
        rw [hQ]
        exact j_iret C rfl ⟨_, _, rfl, rfl, hF⟩ dX3_comes_29) hF
  refine j_icmp_ne (tgt := 18) C dX3_comes_11 (by decide) (fun hc_14 => ?_) (fun hc_14 => ?_)
  · replace hF := hF.2 hc_14
    refine j_iconst (v := 0) C dX3_comes_18 rfl ?_
    exact J.locals [1, 2, 0] (hK_1 _ _ hF) rfl
  · replace hF := hF.1 hc_14
    refine j_iconst (v := 1) C dX3_comes_14 rfl ?_
    refine j_goto (tgt := 19) C dX3_comes_15 (by decide) ?_
    exact J.locals [1, 2, 0] (hK_1 _ _ hF) rfl
theorem cal_mends : CalV yX3_ends RX3 cX3_ends 4 (some .int) 2 := ⟨q1974, qs46, q101, q1975, by decide +kernel⟩
def L_mends_37 (K57 : MS → Prop) (P : Int32 → MS → Prop) : Nat → MS → Int32 → Prop
  | 0, _, _ => False
  | n + 1, S, z3 => (8 ≤ z3 → K57 S) ∧ (¬ 8 ≤ z3 → F_mcopies S (z3 + 1) z3 (fun S_12 => L_mends_37 K57 P n S_12 (z3 + 1)))
def F_mends (S : MS) (x1 : Int32) (x2 : Int32) (P : Int32 → MS → Prop) : Prop := jn (α := MS → Int32 → Prop) (fun S_2 t_3 => nm (sput S_2 0 0 t_3) (fun S_4 => (x1 = 0 → F_mcopies S_4 10 0 (fun S_15 => P 0 S_15)) ∧ (¬ x1 = 0 → jn (α := MS → Prop) (fun S_7 => nm (sput S_7 0 2 ((S_7 0 2) + 1)) (fun S_8 => F_mcopies S_8 10 (S_8 0 2) (fun S_9 => P (S_9 0 4) S_9))) (fun K_6 => ((S_4 0 2) = 8 → L_mends_37 (fun S_13 => nm (sput S_13 0 2 ((S_13 0 2) - 1)) (fun S_14 => K_6 S_14)) P NF S_4 1) ∧ (¬ (S_4 0 2) = 8 → K_6 S_4))))) (fun K_1 => (x1 = 0 → K_1 S x2) ∧ (¬ x1 = 0 → K_1 S 0))
set_option maxHeartbeats 4000000 in
theorem WL_mends_37 {G : GT} {p : Program} {l : Launch} {e : Env} {s : State} {m : MethodId} {args : Array Value} {below : List Frame} {meth : Method} {c : Code} {h : AH} {g : Nat → Nat} {Q : State → Prop} (C : Cx G p s m args meth c cX3_ends RX3 4 (some .int)) (hG : GOK G) (hg : Mg G g) {P : Int32 → MS → Prop} (hQ : Q = MQ below (SQ G (fun v h' => ∃ (r : Int32) (S' : MS), v = some (.int r) ∧ h' = (MH G.2.2.1 h g S') ∧ P r S')) args s (({ frames := 1, cells := 0, slots := 0, locals := 23 } : Room) : Room).cells (({ frames := 1, cells := 0, slots := 0, locals := 23 } : Room) : Room).slots (fun q => G.1 ≤ q)) {K57 : MS → Prop} (hK57 : ∀ (S0 : MS), K57 S0 → J G p l e ({ frames := 1, cells := 0, slots := 0, locals := 23 } : Room) s m args below meth c 4 Q 0 0 (MH G.2.2.1 h g S0) 57 [(0, .ref (g 0))] []) :
    ∀ (n : Nat) (S : MS) (z3 : Int32), L_mends_37 K57 P n S z3 → J G p l e ({ frames := 1, cells := 0, slots := 0, locals := 23 } : Room) s m args below meth c 4 Q 0 0 (MH G.2.2.1 h g S) 37 [(0, .ref (g 0)), (3, .int z3)] [] := by
  intro n
  induction n with
  | zero => intro S z3 hF; exact hF.elim
  | succ n ih =>
    intro S z3 hF
    unfold L_mends_37 at hF
    refine j_iload_n C dX3_ends_37 rfl 1 rfl ?_
    refine j_bipush (v := 8) C dX3_ends_38 rfl ?_
    refine j_icmp_ge (tgt := 57) C dX3_ends_40 (by decide) (fun hc_11 => ?_) (fun hc_11 => ?_)
    · replace hF := hF.1 hc_11
      exact J.locals [0] (hK57 _ hF) rfl
    · replace hF := hF.2 hc_11
      refine j_aload_n C dX3_ends_43 rfl 0 rfl ?_
      refine j_iload_n C dX3_ends_44 rfl 1 rfl ?_
      refine j_iconst (v := 1) C dX3_ends_45 rfl ?_
      refine j_iadd C dX3_ends_46 ?_
      refine j_iload_n C dX3_ends_47 rfl 1 rfl ?_
      refine jm_callv (As := [.int (z3 + 1), .int z3]) (rest := []) C (M_mcopies G l hG h g hg S (z3 + 1) z3 _ hF) q1956 cal_mcopies rfl rfl (Nat.le_of_ble_eq_true rfl) ⟨Nat.le_of_ble_eq_true rfl, Nat.le_of_ble_eq_true rfl⟩ dX3_ends_48 (fun S_12 hF => ?_)
      refine j_iinc (q := 1) (v := z3 + 1) (L2 := [(3, .int (z3 + 1)), (0, .ref (g 0))]) C dX3_ends_51 rfl rfl (by decide) rfl ?_
      refine j_goto (tgt := 37) C dX3_ends_54 (by decide) ?_
      exact J.locals [1, 0] (ih _ _ hF) rfl
set_option maxHeartbeats 4000000 in
theorem M_mends (G : GT) (l : Launch) (hG : GOK G) (h : AH) (g : Nat → Nat) (hg : Mg G g) (S : MS) (x1 : Int32) (x2 : Int32) (P : Int32 → MS → Prop) (hF : F_mends S x1 x2 P) : MMi G l yX3_ends cX3_ends 4 .int 1 23 [.ref (g 0), .int x1, .int x2] h g S P := by
  refine MT.mk (own := RX3) (by decide) rfl hG (Nat.le_of_ble_eq_true rfl) ?_
  intro p e s m below meth c args Q hargs hQ C _
  refine J.loca (L2 := [(0, .ref (g 0)), (1, .int x1), (2, .int x2)]) rfl ?_
  unfold F_mends at hF
  refine j_aload_n C dX3_ends_0 rfl 0 rfl ?_
  refine j_iload_n C dX3_ends_1 rfl 1 rfl ?_
  obtain ⟨K_1, hK_1, hF⟩ := jn_intro (M := fun (K : MS → Int32 → Prop) => ∀ (S_2 : MS) (t_3 : Int32), K S_2 t_3 → J G p l e ({ frames := 1, cells := 0, slots := 0, locals := 23 } : Room) s m args below meth c 4 Q 0 0 (MH G.2.2.1 h g S_2) 10 [(0, .ref (g 0)), (1, .int x1)] [.int t_3, .ref (g 0)]) (hk := by
      intro S_2 t_3 hF
      refine jmP0 C hg dX3_ends_10 ?_
      obtain ⟨S_4, eS_4, hF⟩ := nm_intro hF
      refine m_J eS_4 ?_
      refine j_iload_n C dX3_ends_13 rfl 1 rfl ?_
      refine j_if_ne (tgt := 26) C dX3_ends_14 (by decide) (fun hc_5 => ?_) (fun hc_5 => ?_)
      · replace hF := hF.2 hc_5
        refine j_aload_n C dX3_ends_26 rfl 0 rfl ?_
        refine jmG2 C dX3_ends_27 ?_
        refine j_bipush (v := 8) C dX3_ends_30 rfl ?_
        obtain ⟨K_6, hK_6, hF⟩ := jn_intro (M := fun (K : MS → Prop) => ∀ (S_7 : MS), K S_7 → J G p l e ({ frames := 1, cells := 0, slots := 0, locals := 23 } : Room) s m args below meth c 4 Q 0 0 (MH G.2.2.1 h g S_7) 67 [(0, .ref (g 0))] []) (hk := by
            intro S_7 hF
            refine j_aload_n C dX3_ends_67 rfl 0 rfl ?_
            refine j_dup C dX3_ends_68 rfl ?_
            refine jmG2 C dX3_ends_69 ?_
            refine j_iconst (v := 1) C dX3_ends_72 rfl ?_
            refine j_iadd C dX3_ends_73 ?_
            refine jmP2 C hg dX3_ends_74 ?_
            obtain ⟨S_8, eS_8, hF⟩ := nm_intro hF
            refine m_J eS_8 ?_
            refine j_aload_n C dX3_ends_77 rfl 0 rfl ?_
            refine j_bipush (v := 10) C dX3_ends_78 rfl ?_
            refine j_aload_n C dX3_ends_80 rfl 0 rfl ?_
            refine jmG2 C dX3_ends_81 ?_
            refine jm_callv (As := [.int 10, .int (S_8 0 2)]) (rest := []) C (M_mcopies G l hG h g hg S_8 10 (S_8 0 2) _ hF) q1956 cal_mcopies rfl rfl (Nat.le_of_ble_eq_true rfl) ⟨Nat.le_of_ble_eq_true rfl, Nat.le_of_ble_eq_true rfl⟩ dX3_ends_84 (fun S_9 hF => ?_)
            refine j_aload_n C dX3_ends_87 rfl 0 rfl ?_
            refine jmG4 C dX3_ends_88 ?_
            rw [hQ]
            exact j_iret C rfl ⟨_, _, rfl, rfl, hF⟩ dX3_ends_91) hF
        refine j_icmp_ne (tgt := 67) C dX3_ends_32 (by decide) (fun hc_10 => ?_) (fun hc_10 => ?_)
        · replace hF := hF.2 hc_10
          exact J.locals [0] (hK_6 _ hF) rfl
        · replace hF := hF.1 hc_10
          refine j_iconst (v := 1) C dX3_ends_35 rfl ?_
          refine j_istore_n (L2 := [(3, .int 1), (0, .ref (g 0)), (1, .int x1)]) C dX3_ends_36 rfl (by decide) rfl ?_
          refine J.locals [1, 0] (WL_mends_37 C hG hg hQ ?_ NF _ _ hF) rfl
          · intro S_13 hF
            refine j_aload_n C dX3_ends_57 rfl 0 rfl ?_
            refine j_dup C dX3_ends_58 rfl ?_
            refine jmG2 C dX3_ends_59 ?_
            refine j_iconst (v := 1) C dX3_ends_62 rfl ?_
            refine j_isub C dX3_ends_63 ?_
            refine jmP2 C hg dX3_ends_64 ?_
            obtain ⟨S_14, eS_14, hF⟩ := nm_intro hF
            refine m_J eS_14 ?_
            exact J.locals [0] (hK_6 _ hF) rfl
      · replace hF := hF.1 hc_5
        refine j_aload_n C dX3_ends_17 rfl 0 rfl ?_
        refine j_bipush (v := 10) C dX3_ends_18 rfl ?_
        refine j_iconst (v := 0) C dX3_ends_20 rfl ?_
        refine jm_callv (As := [.int 10, .int 0]) (rest := []) C (M_mcopies G l hG h g hg S_4 10 0 _ hF) q1956 cal_mcopies rfl rfl (Nat.le_of_ble_eq_true rfl) ⟨Nat.le_of_ble_eq_true rfl, Nat.le_of_ble_eq_true rfl⟩ dX3_ends_21 (fun S_15 hF => ?_)
        refine j_iconst (v := 0) C dX3_ends_24 rfl ?_
        rw [hQ]
        exact j_iret C rfl ⟨_, _, rfl, rfl, hF⟩ dX3_ends_25) hF
  refine j_if_eq (tgt := 9) C dX3_ends_2 (by decide) (fun hc_16 => ?_) (fun hc_16 => ?_)
  · replace hF := hF.1 hc_16
    refine j_iload_n C dX3_ends_9 rfl 2 rfl ?_
    exact J.locals [0, 1] (hK_1 _ _ hF) rfl
  · replace hF := hF.2 hc_16
    refine j_iconst (v := 0) C dX3_ends_5 rfl ?_
    refine j_goto (tgt := 10) C dX3_ends_6 (by decide) ?_
    exact J.locals [0, 1] (hK_1 _ _ hF) rfl
theorem cal_mapprentice : CalV yX3_apprentice RX3 cX3_apprentice 1 (some .int) 0 := ⟨q1949, q1950, q101, q1951, by decide +kernel⟩
def F_mapprentice (S : MS) (P : Int32 → MS → Prop) : Prop := F_mbegins S (fun S_1 => F_mcomes S_1 0 (fun r_3 S_2 => F_mends S_2 r_3 1 (fun r_5 S_4 => P r_5 S_4)))
set_option maxHeartbeats 4000000 in
theorem M_mapprentice (G : GT) (l : Launch) (hG : GOK G) (h : AH) (g : Nat → Nat) (hg : Mg G g) (S : MS) (P : Int32 → MS → Prop) (hF : F_mapprentice S P) : MMi G l yX3_apprentice cX3_apprentice 1 .int 2 46 [.ref (g 0)] h g S P := by
  refine MT.mk (own := RX3) (by decide) rfl hG (Nat.le_of_ble_eq_true rfl) ?_
  intro p e s m below meth c args Q hargs hQ C _
  refine J.loca (L2 := [(0, .ref (g 0))]) rfl ?_
  unfold F_mapprentice at hF
  refine j_aload_n C dX3_apprentice_0 rfl 0 rfl ?_
  refine jm_callv (As := []) (rest := []) C (M_mbegins G l hG h g hg S _ hF) q1952 cal_mbegins rfl rfl (Nat.le_of_ble_eq_true rfl) ⟨Nat.le_of_ble_eq_true rfl, Nat.le_of_ble_eq_true rfl⟩ dX3_apprentice_1 (fun S_1 hF => ?_)
  refine j_aload_n C dX3_apprentice_4 rfl 0 rfl ?_
  refine j_aload_n C dX3_apprentice_5 rfl 0 rfl ?_
  refine j_iconst (v := 0) C dX3_apprentice_6 rfl ?_
  refine jm_calli (As := [.int 0]) (rest := [.ref (g 0)]) C (M_mcomes G l hG h g hg S_1 0 _ hF) q1960 cal_mcomes rfl rfl (Nat.le_of_ble_eq_true rfl) ⟨Nat.le_of_ble_eq_true rfl, Nat.le_of_ble_eq_true rfl⟩ dX3_apprentice_7 (fun r_3 S_2 hF => ?_)
  refine j_iconst (v := 1) C dX3_apprentice_10 rfl ?_
  refine jm_calli (As := [.int r_3, .int 1]) (rest := []) C (M_mends G l hG h g hg S_2 r_3 1 _ hF) q1972 cal_mends rfl rfl (Nat.le_of_ble_eq_true rfl) ⟨Nat.le_of_ble_eq_true rfl, Nat.le_of_ble_eq_true rfl⟩ dX3_apprentice_11 (fun r_5 S_4 hF => ?_)
  rw [hQ]
  exact j_iret C rfl ⟨_, _, rfl, rfl, hF⟩ dX3_apprentice_14
theorem cal_misApprentice : CalV yX3_isApprentice RX3 cX3_isApprentice 2 (some .boolean) 1 := ⟨q1994, qs49, q101, q1995, by decide +kernel⟩
def F_misApprentice (S : MS) (x1 : Int32) (P : Int32 → MS → Prop) : Prop := (vp_in 0 1152) ∧ (F_min S x1 0 ((S 1 (Int32.toNatClampNeg (0))) - 1) (fun r_2 S_1 => (narrow .boolean (.int r_2) = .int r_2) ∧ P r_2 S_1))
set_option maxHeartbeats 4000000 in
theorem M_misApprentice (G : GT) (l : Launch) (hG : GOK G) (h : AH) (g : Nat → Nat) (hg : Mg G g) (S : MS) (x1 : Int32) (P : Int32 → MS → Prop) (hF : F_misApprentice S x1 P) : MMi G l yX3_isApprentice cX3_isApprentice 2 .boolean 1 22 [.ref (g 0), .int x1] h g S P := by
  refine MT.mk (own := RX3) (by decide) rfl hG (Nat.le_of_ble_eq_true rfl) ?_
  intro p e s m below meth c args Q hargs hQ C _
  refine J.loca (L2 := [(0, .ref (g 0)), (1, .int x1)]) rfl ?_
  unfold F_misApprentice at hF
  refine j_iload_n C dX3_isApprentice_0 rfl 1 rfl ?_
  refine j_iconst (v := 0) C dX3_isApprentice_1 rfl ?_
  refine j_aload_n C dX3_isApprentice_2 rfl 0 rfl ?_
  refine jmG1 C dX3_isApprentice_3 ?_
  refine j_iconst (v := 0) C dX3_isApprentice_6 rfl ?_
  obtain ⟨hgd, hF⟩ := hF
  refine jmL1 C hg hgd dX3_isApprentice_7 ?_
  refine j_iconst (v := 1) C dX3_isApprentice_8 rfl ?_
  refine j_isub C dX3_isApprentice_9 ?_
  refine jm_callsi (As := [.int x1, .int 0, .int ((S 1 (Int32.toNatClampNeg (0))) - 1)]) (rest := []) C (M_min G l hG h g hg S x1 0 ((S 1 (Int32.toNatClampNeg (0))) - 1) _ hF) q1996 cal_min rfl rfl (Nat.le_of_ble_eq_true rfl) ⟨Nat.le_of_ble_eq_true rfl, Nat.le_of_ble_eq_true rfl⟩ dX3_isApprentice_10 (fun r_2 S_1 hF => ?_)
  rw [hQ]
  exact j_iret C hF.1 ⟨_, _, rfl, rfl, hF.2⟩ dX3_isApprentice_13
theorem cal_mheavy : CalV yX3_heavy RX3 cX3_heavy 3 (some .int) 2 := ⟨q2041, qs58, q101, q2042, by decide +kernel⟩
def F_mheavy (S : MS) (x1 : Int32) (x2 : Int32) (P : Int32 → MS → Prop) : Prop := F_mc S x1 x2 (fun r_2 S_1 => (vp_in 0 1152) ∧ ((vp_in (78 + x2) 1152) ∧ (P ((r_2 * ((S_1 1 (Int32.toNatClampNeg (0))) + 1)) + (S_1 1 (Int32.toNatClampNeg (78 + x2)))) S_1)))
set_option maxHeartbeats 4000000 in
theorem M_mheavy (G : GT) (l : Launch) (hG : GOK G) (h : AH) (g : Nat → Nat) (hg : Mg G g) (S : MS) (x1 : Int32) (x2 : Int32) (P : Int32 → MS → Prop) (hF : F_mheavy S x1 x2 P) : MMi G l yX3_heavy cX3_heavy 3 .int 1 22 [.ref (g 0), .int x1, .int x2] h g S P := by
  refine MT.mk (own := RX3) (by decide) rfl hG (Nat.le_of_ble_eq_true rfl) ?_
  intro p e s m below meth c args Q hargs hQ C _
  refine J.loca (L2 := [(0, .ref (g 0)), (1, .int x1), (2, .int x2)]) rfl ?_
  unfold F_mheavy at hF
  refine j_aload_n C dX3_heavy_0 rfl 0 rfl ?_
  refine j_iload_n C dX3_heavy_1 rfl 1 rfl ?_
  refine j_iload_n C dX3_heavy_2 rfl 2 rfl ?_
  refine jm_calli (As := [.int x1, .int x2]) (rest := []) C (M_mc G l hG h g hg S x1 x2 _ hF) q2003 cal_mc rfl rfl (Nat.le_of_ble_eq_true rfl) ⟨Nat.le_of_ble_eq_true rfl, Nat.le_of_ble_eq_true rfl⟩ dX3_heavy_3 (fun r_2 S_1 hF => ?_)
  refine j_aload_n C dX3_heavy_6 rfl 0 rfl ?_
  refine jmG1 C dX3_heavy_7 ?_
  refine j_iconst (v := 0) C dX3_heavy_10 rfl ?_
  obtain ⟨hgd, hF⟩ := hF
  refine jmL1 C hg hgd dX3_heavy_11 ?_
  refine j_iconst (v := 1) C dX3_heavy_12 rfl ?_
  refine j_iadd C dX3_heavy_13 ?_
  refine j_imul C dX3_heavy_14 ?_
  refine j_aload_n C dX3_heavy_15 rfl 0 rfl ?_
  refine jmG1 C dX3_heavy_16 ?_
  refine j_bipush (v := 78) C dX3_heavy_19 rfl ?_
  refine j_iload_n C dX3_heavy_21 rfl 2 rfl ?_
  refine j_iadd C dX3_heavy_22 ?_
  obtain ⟨hgd, hF⟩ := hF
  refine jmL1 C hg hgd dX3_heavy_23 ?_
  refine j_iadd C dX3_heavy_24 ?_
  rw [hQ]
  exact j_iret C rfl ⟨_, _, rfl, rfl, hF⟩ dX3_heavy_25
theorem cal_mlikes : CalV yX3_likes RX3 cX3_likes 4 (some .int) 1 := ⟨q2037, qs57, q101, q2038, by decide +kernel⟩
def L_mlikes_4 (P : Int32 → MS → Prop) (f1 : Int32) : Nat → MS → Int32 → Int32 → Prop
  | 0, _, _, _ => False
  | n + 1, S, z2, z3 => (vp_in 1 1152) ∧ (((S 1 (Int32.toNatClampNeg (1))) ≤ z3 → P z2 S) ∧ (¬ (S 1 (Int32.toNatClampNeg (1))) ≤ z3 → F_misBarred S f1 z3 (fun r_3 S_2 => (r_3 = 0 → jn (α := MS → Prop) (fun S_6 => L_mlikes_4 P f1 n S_6 z3 (z3 + 1)) (fun K_5 => (z2 = (-1) → K_5 S_2) ∧ (¬ z2 = (-1) → F_mheavy S_2 f1 z3 (fun r_9 S_8 => F_mheavy S_8 f1 z2 (fun r_11 S_10 => (r_11 ≤ r_9 → L_mlikes_4 P f1 n S_10 z2 (z3 + 1)) ∧ (¬ r_11 ≤ r_9 → K_5 S_10)))))) ∧ (¬ r_3 = 0 → L_mlikes_4 P f1 n S_2 z2 (z3 + 1)))))
def F_mlikes (S : MS) (x1 : Int32) (P : Int32 → MS → Prop) : Prop := L_mlikes_4  P x1 NF S (-1) 0
set_option maxHeartbeats 4000000 in
theorem WL_mlikes_4 {G : GT} {p : Program} {l : Launch} {e : Env} {s : State} {m : MethodId} {args : Array Value} {below : List Frame} {meth : Method} {c : Code} {h : AH} {g : Nat → Nat} {Q : State → Prop} (C : Cx G p s m args meth c cX3_likes RX3 4 (some .int)) (hG : GOK G) (hg : Mg G g) {P : Int32 → MS → Prop} (hQ : Q = MQ below (SQ G (fun v h' => ∃ (r : Int32) (S' : MS), v = some (.int r) ∧ h' = (MH G.2.2.1 h g S') ∧ P r S')) args s (({ frames := 2, cells := 0, slots := 0, locals := 44 } : Room) : Room).cells (({ frames := 2, cells := 0, slots := 0, locals := 44 } : Room) : Room).slots (fun q => G.1 ≤ q)) {f1 : Int32} :
    ∀ (n : Nat) (S : MS) (z2 : Int32) (z3 : Int32), L_mlikes_4 P f1 n S z2 z3 → J G p l e ({ frames := 2, cells := 0, slots := 0, locals := 44 } : Room) s m args below meth c 4 Q 0 0 (MH G.2.2.1 h g S) 4 [(0, .ref (g 0)), (1, .int f1), (2, .int z2), (3, .int z3)] [] := by
  intro n
  induction n with
  | zero => intro S z2 z3 hF; exact hF.elim
  | succ n ih =>
    intro S z2 z3 hF
    unfold L_mlikes_4 at hF
    refine j_iload_n C dX3_likes_4 rfl 3 rfl ?_
    refine j_aload_n C dX3_likes_5 rfl 0 rfl ?_
    refine jmG1 C dX3_likes_6 ?_
    refine j_iconst (v := 1) C dX3_likes_9 rfl ?_
    obtain ⟨hgd, hF⟩ := hF
    refine jmL1 C hg hgd dX3_likes_10 ?_
    refine j_icmp_ge (tgt := 55) C dX3_likes_11 (by decide) (fun hc_1 => ?_) (fun hc_1 => ?_)
    · replace hF := hF.1 hc_1
      refine j_iload_n C dX3_likes_55 rfl 2 rfl ?_
      rw [hQ]
      exact j_iret C rfl ⟨_, _, rfl, rfl, hF⟩ dX3_likes_56
    · replace hF := hF.2 hc_1
      refine j_aload_n C dX3_likes_14 rfl 0 rfl ?_
      refine j_iload_n C dX3_likes_15 rfl 1 rfl ?_
      refine j_iload_n C dX3_likes_16 rfl 3 rfl ?_
      refine jm_calli (As := [.int f1, .int z3]) (rest := []) C (M_misBarred G l hG h g hg S f1 z3 _ hF) q2015 cal_misBarred rfl rfl (Nat.le_of_ble_eq_true rfl) ⟨Nat.le_of_ble_eq_true rfl, Nat.le_of_ble_eq_true rfl⟩ dX3_likes_17 (fun r_3 S_2 hF => ?_)
      refine j_if_ne (tgt := 47) C dX3_likes_20 (by decide) (fun hc_4 => ?_) (fun hc_4 => ?_)
      · replace hF := hF.2 hc_4
        refine j_iload_n C dX3_likes_47 rfl 2 rfl ?_
        refine j_istore_n (L2 := [(2, .int z2), (0, .ref (g 0)), (1, .int f1), (3, .int z3)]) C dX3_likes_48 rfl (by decide) rfl ?_
        refine j_iinc (q := 3) (v := z3 + 1) (L2 := [(3, .int (z3 + 1)), (2, .int z2), (0, .ref (g 0)), (1, .int f1)]) C dX3_likes_49 rfl rfl (by decide) rfl ?_
        refine j_goto (tgt := 4) C dX3_likes_52 (by decide) ?_
        exact J.locals [2, 3, 1, 0] (ih _ _ _ hF) rfl
      · replace hF := hF.1 hc_4
        refine j_iload_n C dX3_likes_23 rfl 2 rfl ?_
        refine j_iconst (v := (-1)) C dX3_likes_24 rfl ?_
        obtain ⟨K_5, hK_5, hF⟩ := jn_intro (M := fun (K : MS → Prop) => ∀ (S_6 : MS), K S_6 → J G p l e ({ frames := 2, cells := 0, slots := 0, locals := 44 } : Room) s m args below meth c 4 Q 0 0 (MH G.2.2.1 h g S_6) 43 [(0, .ref (g 0)), (1, .int f1), (3, .int z3)] []) (hk := by
            intro S_6 hF
            refine j_iload_n C dX3_likes_43 rfl 2 rfl ?_
            refine j_goto (tgt := 48) C dX3_likes_44 (by decide) ?_
            refine j_istore_n (L2 := [(2, .int z3), (0, .ref (g 0)), (1, .int f1), (3, .int z3)]) C dX3_likes_48 rfl (by decide) rfl ?_
            refine j_iinc (q := 3) (v := z3 + 1) (L2 := [(3, .int (z3 + 1)), (2, .int z3), (0, .ref (g 0)), (1, .int f1)]) C dX3_likes_49 rfl rfl (by decide) rfl ?_
            refine j_goto (tgt := 4) C dX3_likes_52 (by decide) ?_
            exact J.locals [2, 3, 1, 0] (ih _ _ _ hF) rfl) hF
        refine j_icmp_eq (tgt := 43) C dX3_likes_25 (by decide) (fun hc_7 => ?_) (fun hc_7 => ?_)
        · replace hF := hF.1 hc_7
          exact J.locals [0, 1, 3] (hK_5 _ hF) rfl
        · replace hF := hF.2 hc_7
          refine j_aload_n C dX3_likes_28 rfl 0 rfl ?_
          refine j_iload_n C dX3_likes_29 rfl 1 rfl ?_
          refine j_iload_n C dX3_likes_30 rfl 3 rfl ?_
          refine jm_calli (As := [.int f1, .int z3]) (rest := []) C (M_mheavy G l hG h g hg S_2 f1 z3 _ hF) q2039 cal_mheavy rfl rfl (Nat.le_of_ble_eq_true rfl) ⟨Nat.le_of_ble_eq_true rfl, Nat.le_of_ble_eq_true rfl⟩ dX3_likes_31 (fun r_9 S_8 hF => ?_)
          refine j_aload_n C dX3_likes_34 rfl 0 rfl ?_
          refine j_iload_n C dX3_likes_35 rfl 1 rfl ?_
          refine j_iload_n C dX3_likes_36 rfl 2 rfl ?_
          refine jm_calli (As := [.int f1, .int z2]) (rest := [.int r_9]) C (M_mheavy G l hG h g hg S_8 f1 z2 _ hF) q2039 cal_mheavy rfl rfl (Nat.le_of_ble_eq_true rfl) ⟨Nat.le_of_ble_eq_true rfl, Nat.le_of_ble_eq_true rfl⟩ dX3_likes_37 (fun r_11 S_10 hF => ?_)
          refine j_icmp_ge (tgt := 47) C dX3_likes_40 (by decide) (fun hc_12 => ?_) (fun hc_12 => ?_)
          · replace hF := hF.1 hc_12
            refine j_iload_n C dX3_likes_47 rfl 2 rfl ?_
            refine j_istore_n (L2 := [(2, .int z2), (0, .ref (g 0)), (1, .int f1), (3, .int z3)]) C dX3_likes_48 rfl (by decide) rfl ?_
            refine j_iinc (q := 3) (v := z3 + 1) (L2 := [(3, .int (z3 + 1)), (2, .int z2), (0, .ref (g 0)), (1, .int f1)]) C dX3_likes_49 rfl rfl (by decide) rfl ?_
            refine j_goto (tgt := 4) C dX3_likes_52 (by decide) ?_
            exact J.locals [2, 3, 1, 0] (ih _ _ _ hF) rfl
          · replace hF := hF.2 hc_12
            exact J.locals [0, 1, 3] (hK_5 _ hF) rfl
set_option maxHeartbeats 4000000 in
theorem M_mlikes (G : GT) (l : Launch) (hG : GOK G) (h : AH) (g : Nat → Nat) (hg : Mg G g) (S : MS) (x1 : Int32) (P : Int32 → MS → Prop) (hF : F_mlikes S x1 P) : MMi G l yX3_likes cX3_likes 4 .int 2 44 [.ref (g 0), .int x1] h g S P := by
  refine MT.mk (own := RX3) (by decide) rfl hG (Nat.le_of_ble_eq_true rfl) ?_
  intro p e s m below meth c args Q hargs hQ C _
  refine J.loca (L2 := [(0, .ref (g 0)), (1, .int x1)]) rfl ?_
  unfold F_mlikes at hF
  refine j_iconst (v := (-1)) C dX3_likes_0 rfl ?_
  refine j_istore_n (L2 := [(2, .int (-1)), (0, .ref (g 0)), (1, .int x1)]) C dX3_likes_1 rfl (by decide) rfl ?_
  refine j_iconst (v := 0) C dX3_likes_2 rfl ?_
  refine j_istore_n (L2 := [(3, .int 0), (2, .int (-1)), (0, .ref (g 0)), (1, .int x1)]) C dX3_likes_3 rfl (by decide) rfl ?_
  refine J.locals [2, 3, 1, 0] (WL_mlikes_4 C hG hg hQ NF _ _ _ hF) rfl
theorem cal_mraise : CalV yX3_raise RX3 cX3_raise 5 (some .int) 1 := ⟨q2045, qs59, q101, q2046, by decide +kernel⟩
def L_mraise_12 (K68 : MS → Int32 → Prop) (P : Int32 → MS → Prop) (f1 : Int32) (f2 : Int32) : Nat → MS → Int32 → Int32 → Prop
  | 0, _, _, _ => False
  | n + 1, S, z3, z4 => (vp_in 1 1152) ∧ (((S 1 (Int32.toNatClampNeg (1))) ≤ z4 → K68 S z3) ∧ (¬ (S 1 (Int32.toNatClampNeg (1))) ≤ z4 → (z4 = f2 → L_mraise_12 K68 P f1 f2 n S z3 (z4 + 1)) ∧ (¬ z4 = f2 → F_misBarred S f1 z4 (fun r_6 S_5 => (r_6 = 0 → F_mheavy S_5 f1 z4 (fun r_9 S_8 => (z3 ≤ r_9 → L_mraise_12 K68 P f1 f2 n S_8 z3 (z4 + 1)) ∧ (¬ z3 ≤ r_9 → F_mheavy S_8 f1 z4 (fun r_12 S_11 => L_mraise_12 K68 P f1 f2 n S_11 r_12 (z4 + 1))))) ∧ (¬ r_6 = 0 → L_mraise_12 K68 P f1 f2 n S_5 z3 (z4 + 1))))))
def F_mraise (S : MS) (x1 : Int32) (P : Int32 → MS → Prop) : Prop := F_mlikes S x1 (fun r_2 S_1 => L_mraise_12 (fun S_13 w3_14 => (r_2 = (-1) → P 0 S_13) ∧ (¬ r_2 = (-1) → (w3_14 = 1000000 → P 100 S_13) ∧ (¬ w3_14 = 1000000 → F_mheavy S_13 x1 r_2 (fun r_18 S_17 => P ((1 + w3_14) - r_18) S_17)))) P x1 r_2 NF S_1 1000000 0)
set_option maxHeartbeats 4000000 in
theorem WL_mraise_12 {G : GT} {p : Program} {l : Launch} {e : Env} {s : State} {m : MethodId} {args : Array Value} {below : List Frame} {meth : Method} {c : Code} {h : AH} {g : Nat → Nat} {Q : State → Prop} (C : Cx G p s m args meth c cX3_raise RX3 5 (some .int)) (hG : GOK G) (hg : Mg G g) {P : Int32 → MS → Prop} (hQ : Q = MQ below (SQ G (fun v h' => ∃ (r : Int32) (S' : MS), v = some (.int r) ∧ h' = (MH G.2.2.1 h g S') ∧ P r S')) args s (({ frames := 3, cells := 0, slots := 0, locals := 67 } : Room) : Room).cells (({ frames := 3, cells := 0, slots := 0, locals := 67 } : Room) : Room).slots (fun q => G.1 ≤ q)) {K68 : MS → Int32 → Prop} {f1 : Int32} {f2 : Int32} (hK68 : ∀ (S0 : MS) (w3 : Int32), K68 S0 w3 → J G p l e ({ frames := 3, cells := 0, slots := 0, locals := 67 } : Room) s m args below meth c 5 Q 0 0 (MH G.2.2.1 h g S0) 68 [(0, .ref (g 0)), (1, .int f1), (2, .int f2), (3, .int w3)] []) :
    ∀ (n : Nat) (S : MS) (z3 : Int32) (z4 : Int32), L_mraise_12 K68 P f1 f2 n S z3 z4 → J G p l e ({ frames := 3, cells := 0, slots := 0, locals := 67 } : Room) s m args below meth c 5 Q 0 0 (MH G.2.2.1 h g S) 12 [(0, .ref (g 0)), (1, .int f1), (2, .int f2), (3, .int z3), (4, .int z4)] [] := by
  intro n
  induction n with
  | zero => intro S z3 z4 hF; exact hF.elim
  | succ n ih =>
    intro S z3 z4 hF
    unfold L_mraise_12 at hF
    refine j_iload C dX3_raise_12 4 rfl ?_
    refine j_aload_n C dX3_raise_14 rfl 0 rfl ?_
    refine jmG1 C dX3_raise_15 ?_
    refine j_iconst (v := 1) C dX3_raise_18 rfl ?_
    obtain ⟨hgd, hF⟩ := hF
    refine jmL1 C hg hgd dX3_raise_19 ?_
    refine j_icmp_ge (tgt := 68) C dX3_raise_20 (by decide) (fun hc_3 => ?_) (fun hc_3 => ?_)
    · replace hF := hF.1 hc_3
      exact J.locals [0, 1, 2, 3] (hK68 _ _ hF) rfl
    · replace hF := hF.2 hc_3
      refine j_iload C dX3_raise_23 4 rfl ?_
      refine j_iload_n C dX3_raise_25 rfl 2 rfl ?_
      refine j_icmp_eq (tgt := 60) C dX3_raise_26 (by decide) (fun hc_4 => ?_) (fun hc_4 => ?_)
      · replace hF := hF.1 hc_4
        refine j_iload_n C dX3_raise_60 rfl 3 rfl ?_
        refine j_istore_n (L2 := [(3, .int z3), (0, .ref (g 0)), (1, .int f1), (2, .int f2), (4, .int z4)]) C dX3_raise_61 rfl (by decide) rfl ?_
        refine j_iinc (q := 4) (v := z4 + 1) (L2 := [(4, .int (z4 + 1)), (3, .int z3), (0, .ref (g 0)), (1, .int f1), (2, .int f2)]) C dX3_raise_62 rfl rfl (by decide) rfl ?_
        refine j_goto (tgt := 12) C dX3_raise_65 (by decide) ?_
        exact J.locals [2, 3, 4, 1, 0] (ih _ _ _ hF) rfl
      · replace hF := hF.2 hc_4
        refine j_aload_n C dX3_raise_29 rfl 0 rfl ?_
        refine j_iload_n C dX3_raise_30 rfl 1 rfl ?_
        refine j_iload C dX3_raise_31 4 rfl ?_
        refine jm_calli (As := [.int f1, .int z4]) (rest := []) C (M_misBarred G l hG h g hg S f1 z4 _ hF) q2015 cal_misBarred rfl rfl (Nat.le_of_ble_eq_true rfl) ⟨Nat.le_of_ble_eq_true rfl, Nat.le_of_ble_eq_true rfl⟩ dX3_raise_33 (fun r_6 S_5 hF => ?_)
        refine j_if_ne (tgt := 60) C dX3_raise_36 (by decide) (fun hc_7 => ?_) (fun hc_7 => ?_)
        · replace hF := hF.2 hc_7
          refine j_iload_n C dX3_raise_60 rfl 3 rfl ?_
          refine j_istore_n (L2 := [(3, .int z3), (0, .ref (g 0)), (1, .int f1), (2, .int f2), (4, .int z4)]) C dX3_raise_61 rfl (by decide) rfl ?_
          refine j_iinc (q := 4) (v := z4 + 1) (L2 := [(4, .int (z4 + 1)), (3, .int z3), (0, .ref (g 0)), (1, .int f1), (2, .int f2)]) C dX3_raise_62 rfl rfl (by decide) rfl ?_
          refine j_goto (tgt := 12) C dX3_raise_65 (by decide) ?_
          exact J.locals [2, 3, 4, 1, 0] (ih _ _ _ hF) rfl
        · replace hF := hF.1 hc_7
          refine j_aload_n C dX3_raise_39 rfl 0 rfl ?_
          refine j_iload_n C dX3_raise_40 rfl 1 rfl ?_
          refine j_iload C dX3_raise_41 4 rfl ?_
          refine jm_calli (As := [.int f1, .int z4]) (rest := []) C (M_mheavy G l hG h g hg S_5 f1 z4 _ hF) q2039 cal_mheavy rfl rfl (Nat.le_of_ble_eq_true rfl) ⟨Nat.le_of_ble_eq_true rfl, Nat.le_of_ble_eq_true rfl⟩ dX3_raise_43 (fun r_9 S_8 hF => ?_)
          refine j_iload_n C dX3_raise_46 rfl 3 rfl ?_
          refine j_icmp_ge (tgt := 60) C dX3_raise_47 (by decide) (fun hc_10 => ?_) (fun hc_10 => ?_)
          · replace hF := hF.1 hc_10
            refine j_iload_n C dX3_raise_60 rfl 3 rfl ?_
            refine j_istore_n (L2 := [(3, .int z3), (0, .ref (g 0)), (1, .int f1), (2, .int f2), (4, .int z4)]) C dX3_raise_61 rfl (by decide) rfl ?_
            refine j_iinc (q := 4) (v := z4 + 1) (L2 := [(4, .int (z4 + 1)), (3, .int z3), (0, .ref (g 0)), (1, .int f1), (2, .int f2)]) C dX3_raise_62 rfl rfl (by decide) rfl ?_
            refine j_goto (tgt := 12) C dX3_raise_65 (by decide) ?_
            exact J.locals [2, 3, 4, 1, 0] (ih _ _ _ hF) rfl
          · replace hF := hF.2 hc_10
            refine j_aload_n C dX3_raise_50 rfl 0 rfl ?_
            refine j_iload_n C dX3_raise_51 rfl 1 rfl ?_
            refine j_iload C dX3_raise_52 4 rfl ?_
            refine jm_calli (As := [.int f1, .int z4]) (rest := []) C (M_mheavy G l hG h g hg S_8 f1 z4 _ hF) q2039 cal_mheavy rfl rfl (Nat.le_of_ble_eq_true rfl) ⟨Nat.le_of_ble_eq_true rfl, Nat.le_of_ble_eq_true rfl⟩ dX3_raise_54 (fun r_12 S_11 hF => ?_)
            refine j_goto (tgt := 61) C dX3_raise_57 (by decide) ?_
            refine j_istore_n (L2 := [(3, .int r_12), (0, .ref (g 0)), (1, .int f1), (2, .int f2), (4, .int z4)]) C dX3_raise_61 rfl (by decide) rfl ?_
            refine j_iinc (q := 4) (v := z4 + 1) (L2 := [(4, .int (z4 + 1)), (3, .int r_12), (0, .ref (g 0)), (1, .int f1), (2, .int f2)]) C dX3_raise_62 rfl rfl (by decide) rfl ?_
            refine j_goto (tgt := 12) C dX3_raise_65 (by decide) ?_
            exact J.locals [2, 3, 4, 1, 0] (ih _ _ _ hF) rfl
set_option maxHeartbeats 4000000 in
theorem M_mraise (G : GT) (l : Launch) (hG : GOK G) (h : AH) (g : Nat → Nat) (hg : Mg G g) (S : MS) (x1 : Int32) (P : Int32 → MS → Prop) (hF : F_mraise S x1 P) : MMi G l yX3_raise cX3_raise 5 .int 3 67 [.ref (g 0), .int x1] h g S P := by
  refine MT.mk (own := RX3) (by decide) rfl hG (Nat.le_of_ble_eq_true rfl) ?_
  intro p e s m below meth c args Q hargs hQ C _
  refine J.loca (L2 := [(0, .ref (g 0)), (1, .int x1)]) rfl ?_
  unfold F_mraise at hF
  refine j_aload_n C dX3_raise_0 rfl 0 rfl ?_
  refine j_iload_n C dX3_raise_1 rfl 1 rfl ?_
  refine jm_calli (As := [.int x1]) (rest := []) C (M_mlikes G l hG h g hg S x1 _ hF) q2035 cal_mlikes rfl rfl (Nat.le_of_ble_eq_true rfl) ⟨Nat.le_of_ble_eq_true rfl, Nat.le_of_ble_eq_true rfl⟩ dX3_raise_2 (fun r_2 S_1 hF => ?_)
  refine j_istore_n (L2 := [(2, .int r_2), (0, .ref (g 0)), (1, .int x1)]) C dX3_raise_5 rfl (by decide) rfl ?_
  refine j_ldc C dX3_raise_6 q2047 ?_
  refine j_istore_n (L2 := [(3, .int 1000000), (2, .int r_2), (0, .ref (g 0)), (1, .int x1)]) C dX3_raise_8 rfl (by decide) rfl ?_
  refine j_iconst (v := 0) C dX3_raise_9 rfl ?_
  refine j_istore (L2 := [(4, .int 0), (3, .int 1000000), (2, .int r_2), (0, .ref (g 0)), (1, .int x1)]) C dX3_raise_10 (by decide) rfl ?_
  refine J.locals [3, 4, 2, 1, 0] (WL_mraise_12 C hG hg hQ ?_ NF _ _ _ hF) rfl
  · intro S_13 w3_14 hF
    refine j_iload_n C dX3_raise_68 rfl 2 rfl ?_
    refine j_iconst (v := (-1)) C dX3_raise_69 rfl ?_
    refine j_icmp_ne (tgt := 77) C dX3_raise_70 (by decide) (fun hc_15 => ?_) (fun hc_15 => ?_)
    · replace hF := hF.2 hc_15
      refine j_iload_n C dX3_raise_77 rfl 3 rfl ?_
      refine j_ldc C dX3_raise_78 q2047 ?_
      refine j_icmp_ne (tgt := 88) C dX3_raise_80 (by decide) (fun hc_16 => ?_) (fun hc_16 => ?_)
      · replace hF := hF.2 hc_16
        refine j_iconst (v := 1) C dX3_raise_88 rfl ?_
        refine j_iload_n C dX3_raise_89 rfl 3 rfl ?_
        refine j_iadd C dX3_raise_90 ?_
        refine j_aload_n C dX3_raise_91 rfl 0 rfl ?_
        refine j_iload_n C dX3_raise_92 rfl 1 rfl ?_
        refine j_iload_n C dX3_raise_93 rfl 2 rfl ?_
        refine jm_calli (As := [.int x1, .int r_2]) (rest := [.int (1 + w3_14)]) C (M_mheavy G l hG h g hg S_13 x1 r_2 _ hF) q2039 cal_mheavy rfl rfl (Nat.le_of_ble_eq_true rfl) ⟨Nat.le_of_ble_eq_true rfl, Nat.le_of_ble_eq_true rfl⟩ dX3_raise_94 (fun r_18 S_17 hF => ?_)
        refine j_isub C dX3_raise_97 ?_
        rw [hQ]
        exact j_iret C rfl ⟨_, _, rfl, rfl, hF⟩ dX3_raise_98
      · replace hF := hF.1 hc_16
        refine j_bipush (v := 100) C dX3_raise_83 rfl ?_
        refine j_goto (tgt := 98) C dX3_raise_85 (by decide) ?_
        rw [hQ]
        exact j_iret C rfl ⟨_, _, rfl, rfl, hF⟩ dX3_raise_98
    · replace hF := hF.1 hc_15
      refine j_iconst (v := 0) C dX3_raise_73 rfl ?_
      refine j_goto (tgt := 98) C dX3_raise_74 (by decide) ?_
      rw [hQ]
      exact j_iret C rfl ⟨_, _, rfl, rfl, hF⟩ dX3_raise_98
theorem cal_msumServed : CalV yX3_sumServed RX3 cX3_sumServed 5 (some .int) 2 := ⟨q2134, qs75, q101, q2135, by decide +kernel⟩
def L_msumServed_5 (P : Int32 → MS → Prop) (f1 : Int32) (f2 : Int32) : Nat → MS → Int32 → Int32 → Prop
  | 0, _, _, _ => False
  | n + 1, S, z3, z4 => (6 ≤ z4 → P z3 S) ∧ (¬ 6 ≤ z4 → jn (α := MS → Int32 → Prop) (fun S_3 t_4 => (vp_in t_4 1152) ∧ (L_msumServed_5 P f1 f2 n S_3 (z3 + (S_3 1 (Int32.toNatClampNeg (t_4)))) (z4 + 1))) (fun K_2 => (f2 = 0 → K_2 S ((42 + (6 * z4)) + f1)) ∧ (¬ f2 = 0 → K_2 S ((42 + (6 * f1)) + z4))))
def F_msumServed (S : MS) (x1 : Int32) (x2 : Int32) (P : Int32 → MS → Prop) : Prop := L_msumServed_5  P x1 x2 NF S 0 0
set_option maxHeartbeats 4000000 in
theorem WL_msumServed_5 {G : GT} {p : Program} {l : Launch} {e : Env} {s : State} {m : MethodId} {args : Array Value} {below : List Frame} {meth : Method} {c : Code} {h : AH} {g : Nat → Nat} {Q : State → Prop} (C : Cx G p s m args meth c cX3_sumServed RX3 5 (some .int)) (hG : GOK G) (hg : Mg G g) {P : Int32 → MS → Prop} (hQ : Q = MQ below (SQ G (fun v h' => ∃ (r : Int32) (S' : MS), v = some (.int r) ∧ h' = (MH G.2.2.1 h g S') ∧ P r S')) args s (({ frames := 0, cells := 0, slots := 0, locals := 0 } : Room) : Room).cells (({ frames := 0, cells := 0, slots := 0, locals := 0 } : Room) : Room).slots (fun q => G.1 ≤ q)) {f1 : Int32} {f2 : Int32} :
    ∀ (n : Nat) (S : MS) (z3 : Int32) (z4 : Int32), L_msumServed_5 P f1 f2 n S z3 z4 → J G p l e ({ frames := 0, cells := 0, slots := 0, locals := 0 } : Room) s m args below meth c 5 Q 0 0 (MH G.2.2.1 h g S) 5 [(0, .ref (g 0)), (1, .int f1), (2, .int f2), (3, .int z3), (4, .int z4)] [] := by
  intro n
  induction n with
  | zero => intro S z3 z4 hF; exact hF.elim
  | succ n ih =>
    intro S z3 z4 hF
    unfold L_msumServed_5 at hF
    refine j_iload C dX3_sumServed_5 4 rfl ?_
    refine j_bipush (v := 6) C dX3_sumServed_7 rfl ?_
    refine j_icmp_ge (tgt := 53) C dX3_sumServed_9 (by decide) (fun hc_1 => ?_) (fun hc_1 => ?_)
    · replace hF := hF.1 hc_1
      refine j_iload_n C dX3_sumServed_53 rfl 3 rfl ?_
      rw [hQ]
      exact j_iret C rfl ⟨_, _, rfl, rfl, hF⟩ dX3_sumServed_54
    · replace hF := hF.2 hc_1
      refine j_iload_n C dX3_sumServed_12 rfl 3 rfl ?_
      refine j_aload_n C dX3_sumServed_13 rfl 0 rfl ?_
      refine jmG1 C dX3_sumServed_14 ?_
      refine j_iload_n C dX3_sumServed_17 rfl 2 rfl ?_
      obtain ⟨K_2, hK_2, hF⟩ := jn_intro (M := fun (K : MS → Int32 → Prop) => ∀ (S_3 : MS) (t_4 : Int32), K S_3 t_4 → J G p l e ({ frames := 0, cells := 0, slots := 0, locals := 0 } : Room) s m args below meth c 5 Q 0 0 (MH G.2.2.1 h g S_3) 44 [(0, .ref (g 0)), (1, .int f1), (2, .int f2), (4, .int z4)] [.int t_4, .ref (g 1), .int z3]) (hk := by
          intro S_3 t_4 hF
          obtain ⟨hgd, hF⟩ := hF
          refine jmL1 C hg hgd dX3_sumServed_44 ?_
          refine j_iadd C dX3_sumServed_45 ?_
          refine j_istore_n (L2 := [(3, .int (z3 + (S_3 1 (Int32.toNatClampNeg (t_4))))), (0, .ref (g 0)), (1, .int f1), (2, .int f2), (4, .int z4)]) C dX3_sumServed_46 rfl (by decide) rfl ?_
          refine j_iinc (q := 4) (v := z4 + 1) (L2 := [(4, .int (z4 + 1)), (3, .int (z3 + (S_3 1 (Int32.toNatClampNeg (t_4))))), (0, .ref (g 0)), (1, .int f1), (2, .int f2)]) C dX3_sumServed_47 rfl rfl (by decide) rfl ?_
          refine j_goto (tgt := 5) C dX3_sumServed_50 (by decide) ?_
          exact J.locals [2, 3, 4, 1, 0] (ih _ _ _ hF) rfl) hF
      refine j_if_eq (tgt := 34) C dX3_sumServed_18 (by decide) (fun hc_5 => ?_) (fun hc_5 => ?_)
      · replace hF := hF.1 hc_5
        refine j_bipush (v := 42) C dX3_sumServed_34 rfl ?_
        refine j_bipush (v := 6) C dX3_sumServed_36 rfl ?_
        refine j_iload C dX3_sumServed_38 4 rfl ?_
        refine j_imul C dX3_sumServed_40 ?_
        refine j_iadd C dX3_sumServed_41 ?_
        refine j_iload_n C dX3_sumServed_42 rfl 1 rfl ?_
        refine j_iadd C dX3_sumServed_43 ?_
        exact J.locals [0, 1, 2, 4] (hK_2 _ _ hF) rfl
      · replace hF := hF.2 hc_5
        refine j_bipush (v := 42) C dX3_sumServed_21 rfl ?_
        refine j_bipush (v := 6) C dX3_sumServed_23 rfl ?_
        refine j_iload_n C dX3_sumServed_25 rfl 1 rfl ?_
        refine j_imul C dX3_sumServed_26 ?_
        refine j_iadd C dX3_sumServed_27 ?_
        refine j_iload C dX3_sumServed_28 4 rfl ?_
        refine j_iadd C dX3_sumServed_30 ?_
        refine j_goto (tgt := 44) C dX3_sumServed_31 (by decide) ?_
        exact J.locals [0, 1, 2, 4] (hK_2 _ _ hF) rfl
set_option maxHeartbeats 4000000 in
theorem M_msumServed (G : GT) (l : Launch) (hG : GOK G) (h : AH) (g : Nat → Nat) (hg : Mg G g) (S : MS) (x1 : Int32) (x2 : Int32) (P : Int32 → MS → Prop) (hF : F_msumServed S x1 x2 P) : MMi G l yX3_sumServed cX3_sumServed 5 .int 0 0 [.ref (g 0), .int x1, .int x2] h g S P := by
  refine MT.mk (own := RX3) (by decide) rfl hG (Nat.le_of_ble_eq_true rfl) ?_
  intro p e s m below meth c args Q hargs hQ C _
  refine J.loca (L2 := [(0, .ref (g 0)), (1, .int x1), (2, .int x2)]) rfl ?_
  unfold F_msumServed at hF
  refine j_iconst (v := 0) C dX3_sumServed_0 rfl ?_
  refine j_istore_n (L2 := [(3, .int 0), (0, .ref (g 0)), (1, .int x1), (2, .int x2)]) C dX3_sumServed_1 rfl (by decide) rfl ?_
  refine j_iconst (v := 0) C dX3_sumServed_2 rfl ?_
  refine j_istore (L2 := [(4, .int 0), (3, .int 0), (0, .ref (g 0)), (1, .int x1), (2, .int x2)]) C dX3_sumServed_3 (by decide) rfl ?_
  refine J.locals [2, 3, 4, 1, 0] (WL_msumServed_5 C hG hg hQ NF _ _ _ hF) rfl
theorem cal_minFirst : CalV yX3_inFirst RX3 cX3_inFirst 2 (some .int) 1 := ⟨q2142, qs77, q101, q2143, by decide +kernel⟩
def F_minFirst (S : MS) (x1 : Int32) (P : Int32 → MS → Prop) : Prop := F_mlooks S (fun S_1 => ((S_1 0 11) = 0 → P (-1) S_1) ∧ (¬ (S_1 0 11) = 0 → (vp_in x1 6) ∧ (P (S_1 3 (Int32.toNatClampNeg (x1))) S_1)))
set_option maxHeartbeats 4000000 in
theorem M_minFirst (G : GT) (l : Launch) (hG : GOK G) (h : AH) (g : Nat → Nat) (hg : Mg G g) (S : MS) (x1 : Int32) (P : Int32 → MS → Prop) (hF : F_minFirst S x1 P) : MMi G l yX3_inFirst cX3_inFirst 2 .int 13 311 [.ref (g 0), .int x1] h g S P := by
  refine MT.mk (own := RX3) (by decide) rfl hG (Nat.le_of_ble_eq_true rfl) ?_
  intro p e s m below meth c args Q hargs hQ C _
  refine J.loca (L2 := [(0, .ref (g 0)), (1, .int x1)]) rfl ?_
  unfold F_minFirst at hF
  refine j_aload_n C dX3_inFirst_0 rfl 0 rfl ?_
  refine jm_callv (As := []) (rest := []) C (M_mlooks G l hG h g hg S _ hF) q2064 cal_mlooks rfl rfl (Nat.le_of_ble_eq_true rfl) ⟨Nat.le_of_ble_eq_true rfl, Nat.le_of_ble_eq_true rfl⟩ dX3_inFirst_1 (fun S_1 hF => ?_)
  refine j_aload_n C dX3_inFirst_4 rfl 0 rfl ?_
  refine jmG11 C dX3_inFirst_5 ?_
  refine j_if_ne (tgt := 15) C dX3_inFirst_8 (by decide) (fun hc_2 => ?_) (fun hc_2 => ?_)
  · replace hF := hF.2 hc_2
    refine j_aload_n C dX3_inFirst_15 rfl 0 rfl ?_
    refine jmG10 C dX3_inFirst_16 ?_
    refine j_iload_n C dX3_inFirst_19 rfl 1 rfl ?_
    obtain ⟨hgd, hF⟩ := hF
    refine jmL3 C hg hgd dX3_inFirst_20 ?_
    rw [hQ]
    exact j_iret C rfl ⟨_, _, rfl, rfl, hF⟩ dX3_inFirst_21
  · replace hF := hF.1 hc_2
    refine j_iconst (v := (-1)) C dX3_inFirst_11 rfl ?_
    refine j_goto (tgt := 21) C dX3_inFirst_12 (by decide) ?_
    rw [hQ]
    exact j_iret C rfl ⟨_, _, rfl, rfl, hF⟩ dX3_inFirst_21
theorem cal_mapprenticeOf : CalV yX3_apprenticeOf RX3 cX3_apprenticeOf 3 (some .int) 2 := ⟨q2129, q2130, q101, q2131, by decide +kernel⟩
def F_mapprenticeOf (S : MS) (x1 : Int32) (x2 : Int32) (P : Int32 → MS → Prop) : Prop := F_misApprentice S x1 (fun r_2 S_1 => jn (α := MS → Int32 → Prop) (fun S_4 t_5 => nm (sput S_4 0 0 t_5) (fun S_6 => ((S_6 0 0) = 0 → (x2 = 0 → (vp_in (84 + x1) 1152) ∧ (P (S_6 1 (Int32.toNatClampNeg (84 + x1))) S_6)) ∧ (¬ x2 = 0 → (x2 = 1 → F_mlikes S_6 x1 (fun r_11 S_10 => P r_11 S_10)) ∧ (¬ x2 = 1 → (x2 = 2 → F_mraise S_6 x1 (fun r_14 S_13 => P r_14 S_13)) ∧ (¬ x2 = 2 → (x2 = 3 → F_msumServed S_6 x1 1 (fun r_17 S_16 => P r_17 S_16)) ∧ (¬ x2 = 3 → (x2 = 4 → F_mmayHave S_6 x1 (fun r_20 S_19 => P r_20 S_19)) ∧ (¬ x2 = 4 → F_minFirst S_6 x1 (fun r_22 S_21 => P r_22 S_21))))))) ∧ (¬ (S_6 0 0) = 0 → P 0 S_6))) (fun K_3 => (r_2 = 0 → K_3 S_1 1) ∧ (¬ r_2 = 0 → F_min S_1 x2 0 5 (fun r_25 S_24 => (r_25 = 0 → K_3 S_24 2) ∧ (¬ r_25 = 0 → K_3 S_24 0)))))
set_option maxHeartbeats 4000000 in
theorem M_mapprenticeOf (G : GT) (l : Launch) (hG : GOK G) (h : AH) (g : Nat → Nat) (hg : Mg G g) (S : MS) (x1 : Int32) (x2 : Int32) (P : Int32 → MS → Prop) (hF : F_mapprenticeOf S x1 x2 P) : MMi G l yX3_apprenticeOf cX3_apprenticeOf 3 .int 14 332 [.ref (g 0), .int x1, .int x2] h g S P := by
  refine MT.mk (own := RX3) (by decide) rfl hG (Nat.le_of_ble_eq_true rfl) ?_
  intro p e s m below meth c args Q hargs hQ C _
  refine J.loca (L2 := [(0, .ref (g 0)), (1, .int x1), (2, .int x2)]) rfl ?_
  unfold F_mapprenticeOf at hF
  refine j_aload_n C dX3_apprenticeOf_0 rfl 0 rfl ?_
  refine j_aload_n C dX3_apprenticeOf_1 rfl 0 rfl ?_
  refine j_iload_n C dX3_apprenticeOf_2 rfl 1 rfl ?_
  refine jm_calli (As := [.int x1]) (rest := [.ref (g 0)]) C (M_misApprentice G l hG h g hg S x1 _ hF) q1992 cal_misApprentice rfl rfl (Nat.le_of_ble_eq_true rfl) ⟨Nat.le_of_ble_eq_true rfl, Nat.le_of_ble_eq_true rfl⟩ dX3_apprenticeOf_3 (fun r_2 S_1 hF => ?_)
  obtain ⟨K_3, hK_3, hF⟩ := jn_intro (M := fun (K : MS → Int32 → Prop) => ∀ (S_4 : MS) (t_5 : Int32), K S_4 t_5 → J G p l e ({ frames := 14, cells := 0, slots := 0, locals := 332 } : Room) s m args below meth c 3 Q 0 0 (MH G.2.2.1 h g S_4) 27 [(0, .ref (g 0)), (1, .int x1), (2, .int x2)] [.int t_5, .ref (g 0)]) (hk := by
      intro S_4 t_5 hF
      refine jmP0 C hg dX3_apprenticeOf_27 ?_
      obtain ⟨S_6, eS_6, hF⟩ := nm_intro hF
      refine m_J eS_6 ?_
      refine j_aload_n C dX3_apprenticeOf_30 rfl 0 rfl ?_
      refine jmG0 C dX3_apprenticeOf_31 ?_
      refine j_if_eq (tgt := 39) C dX3_apprenticeOf_34 (by decide) (fun hc_7 => ?_) (fun hc_7 => ?_)
      · replace hF := hF.1 hc_7
        refine j_iload_n C dX3_apprenticeOf_39 rfl 2 rfl ?_
        by_cases hc_8 : x2 = 0
        · replace hF := hF.1 hc_8
          refine j_tableIn (tgt := 76) C dX3_apprenticeOf_40 (by rw [hc_8]; decide) (by rw [hc_8]; decide) (by rw [hc_8]; rfl) (by decide) ?_
          refine j_aload_n C dX3_apprenticeOf_76 rfl 0 rfl ?_
          refine jmG1 C dX3_apprenticeOf_77 ?_
          refine j_bipush (v := 84) C dX3_apprenticeOf_80 rfl ?_
          refine j_iload_n C dX3_apprenticeOf_82 rfl 1 rfl ?_
          refine j_iadd C dX3_apprenticeOf_83 ?_
          obtain ⟨hgd, hF⟩ := hF
          refine jmL1 C hg hgd dX3_apprenticeOf_84 ?_
          rw [hQ]
          exact j_iret C rfl ⟨_, _, rfl, rfl, hF⟩ dX3_apprenticeOf_85
        replace hF := hF.2 hc_8
        by_cases hc_9 : x2 = 1
        · replace hF := hF.1 hc_9
          refine j_tableIn (tgt := 86) C dX3_apprenticeOf_40 (by rw [hc_9]; decide) (by rw [hc_9]; decide) (by rw [hc_9]; rfl) (by decide) ?_
          refine j_aload_n C dX3_apprenticeOf_86 rfl 0 rfl ?_
          refine j_iload_n C dX3_apprenticeOf_87 rfl 1 rfl ?_
          refine jm_calli (As := [.int x1]) (rest := []) C (M_mlikes G l hG h g hg S_6 x1 _ hF) q2035 cal_mlikes rfl rfl (Nat.le_of_ble_eq_true rfl) ⟨Nat.le_of_ble_eq_true rfl, Nat.le_of_ble_eq_true rfl⟩ dX3_apprenticeOf_88 (fun r_11 S_10 hF => ?_)
          rw [hQ]
          exact j_iret C rfl ⟨_, _, rfl, rfl, hF⟩ dX3_apprenticeOf_91
        replace hF := hF.2 hc_9
        by_cases hc_12 : x2 = 2
        · replace hF := hF.1 hc_12
          refine j_tableIn (tgt := 92) C dX3_apprenticeOf_40 (by rw [hc_12]; decide) (by rw [hc_12]; decide) (by rw [hc_12]; rfl) (by decide) ?_
          refine j_aload_n C dX3_apprenticeOf_92 rfl 0 rfl ?_
          refine j_iload_n C dX3_apprenticeOf_93 rfl 1 rfl ?_
          refine jm_calli (As := [.int x1]) (rest := []) C (M_mraise G l hG h g hg S_6 x1 _ hF) q2043 cal_mraise rfl rfl (Nat.le_of_ble_eq_true rfl) ⟨Nat.le_of_ble_eq_true rfl, Nat.le_of_ble_eq_true rfl⟩ dX3_apprenticeOf_94 (fun r_14 S_13 hF => ?_)
          rw [hQ]
          exact j_iret C rfl ⟨_, _, rfl, rfl, hF⟩ dX3_apprenticeOf_97
        replace hF := hF.2 hc_12
        by_cases hc_15 : x2 = 3
        · replace hF := hF.1 hc_15
          refine j_tableIn (tgt := 98) C dX3_apprenticeOf_40 (by rw [hc_15]; decide) (by rw [hc_15]; decide) (by rw [hc_15]; rfl) (by decide) ?_
          refine j_aload_n C dX3_apprenticeOf_98 rfl 0 rfl ?_
          refine j_iload_n C dX3_apprenticeOf_99 rfl 1 rfl ?_
          refine j_iconst (v := 1) C dX3_apprenticeOf_100 rfl ?_
          refine jm_calli (As := [.int x1, .int 1]) (rest := []) C (M_msumServed G l hG h g hg S_6 x1 1 _ hF) q2132 cal_msumServed rfl rfl (Nat.le_of_ble_eq_true rfl) ⟨Nat.le_of_ble_eq_true rfl, Nat.le_of_ble_eq_true rfl⟩ dX3_apprenticeOf_101 (fun r_17 S_16 hF => ?_)
          rw [hQ]
          exact j_iret C rfl ⟨_, _, rfl, rfl, hF⟩ dX3_apprenticeOf_104
        replace hF := hF.2 hc_15
        by_cases hc_18 : x2 = 4
        · replace hF := hF.1 hc_18
          refine j_tableIn (tgt := 105) C dX3_apprenticeOf_40 (by rw [hc_18]; decide) (by rw [hc_18]; decide) (by rw [hc_18]; rfl) (by decide) ?_
          refine j_aload_n C dX3_apprenticeOf_105 rfl 0 rfl ?_
          refine j_iload_n C dX3_apprenticeOf_106 rfl 1 rfl ?_
          refine jm_calli (As := [.int x1]) (rest := []) C (M_mmayHave G l hG h g hg S_6 x1 _ hF) q2136 cal_mmayHave rfl rfl (Nat.le_of_ble_eq_true rfl) ⟨Nat.le_of_ble_eq_true rfl, Nat.le_of_ble_eq_true rfl⟩ dX3_apprenticeOf_107 (fun r_20 S_19 hF => ?_)
          rw [hQ]
          exact j_iret C rfl ⟨_, _, rfl, rfl, hF⟩ dX3_apprenticeOf_110
        replace hF := hF.2 hc_18
        refine j_tableOut (tgt := 111) C dX3_apprenticeOf_40 (sw_out (by decide) (by decide) (fun k hk => by
            rcases (show k = 0 ∨ k = 1 ∨ k = 2 ∨ k = 3 ∨ k = 4 by omega) with rfl | rfl | rfl | rfl | rfl
            · exact hc_8
            · exact hc_9
            · exact hc_12
            · exact hc_15
            · exact hc_18)) (by decide) ?_
        refine j_aload_n C dX3_apprenticeOf_111 rfl 0 rfl ?_
        refine j_iload_n C dX3_apprenticeOf_112 rfl 1 rfl ?_
        refine jm_calli (As := [.int x1]) (rest := []) C (M_minFirst G l hG h g hg S_6 x1 _ hF) q2140 cal_minFirst rfl rfl (Nat.le_of_ble_eq_true rfl) ⟨Nat.le_of_ble_eq_true rfl, Nat.le_of_ble_eq_true rfl⟩ dX3_apprenticeOf_113 (fun r_22 S_21 hF => ?_)
        rw [hQ]
        exact j_iret C rfl ⟨_, _, rfl, rfl, hF⟩ dX3_apprenticeOf_116
      · replace hF := hF.2 hc_7
        refine j_iconst (v := 0) C dX3_apprenticeOf_37 rfl ?_
        rw [hQ]
        exact j_iret C rfl ⟨_, _, rfl, rfl, hF⟩ dX3_apprenticeOf_38) hF
  refine j_if_ne (tgt := 13) C dX3_apprenticeOf_6 (by decide) (fun hc_23 => ?_) (fun hc_23 => ?_)
  · replace hF := hF.2 hc_23
    refine j_iload_n C dX3_apprenticeOf_13 rfl 2 rfl ?_
    refine j_iconst (v := 0) C dX3_apprenticeOf_14 rfl ?_
    refine j_iconst (v := 5) C dX3_apprenticeOf_15 rfl ?_
    refine jm_callsi (As := [.int x2, .int 0, .int 5]) (rest := [.ref (g 0)]) C (M_min G l hG h g hg S_1 x2 0 5 _ hF) q1996 cal_min rfl rfl (Nat.le_of_ble_eq_true rfl) ⟨Nat.le_of_ble_eq_true rfl, Nat.le_of_ble_eq_true rfl⟩ dX3_apprenticeOf_16 (fun r_25 S_24 hF => ?_)
    refine j_if_eq (tgt := 26) C dX3_apprenticeOf_19 (by decide) (fun hc_26 => ?_) (fun hc_26 => ?_)
    · replace hF := hF.1 hc_26
      refine j_iconst (v := 2) C dX3_apprenticeOf_26 rfl ?_
      exact J.locals [0, 1, 2] (hK_3 _ _ hF) rfl
    · replace hF := hF.2 hc_26
      refine j_iconst (v := 0) C dX3_apprenticeOf_22 rfl ?_
      refine j_goto (tgt := 27) C dX3_apprenticeOf_23 (by decide) ?_
      exact J.locals [0, 1, 2] (hK_3 _ _ hF) rfl
  · replace hF := hF.1 hc_23
    refine j_iconst (v := 1) C dX3_apprenticeOf_9 rfl ?_
    refine j_goto (tgt := 27) C dX3_apprenticeOf_10 (by decide) ?_
    exact J.locals [0, 1, 2] (hK_3 _ _ hF) rfl
theorem cal_misMaster : CalV yX3_isMaster RX3 cX3_isMaster 2 (some .boolean) 1 := ⟨q2001, qs50, q101, q2002, by decide +kernel⟩
def F_misMaster (S : MS) (x1 : Int32) (P : Int32 → MS → Prop) : Prop := (vp_in 1 1152) ∧ (F_min S x1 0 ((S 1 (Int32.toNatClampNeg (1))) - 1) (fun r_2 S_1 => (narrow .boolean (.int r_2) = .int r_2) ∧ P r_2 S_1))
set_option maxHeartbeats 4000000 in
theorem M_misMaster (G : GT) (l : Launch) (hG : GOK G) (h : AH) (g : Nat → Nat) (hg : Mg G g) (S : MS) (x1 : Int32) (P : Int32 → MS → Prop) (hF : F_misMaster S x1 P) : MMi G l yX3_isMaster cX3_isMaster 2 .boolean 1 22 [.ref (g 0), .int x1] h g S P := by
  refine MT.mk (own := RX3) (by decide) rfl hG (Nat.le_of_ble_eq_true rfl) ?_
  intro p e s m below meth c args Q hargs hQ C _
  refine J.loca (L2 := [(0, .ref (g 0)), (1, .int x1)]) rfl ?_
  unfold F_misMaster at hF
  refine j_iload_n C dX3_isMaster_0 rfl 1 rfl ?_
  refine j_iconst (v := 0) C dX3_isMaster_1 rfl ?_
  refine j_aload_n C dX3_isMaster_2 rfl 0 rfl ?_
  refine jmG1 C dX3_isMaster_3 ?_
  refine j_iconst (v := 1) C dX3_isMaster_6 rfl ?_
  obtain ⟨hgd, hF⟩ := hF
  refine jmL1 C hg hgd dX3_isMaster_7 ?_
  refine j_iconst (v := 1) C dX3_isMaster_8 rfl ?_
  refine j_isub C dX3_isMaster_9 ?_
  refine jm_callsi (As := [.int x1, .int 0, .int ((S 1 (Int32.toNatClampNeg (1))) - 1)]) (rest := []) C (M_min G l hG h g hg S x1 0 ((S 1 (Int32.toNatClampNeg (1))) - 1) _ hF) q1996 cal_min rfl rfl (Nat.le_of_ble_eq_true rfl) ⟨Nat.le_of_ble_eq_true rfl, Nat.le_of_ble_eq_true rfl⟩ dX3_isMaster_10 (fun r_2 S_1 hF => ?_)
  rw [hQ]
  exact j_iret C hF.1 ⟨_, _, rfl, rfl, hF.2⟩ dX3_isMaster_13
theorem cal_mareThere : CalV yX3_areThere RX3 cX3_areThere 3 (some .boolean) 2 := ⟨q2122, qs74, q101, q2123, by decide +kernel⟩
def F_mareThere (S : MS) (x1 : Int32) (x2 : Int32) (P : Int32 → MS → Prop) : Prop := F_misApprentice S x1 (fun r_2 S_1 => jn (α := MS → Int32 → Prop) (fun S_4 t_5 => F_misThere S_4 t_5 (fun r_7 S_6 => (narrow .boolean (.int r_7) = .int r_7) ∧ P r_7 S_6)) (fun K_3 => jn (α := MS → Prop) (fun S_9 => K_3 S_9 0) (fun K_8 => (r_2 = 0 → K_8 S_1) ∧ (¬ r_2 = 0 → F_misMaster S_1 x2 (fun r_12 S_11 => (r_12 = 0 → K_8 S_11) ∧ (¬ r_12 = 0 → K_3 S_11 1))))))
set_option maxHeartbeats 4000000 in
theorem M_mareThere (G : GT) (l : Launch) (hG : GOK G) (h : AH) (g : Nat → Nat) (hg : Mg G g) (S : MS) (x1 : Int32) (x2 : Int32) (P : Int32 → MS → Prop) (hF : F_mareThere S x1 x2 P) : MMi G l yX3_areThere cX3_areThere 3 .boolean 2 43 [.ref (g 0), .int x1, .int x2] h g S P := by
  refine MT.mk (own := RX3) (by decide) rfl hG (Nat.le_of_ble_eq_true rfl) ?_
  intro p e s m below meth c args Q hargs hQ C _
  refine J.loca (L2 := [(0, .ref (g 0)), (1, .int x1), (2, .int x2)]) rfl ?_
  unfold F_mareThere at hF
  refine j_aload_n C dX3_areThere_0 rfl 0 rfl ?_
  refine j_aload_n C dX3_areThere_1 rfl 0 rfl ?_
  refine j_iload_n C dX3_areThere_2 rfl 1 rfl ?_
  refine jm_calli (As := [.int x1]) (rest := [.ref (g 0)]) C (M_misApprentice G l hG h g hg S x1 _ hF) q1992 cal_misApprentice rfl rfl (Nat.le_of_ble_eq_true rfl) ⟨Nat.le_of_ble_eq_true rfl, Nat.le_of_ble_eq_true rfl⟩ dX3_areThere_3 (fun r_2 S_1 hF => ?_)
  obtain ⟨K_3, hK_3, hF⟩ := jn_intro (M := fun (K : MS → Int32 → Prop) => ∀ (S_4 : MS) (t_5 : Int32), K S_4 t_5 → J G p l e ({ frames := 2, cells := 0, slots := 0, locals := 43 } : Room) s m args below meth c 3 Q 0 0 (MH G.2.2.1 h g S_4) 22 [] [.int t_5, .ref (g 0)]) (hk := by
      intro S_4 t_5 hF
      refine jm_calli (As := [.int t_5]) (rest := []) C (M_misThere G l hG h g hg S_4 t_5 _ hF) q1944 cal_misThere rfl rfl (Nat.le_of_ble_eq_true rfl) ⟨Nat.le_of_ble_eq_true rfl, Nat.le_of_ble_eq_true rfl⟩ dX3_areThere_22 (fun r_7 S_6 hF => ?_)
      rw [hQ]
      exact j_iret C hF.1 ⟨_, _, rfl, rfl, hF.2⟩ dX3_areThere_25) hF
  obtain ⟨K_8, hK_8, hF⟩ := jn_intro (M := fun (K : MS → Prop) => ∀ (S_9 : MS), K S_9 → J G p l e ({ frames := 2, cells := 0, slots := 0, locals := 43 } : Room) s m args below meth c 3 Q 0 0 (MH G.2.2.1 h g S_9) 21 [] [.ref (g 0)]) (hk := by
      intro S_9 hF
      refine j_iconst (v := 0) C dX3_areThere_21 rfl ?_
      exact J.locals [] (hK_3 _ _ hF) rfl) hF
  refine j_if_eq (tgt := 21) C dX3_areThere_6 (by decide) (fun hc_10 => ?_) (fun hc_10 => ?_)
  · replace hF := hF.1 hc_10
    exact J.locals [] (hK_8 _ hF) rfl
  · replace hF := hF.2 hc_10
    refine j_aload_n C dX3_areThere_9 rfl 0 rfl ?_
    refine j_iload_n C dX3_areThere_10 rfl 2 rfl ?_
    refine jm_calli (As := [.int x2]) (rest := [.ref (g 0)]) C (M_misMaster G l hG h g hg S_1 x2 _ hF) q1999 cal_misMaster rfl rfl (Nat.le_of_ble_eq_true rfl) ⟨Nat.le_of_ble_eq_true rfl, Nat.le_of_ble_eq_true rfl⟩ dX3_areThere_11 (fun r_12 S_11 hF => ?_)
    refine j_if_eq (tgt := 21) C dX3_areThere_14 (by decide) (fun hc_13 => ?_) (fun hc_13 => ?_)
    · replace hF := hF.1 hc_13
      exact J.locals [] (hK_8 _ hF) rfl
    · replace hF := hF.2 hc_13
      refine j_iconst (v := 1) C dX3_areThere_17 rfl ?_
      refine j_goto (tgt := 22) C dX3_areThere_18 (by decide) ?_
      exact J.locals [] (hK_3 _ _ hF) rfl
theorem cal_misNone : CalV yX3_isNone RX3 cX3_isNone 3 (some .boolean) 2 := ⟨q1990, qs48, q101, q1991, by decide +kernel⟩
def F_misNone (S : MS) (x1 : Int32) (x2 : Int32) (P : Int32 → MS → Prop) : Prop := F_misApprentice S x1 (fun r_2 S_1 => jn (α := MS → Int32 → Prop) (fun S_4 t_5 => F_mrefuses S_4 t_5 2 x1 (fun r_7 S_6 => (r_7 = 0 → F_misMaster S_6 x2 (fun r_10 S_9 => jn (α := MS → Int32 → Prop) (fun S_12 t_13 => F_mrefuses S_12 t_13 2 x2 (fun r_15 S_14 => (r_15 = 0 → P 0 S_14) ∧ (¬ r_15 = 0 → P 1 S_14))) (fun K_11 => (r_10 = 0 → K_11 S_9 1) ∧ (¬ r_10 = 0 → K_11 S_9 0)))) ∧ (¬ r_7 = 0 → P 1 S_6))) (fun K_3 => (r_2 = 0 → K_3 S_1 1) ∧ (¬ r_2 = 0 → K_3 S_1 0)))
set_option maxHeartbeats 4000000 in
theorem M_misNone (G : GT) (l : Launch) (hG : GOK G) (h : AH) (g : Nat → Nat) (hg : Mg G g) (S : MS) (x1 : Int32) (x2 : Int32) (P : Int32 → MS → Prop) (hF : F_misNone S x1 x2 P) : MMi G l yX3_isNone cX3_isNone 3 .boolean 2 43 [.ref (g 0), .int x1, .int x2] h g S P := by
  refine MT.mk (own := RX3) (by decide) rfl hG (Nat.le_of_ble_eq_true rfl) ?_
  intro p e s m below meth c args Q hargs hQ C _
  refine J.loca (L2 := [(0, .ref (g 0)), (1, .int x1), (2, .int x2)]) rfl ?_
  unfold F_misNone at hF
  refine j_aload_n C dX3_isNone_0 rfl 0 rfl ?_
  refine j_aload_n C dX3_isNone_1 rfl 0 rfl ?_
  refine j_iload_n C dX3_isNone_2 rfl 1 rfl ?_
  refine jm_calli (As := [.int x1]) (rest := [.ref (g 0)]) C (M_misApprentice G l hG h g hg S x1 _ hF) q1992 cal_misApprentice rfl rfl (Nat.le_of_ble_eq_true rfl) ⟨Nat.le_of_ble_eq_true rfl, Nat.le_of_ble_eq_true rfl⟩ dX3_isNone_3 (fun r_2 S_1 hF => ?_)
  obtain ⟨K_3, hK_3, hF⟩ := jn_intro (M := fun (K : MS → Int32 → Prop) => ∀ (S_4 : MS) (t_5 : Int32), K S_4 t_5 → J G p l e ({ frames := 2, cells := 0, slots := 0, locals := 43 } : Room) s m args below meth c 3 Q 0 0 (MH G.2.2.1 h g S_4) 14 [(0, .ref (g 0)), (1, .int x1), (2, .int x2)] [.int t_5, .ref (g 0)]) (hk := by
      intro S_4 t_5 hF
      refine j_iconst (v := 2) C dX3_isNone_14 rfl ?_
      refine j_iload_n C dX3_isNone_15 rfl 1 rfl ?_
      refine jm_calli (As := [.int t_5, .int 2, .int x1]) (rest := []) C (M_mrefuses G l hG h g hg S_4 t_5 2 x1 _ hF) q1964 cal_mrefuses rfl rfl (Nat.le_of_ble_eq_true rfl) ⟨Nat.le_of_ble_eq_true rfl, Nat.le_of_ble_eq_true rfl⟩ dX3_isNone_16 (fun r_7 S_6 hF => ?_)
      refine j_if_ne (tgt := 44) C dX3_isNone_19 (by decide) (fun hc_8 => ?_) (fun hc_8 => ?_)
      · replace hF := hF.2 hc_8
        refine j_iconst (v := 1) C dX3_isNone_44 rfl ?_
        refine j_goto (tgt := 49) C dX3_isNone_45 (by decide) ?_
        rw [hQ]
        exact j_iret C rfl ⟨_, _, rfl, rfl, hF⟩ dX3_isNone_49
      · replace hF := hF.1 hc_8
        refine j_aload_n C dX3_isNone_22 rfl 0 rfl ?_
        refine j_aload_n C dX3_isNone_23 rfl 0 rfl ?_
        refine j_iload_n C dX3_isNone_24 rfl 2 rfl ?_
        refine jm_calli (As := [.int x2]) (rest := [.ref (g 0)]) C (M_misMaster G l hG h g hg S_6 x2 _ hF) q1999 cal_misMaster rfl rfl (Nat.le_of_ble_eq_true rfl) ⟨Nat.le_of_ble_eq_true rfl, Nat.le_of_ble_eq_true rfl⟩ dX3_isNone_25 (fun r_10 S_9 hF => ?_)
        obtain ⟨K_11, hK_11, hF⟩ := jn_intro (M := fun (K : MS → Int32 → Prop) => ∀ (S_12 : MS) (t_13 : Int32), K S_12 t_13 → J G p l e ({ frames := 2, cells := 0, slots := 0, locals := 43 } : Room) s m args below meth c 3 Q 0 0 (MH G.2.2.1 h g S_12) 36 [(2, .int x2)] [.int t_13, .ref (g 0)]) (hk := by
            intro S_12 t_13 hF
            refine j_iconst (v := 2) C dX3_isNone_36 rfl ?_
            refine j_iload_n C dX3_isNone_37 rfl 0 rfl ?_
            refine jm_calli (As := [.int t_13, .int 2, .int x2]) (rest := []) C (M_mrefuses G l hG h g hg S_12 t_13 2 x2 _ hF) q1964 cal_mrefuses rfl rfl (Nat.le_of_ble_eq_true rfl) ⟨Nat.le_of_ble_eq_true rfl, Nat.le_of_ble_eq_true rfl⟩ dX3_isNone_38 (fun r_15 S_14 hF => ?_)
            refine j_if_eq (tgt := 48) C dX3_isNone_41 (by decide) (fun hc_16 => ?_) (fun hc_16 => ?_)
            · replace hF := hF.1 hc_16
              refine j_iconst (v := 0) C dX3_isNone_48 rfl ?_
              rw [hQ]
              exact j_iret C rfl ⟨_, _, rfl, rfl, hF⟩ dX3_isNone_49
            · replace hF := hF.2 hc_16
              refine j_iconst (v := 1) C dX3_isNone_44 rfl ?_
              refine j_goto (tgt := 49) C dX3_isNone_45 (by decide) ?_
              rw [hQ]
              exact j_iret C rfl ⟨_, _, rfl, rfl, hF⟩ dX3_isNone_49) hF
        refine j_if_ne (tgt := 35) C dX3_isNone_28 (by decide) (fun hc_17 => ?_) (fun hc_17 => ?_)
        · replace hF := hF.2 hc_17
          refine j_iconst (v := 0) C dX3_isNone_35 rfl ?_
          exact J.locals [2] (hK_11 _ _ hF) rfl
        · replace hF := hF.1 hc_17
          refine j_iconst (v := 1) C dX3_isNone_31 rfl ?_
          refine j_goto (tgt := 36) C dX3_isNone_32 (by decide) ?_
          exact J.locals [2] (hK_11 _ _ hF) rfl) hF
  refine j_if_ne (tgt := 13) C dX3_isNone_6 (by decide) (fun hc_18 => ?_) (fun hc_18 => ?_)
  · replace hF := hF.2 hc_18
    refine j_iconst (v := 0) C dX3_isNone_13 rfl ?_
    exact J.locals [0, 1, 2] (hK_3 _ _ hF) rfl
  · replace hF := hF.1 hc_18
    refine j_iconst (v := 1) C dX3_isNone_9 rfl ?_
    refine j_goto (tgt := 14) C dX3_isNone_10 (by decide) ?_
    exact J.locals [0, 1, 2] (hK_3 _ _ hF) rfl
theorem cal_mbars : CalV yX3_bars RX3 cX3_bars 3 (some .boolean) 2 := ⟨q2013, qs52, q101, q2014, by decide +kernel⟩
def F_mbars (S : MS) (x1 : Int32) (x2 : Int32) (P : Int32 → MS → Prop) : Prop := F_misNone S x1 x2 (fun r_2 S_1 => (r_2 = 0 → F_misBarred S_1 x1 x2 (fun r_5 S_4 => F_mrefuses S_4 r_5 4 x1 (fun r_7 S_6 => (r_7 = 0 → F_mc S_6 x1 x2 (fun r_10 S_9 => nm (sput S_9 0 4 r_10) (fun S_11 => (vp_in ((6 + (6 * x1)) + x2) 1152) ∧ (nm (sput S_11 1 (Int32.toNatClampNeg ((6 + (6 * x1)) + x2)) (-1)) (fun S_12 => (vp_in (84 + x1) 1152) ∧ (((S_12 1 (Int32.toNatClampNeg (84 + x1))) = x2 → (vp_in (84 + x1) 1152) ∧ (nm (sput S_12 1 (Int32.toNatClampNeg (84 + x1)) (-1)) (fun S_14 => P 1 S_14))) ∧ (¬ (S_12 1 (Int32.toNatClampNeg (84 + x1))) = x2 → P 1 S_12))))))) ∧ (¬ r_7 = 0 → P 0 S_6)))) ∧ (¬ r_2 = 0 → P 0 S_1))
set_option maxHeartbeats 4000000 in
theorem M_mbars (G : GT) (l : Launch) (hG : GOK G) (h : AH) (g : Nat → Nat) (hg : Mg G g) (S : MS) (x1 : Int32) (x2 : Int32) (P : Int32 → MS → Prop) (hF : F_mbars S x1 x2 P) : MMi G l yX3_bars cX3_bars 3 .boolean 3 65 [.ref (g 0), .int x1, .int x2] h g S P := by
  refine MT.mk (own := RX3) (by decide) rfl hG (Nat.le_of_ble_eq_true rfl) ?_
  intro p e s m below meth c args Q hargs hQ C _
  refine J.loca (L2 := [(0, .ref (g 0)), (1, .int x1), (2, .int x2)]) rfl ?_
  unfold F_mbars at hF
  refine j_aload_n C dX3_bars_0 rfl 0 rfl ?_
  refine j_iload_n C dX3_bars_1 rfl 1 rfl ?_
  refine j_iload_n C dX3_bars_2 rfl 2 rfl ?_
  refine jm_calli (As := [.int x1, .int x2]) (rest := []) C (M_misNone G l hG h g hg S x1 x2 _ hF) q1988 cal_misNone rfl rfl (Nat.le_of_ble_eq_true rfl) ⟨Nat.le_of_ble_eq_true rfl, Nat.le_of_ble_eq_true rfl⟩ dX3_bars_3 (fun r_2 S_1 hF => ?_)
  refine j_if_ne (tgt := 24) C dX3_bars_6 (by decide) (fun hc_3 => ?_) (fun hc_3 => ?_)
  · replace hF := hF.2 hc_3
    refine j_iconst (v := 0) C dX3_bars_24 rfl ?_
    rw [hQ]
    exact j_iret C rfl ⟨_, _, rfl, rfl, hF⟩ dX3_bars_25
  · replace hF := hF.1 hc_3
    refine j_aload_n C dX3_bars_9 rfl 0 rfl ?_
    refine j_aload_n C dX3_bars_10 rfl 0 rfl ?_
    refine j_iload_n C dX3_bars_11 rfl 1 rfl ?_
    refine j_iload_n C dX3_bars_12 rfl 2 rfl ?_
    refine jm_calli (As := [.int x1, .int x2]) (rest := [.ref (g 0)]) C (M_misBarred G l hG h g hg S_1 x1 x2 _ hF) q2015 cal_misBarred rfl rfl (Nat.le_of_ble_eq_true rfl) ⟨Nat.le_of_ble_eq_true rfl, Nat.le_of_ble_eq_true rfl⟩ dX3_bars_13 (fun r_5 S_4 hF => ?_)
    refine j_iconst (v := 4) C dX3_bars_16 rfl ?_
    refine j_iload_n C dX3_bars_17 rfl 1 rfl ?_
    refine jm_calli (As := [.int r_5, .int 4, .int x1]) (rest := []) C (M_mrefuses G l hG h g hg S_4 r_5 4 x1 _ hF) q1964 cal_mrefuses rfl rfl (Nat.le_of_ble_eq_true rfl) ⟨Nat.le_of_ble_eq_true rfl, Nat.le_of_ble_eq_true rfl⟩ dX3_bars_18 (fun r_7 S_6 hF => ?_)
    refine j_if_eq (tgt := 26) C dX3_bars_21 (by decide) (fun hc_8 => ?_) (fun hc_8 => ?_)
    · replace hF := hF.1 hc_8
      refine j_aload_n C dX3_bars_26 rfl 0 rfl ?_
      refine j_aload_n C dX3_bars_27 rfl 0 rfl ?_
      refine j_iload_n C dX3_bars_28 rfl 1 rfl ?_
      refine j_iload_n C dX3_bars_29 rfl 2 rfl ?_
      refine jm_calli (As := [.int x1, .int x2]) (rest := [.ref (g 0)]) C (M_mc G l hG h g hg S_6 x1 x2 _ hF) q2003 cal_mc rfl rfl (Nat.le_of_ble_eq_true rfl) ⟨Nat.le_of_ble_eq_true rfl, Nat.le_of_ble_eq_true rfl⟩ dX3_bars_30 (fun r_10 S_9 hF => ?_)
      refine jmP4 C hg dX3_bars_33 ?_
      obtain ⟨S_11, eS_11, hF⟩ := nm_intro hF
      refine m_J eS_11 ?_
      refine j_aload_n C dX3_bars_36 rfl 0 rfl ?_
      refine jmG1 C dX3_bars_37 ?_
      refine j_bipush (v := 6) C dX3_bars_40 rfl ?_
      refine j_bipush (v := 6) C dX3_bars_42 rfl ?_
      refine j_iload_n C dX3_bars_44 rfl 1 rfl ?_
      refine j_imul C dX3_bars_45 ?_
      refine j_iadd C dX3_bars_46 ?_
      refine j_iload_n C dX3_bars_47 rfl 2 rfl ?_
      refine j_iadd C dX3_bars_48 ?_
      refine j_iconst (v := (-1)) C dX3_bars_49 rfl ?_
      obtain ⟨hgd, hF⟩ := hF
      refine jmS1 C hg hgd dX3_bars_50 ?_
      obtain ⟨S_12, eS_12, hF⟩ := nm_intro hF
      refine m_J eS_12 ?_
      refine j_aload_n C dX3_bars_51 rfl 0 rfl ?_
      refine jmG1 C dX3_bars_52 ?_
      refine j_bipush (v := 84) C dX3_bars_55 rfl ?_
      refine j_iload_n C dX3_bars_57 rfl 1 rfl ?_
      refine j_iadd C dX3_bars_58 ?_
      obtain ⟨hgd, hF⟩ := hF
      refine jmL1 C hg hgd dX3_bars_59 ?_
      refine j_iload_n C dX3_bars_60 rfl 2 rfl ?_
      refine j_icmp_ne (tgt := 74) C dX3_bars_61 (by decide) (fun hc_13 => ?_) (fun hc_13 => ?_)
      · replace hF := hF.2 hc_13
        refine j_iconst (v := 1) C dX3_bars_74 rfl ?_
        rw [hQ]
        exact j_iret C rfl ⟨_, _, rfl, rfl, hF⟩ dX3_bars_75
      · replace hF := hF.1 hc_13
        refine j_aload_n C dX3_bars_64 rfl 0 rfl ?_
        refine jmG1 C dX3_bars_65 ?_
        refine j_bipush (v := 84) C dX3_bars_68 rfl ?_
        refine j_iload_n C dX3_bars_70 rfl 1 rfl ?_
        refine j_iadd C dX3_bars_71 ?_
        refine j_iconst (v := (-1)) C dX3_bars_72 rfl ?_
        obtain ⟨hgd, hF⟩ := hF
        refine jmS1 C hg hgd dX3_bars_73 ?_
        obtain ⟨S_14, eS_14, hF⟩ := nm_intro hF
        refine m_J eS_14 ?_
        refine j_iconst (v := 1) C dX3_bars_74 rfl ?_
        rw [hQ]
        exact j_iret C rfl ⟨_, _, rfl, rfl, hF⟩ dX3_bars_75
    · replace hF := hF.2 hc_8
      refine j_iconst (v := 0) C dX3_bars_24 rfl ?_
      rw [hQ]
      exact j_iret C rfl ⟨_, _, rfl, rfl, hF⟩ dX3_bars_25
theorem cal_mbar : CalV yX3_bar RX3 cX3_bar 3 (some .int) 2 := ⟨q2008, q2009, q101, q2010, by decide +kernel⟩
def F_mbar (S : MS) (x1 : Int32) (x2 : Int32) (P : Int32 → MS → Prop) : Prop := F_mbegins S (fun S_1 => F_mbars S_1 x1 x2 (fun r_3 S_2 => F_mends S_2 r_3 1 (fun r_5 S_4 => P r_5 S_4)))
set_option maxHeartbeats 4000000 in
theorem M_mbar (G : GT) (l : Launch) (hG : GOK G) (h : AH) (g : Nat → Nat) (hg : Mg G g) (S : MS) (x1 : Int32) (x2 : Int32) (P : Int32 → MS → Prop) (hF : F_mbar S x1 x2 P) : MMi G l yX3_bar cX3_bar 3 .int 4 87 [.ref (g 0), .int x1, .int x2] h g S P := by
  refine MT.mk (own := RX3) (by decide) rfl hG (Nat.le_of_ble_eq_true rfl) ?_
  intro p e s m below meth c args Q hargs hQ C _
  refine J.loca (L2 := [(0, .ref (g 0)), (1, .int x1), (2, .int x2)]) rfl ?_
  unfold F_mbar at hF
  refine j_aload_n C dX3_bar_0 rfl 0 rfl ?_
  refine jm_callv (As := []) (rest := []) C (M_mbegins G l hG h g hg S _ hF) q1952 cal_mbegins rfl rfl (Nat.le_of_ble_eq_true rfl) ⟨Nat.le_of_ble_eq_true rfl, Nat.le_of_ble_eq_true rfl⟩ dX3_bar_1 (fun S_1 hF => ?_)
  refine j_aload_n C dX3_bar_4 rfl 0 rfl ?_
  refine j_aload_n C dX3_bar_5 rfl 0 rfl ?_
  refine j_iload_n C dX3_bar_6 rfl 1 rfl ?_
  refine j_iload_n C dX3_bar_7 rfl 2 rfl ?_
  refine jm_calli (As := [.int x1, .int x2]) (rest := [.ref (g 0)]) C (M_mbars G l hG h g hg S_1 x1 x2 _ hF) q2011 cal_mbars rfl rfl (Nat.le_of_ble_eq_true rfl) ⟨Nat.le_of_ble_eq_true rfl, Nat.le_of_ble_eq_true rfl⟩ dX3_bar_8 (fun r_3 S_2 hF => ?_)
  refine j_iconst (v := 1) C dX3_bar_11 rfl ?_
  refine jm_calli (As := [.int r_3, .int 1]) (rest := []) C (M_mends G l hG h g hg S_2 r_3 1 _ hF) q1972 cal_mends rfl rfl (Nat.le_of_ble_eq_true rfl) ⟨Nat.le_of_ble_eq_true rfl, Nat.le_of_ble_eq_true rfl⟩ dX3_bar_12 (fun r_5 S_4 hF => ?_)
  rw [hQ]
  exact j_iret C rfl ⟨_, _, rfl, rfl, hF⟩ dX3_bar_15
theorem cal_mfirstFree : CalV yX3_firstFree RX3 cX3_firstFree 2 (some .int) 0 := ⟨q2029, qs55, q101, q2030, by decide +kernel⟩
def L_mfirstFree_2 (P : Int32 → MS → Prop) : Nat → MS → Int32 → Prop
  | 0, _, _ => False
  | n + 1, S, z1 => (vp_in 0 1152) ∧ (((S 1 (Int32.toNatClampNeg (0))) ≤ z1 → P (-1) S) ∧ (¬ (S 1 (Int32.toNatClampNeg (0))) ≤ z1 → (vp_in (84 + z1) 1152) ∧ (((S 1 (Int32.toNatClampNeg (84 + z1))) = (-1) → P z1 S) ∧ (¬ (S 1 (Int32.toNatClampNeg (84 + z1))) = (-1) → L_mfirstFree_2 P n S (z1 + 1)))))
def F_mfirstFree (S : MS) (P : Int32 → MS → Prop) : Prop := L_mfirstFree_2  P NF S 0
set_option maxHeartbeats 4000000 in
theorem WL_mfirstFree_2 {G : GT} {p : Program} {l : Launch} {e : Env} {s : State} {m : MethodId} {args : Array Value} {below : List Frame} {meth : Method} {c : Code} {h : AH} {g : Nat → Nat} {Q : State → Prop} (C : Cx G p s m args meth c cX3_firstFree RX3 2 (some .int)) (hG : GOK G) (hg : Mg G g) {P : Int32 → MS → Prop} (hQ : Q = MQ below (SQ G (fun v h' => ∃ (r : Int32) (S' : MS), v = some (.int r) ∧ h' = (MH G.2.2.1 h g S') ∧ P r S')) args s (({ frames := 0, cells := 0, slots := 0, locals := 0 } : Room) : Room).cells (({ frames := 0, cells := 0, slots := 0, locals := 0 } : Room) : Room).slots (fun q => G.1 ≤ q)) :
    ∀ (n : Nat) (S : MS) (z1 : Int32), L_mfirstFree_2 P n S z1 → J G p l e ({ frames := 0, cells := 0, slots := 0, locals := 0 } : Room) s m args below meth c 2 Q 0 0 (MH G.2.2.1 h g S) 2 [(0, .ref (g 0)), (1, .int z1)] [] := by
  intro n
  induction n with
  | zero => intro S z1 hF; exact hF.elim
  | succ n ih =>
    intro S z1 hF
    unfold L_mfirstFree_2 at hF
    refine j_iload_n C dX3_firstFree_2 rfl 1 rfl ?_
    refine j_aload_n C dX3_firstFree_3 rfl 0 rfl ?_
    refine jmG1 C dX3_firstFree_4 ?_
    refine j_iconst (v := 0) C dX3_firstFree_7 rfl ?_
    obtain ⟨hgd, hF⟩ := hF
    refine jmL1 C hg hgd dX3_firstFree_8 ?_
    refine j_icmp_ge (tgt := 33) C dX3_firstFree_9 (by decide) (fun hc_1 => ?_) (fun hc_1 => ?_)
    · replace hF := hF.1 hc_1
      refine j_iconst (v := (-1)) C dX3_firstFree_33 rfl ?_
      rw [hQ]
      exact j_iret C rfl ⟨_, _, rfl, rfl, hF⟩ dX3_firstFree_34
    · replace hF := hF.2 hc_1
      refine j_aload_n C dX3_firstFree_12 rfl 0 rfl ?_
      refine jmG1 C dX3_firstFree_13 ?_
      refine j_bipush (v := 84) C dX3_firstFree_16 rfl ?_
      refine j_iload_n C dX3_firstFree_18 rfl 1 rfl ?_
      refine j_iadd C dX3_firstFree_19 ?_
      obtain ⟨hgd, hF⟩ := hF
      refine jmL1 C hg hgd dX3_firstFree_20 ?_
      refine j_iconst (v := (-1)) C dX3_firstFree_21 rfl ?_
      refine j_icmp_ne (tgt := 27) C dX3_firstFree_22 (by decide) (fun hc_2 => ?_) (fun hc_2 => ?_)
      · replace hF := hF.2 hc_2
        refine j_iinc (q := 1) (v := z1 + 1) (L2 := [(1, .int (z1 + 1)), (0, .ref (g 0))]) C dX3_firstFree_27 rfl rfl (by decide) rfl ?_
        refine j_goto (tgt := 2) C dX3_firstFree_30 (by decide) ?_
        exact J.locals [1, 0] (ih _ _ hF) rfl
      · replace hF := hF.1 hc_2
        refine j_iload_n C dX3_firstFree_25 rfl 1 rfl ?_
        rw [hQ]
        exact j_iret C rfl ⟨_, _, rfl, rfl, hF⟩ dX3_firstFree_26
set_option maxHeartbeats 4000000 in
theorem M_mfirstFree (G : GT) (l : Launch) (hG : GOK G) (h : AH) (g : Nat → Nat) (hg : Mg G g) (S : MS) (P : Int32 → MS → Prop) (hF : F_mfirstFree S P) : MMi G l yX3_firstFree cX3_firstFree 2 .int 0 0 [.ref (g 0)] h g S P := by
  refine MT.mk (own := RX3) (by decide) rfl hG (Nat.le_of_ble_eq_true rfl) ?_
  intro p e s m below meth c args Q hargs hQ C _
  refine J.loca (L2 := [(0, .ref (g 0))]) rfl ?_
  unfold F_mfirstFree at hF
  refine j_iconst (v := 0) C dX3_firstFree_0 rfl ?_
  refine j_istore_n (L2 := [(1, .int 0), (0, .ref (g 0))]) C dX3_firstFree_1 rfl (by decide) rfl ?_
  refine J.locals [1, 0] (WL_mfirstFree_2 C hG hg hQ NF _ _ hF) rfl
theorem cal_mwhyNot : CalV yX3_whyNot RX3 cX3_whyNot 3 (some .int) 1 := ⟨q2033, qs56, q101, q2034, by decide +kernel⟩
def F_mwhyNot (S : MS) (x1 : Int32) (P : Int32 → MS → Prop) : Prop := F_mlikes S x1 (fun r_2 S_1 => (r_2 = (-1) → P 6 S_1) ∧ (¬ r_2 = (-1) → (vp_in (78 + r_2) 1152) ∧ (F_mraise S_1 x1 (fun r_5 S_4 => (((S_1 1 (Int32.toNatClampNeg (78 + r_2))) + r_5) ≤ 9999 → P 0 S_4) ∧ (¬ ((S_1 1 (Int32.toNatClampNeg (78 + r_2))) + r_5) ≤ 9999 → P 7 S_4)))))
set_option maxHeartbeats 4000000 in
theorem M_mwhyNot (G : GT) (l : Launch) (hG : GOK G) (h : AH) (g : Nat → Nat) (hg : Mg G g) (S : MS) (x1 : Int32) (P : Int32 → MS → Prop) (hF : F_mwhyNot S x1 P) : MMi G l yX3_whyNot cX3_whyNot 3 .int 4 91 [.ref (g 0), .int x1] h g S P := by
  refine MT.mk (own := RX3) (by decide) rfl hG (Nat.le_of_ble_eq_true rfl) ?_
  intro p e s m below meth c args Q hargs hQ C _
  refine J.loca (L2 := [(0, .ref (g 0)), (1, .int x1)]) rfl ?_
  unfold F_mwhyNot at hF
  refine j_aload_n C dX3_whyNot_0 rfl 0 rfl ?_
  refine j_iload_n C dX3_whyNot_1 rfl 1 rfl ?_
  refine jm_calli (As := [.int x1]) (rest := []) C (M_mlikes G l hG h g hg S x1 _ hF) q2035 cal_mlikes rfl rfl (Nat.le_of_ble_eq_true rfl) ⟨Nat.le_of_ble_eq_true rfl, Nat.le_of_ble_eq_true rfl⟩ dX3_whyNot_2 (fun r_2 S_1 hF => ?_)
  refine j_istore_n (L2 := [(2, .int r_2), (0, .ref (g 0)), (1, .int x1)]) C dX3_whyNot_5 rfl (by decide) rfl ?_
  refine j_iload_n C dX3_whyNot_6 rfl 0 rfl ?_
  refine j_iconst (v := (-1)) C dX3_whyNot_7 rfl ?_
  refine j_icmp_ne (tgt := 16) C dX3_whyNot_8 (by decide) (fun hc_3 => ?_) (fun hc_3 => ?_)
  · replace hF := hF.2 hc_3
    refine j_aload_n C dX3_whyNot_16 rfl 1 rfl ?_
    refine jmG1 C dX3_whyNot_17 ?_
    refine j_bipush (v := 78) C dX3_whyNot_20 rfl ?_
    refine j_iload_n C dX3_whyNot_22 rfl 0 rfl ?_
    refine j_iadd C dX3_whyNot_23 ?_
    obtain ⟨hgd, hF⟩ := hF
    refine jmL1 C hg hgd dX3_whyNot_24 ?_
    refine j_aload_n C dX3_whyNot_25 rfl 1 rfl ?_
    refine j_iload_n C dX3_whyNot_26 rfl 2 rfl ?_
    refine jm_calli (As := [.int x1]) (rest := [.int (S_1 1 (Int32.toNatClampNeg (78 + r_2)))]) C (M_mraise G l hG h g hg S_1 x1 _ hF) q2043 cal_mraise rfl rfl (Nat.le_of_ble_eq_true rfl) ⟨Nat.le_of_ble_eq_true rfl, Nat.le_of_ble_eq_true rfl⟩ dX3_whyNot_27 (fun r_5 S_4 hF => ?_)
    refine j_iadd C dX3_whyNot_30 ?_
    refine j_sipush (v := 9999) C dX3_whyNot_31 rfl ?_
    refine j_icmp_le (tgt := 42) C dX3_whyNot_34 (by decide) (fun hc_6 => ?_) (fun hc_6 => ?_)
    · replace hF := hF.1 hc_6
      refine j_iconst (v := 0) C dX3_whyNot_42 rfl ?_
      rw [hQ]
      exact j_iret C rfl ⟨_, _, rfl, rfl, hF⟩ dX3_whyNot_43
    · replace hF := hF.2 hc_6
      refine j_bipush (v := 7) C dX3_whyNot_37 rfl ?_
      refine j_goto (tgt := 43) C dX3_whyNot_39 (by decide) ?_
      rw [hQ]
      exact j_iret C rfl ⟨_, _, rfl, rfl, hF⟩ dX3_whyNot_43
  · replace hF := hF.1 hc_3
    refine j_bipush (v := 6) C dX3_whyNot_11 rfl ?_
    refine j_goto (tgt := 43) C dX3_whyNot_13 (by decide) ?_
    rw [hQ]
    exact j_iret C rfl ⟨_, _, rfl, rfl, hF⟩ dX3_whyNot_43
theorem cal_mheldBy : CalV yX3_heldBy RX3 cX3_heldBy 3 (some .int) 1 := ⟨q2054, qs61, q101, q2055, by decide +kernel⟩
def L_mheldBy_2 (P : Int32 → MS → Prop) (f1 : Int32) : Nat → MS → Int32 → Prop
  | 0, _, _ => False
  | n + 1, S, z2 => (vp_in 0 1152) ∧ (((S 1 (Int32.toNatClampNeg (0))) ≤ z2 → P (-1) S) ∧ (¬ (S 1 (Int32.toNatClampNeg (0))) ≤ z2 → (vp_in (84 + z2) 1152) ∧ (((S 1 (Int32.toNatClampNeg (84 + z2))) = f1 → P z2 S) ∧ (¬ (S 1 (Int32.toNatClampNeg (84 + z2))) = f1 → L_mheldBy_2 P f1 n S (z2 + 1)))))
def F_mheldBy (S : MS) (x1 : Int32) (P : Int32 → MS → Prop) : Prop := L_mheldBy_2  P x1 NF S 0
set_option maxHeartbeats 4000000 in
theorem WL_mheldBy_2 {G : GT} {p : Program} {l : Launch} {e : Env} {s : State} {m : MethodId} {args : Array Value} {below : List Frame} {meth : Method} {c : Code} {h : AH} {g : Nat → Nat} {Q : State → Prop} (C : Cx G p s m args meth c cX3_heldBy RX3 3 (some .int)) (hG : GOK G) (hg : Mg G g) {P : Int32 → MS → Prop} (hQ : Q = MQ below (SQ G (fun v h' => ∃ (r : Int32) (S' : MS), v = some (.int r) ∧ h' = (MH G.2.2.1 h g S') ∧ P r S')) args s (({ frames := 0, cells := 0, slots := 0, locals := 0 } : Room) : Room).cells (({ frames := 0, cells := 0, slots := 0, locals := 0 } : Room) : Room).slots (fun q => G.1 ≤ q)) {f1 : Int32} :
    ∀ (n : Nat) (S : MS) (z2 : Int32), L_mheldBy_2 P f1 n S z2 → J G p l e ({ frames := 0, cells := 0, slots := 0, locals := 0 } : Room) s m args below meth c 3 Q 0 0 (MH G.2.2.1 h g S) 2 [(0, .ref (g 0)), (1, .int f1), (2, .int z2)] [] := by
  intro n
  induction n with
  | zero => intro S z2 hF; exact hF.elim
  | succ n ih =>
    intro S z2 hF
    unfold L_mheldBy_2 at hF
    refine j_iload_n C dX3_heldBy_2 rfl 2 rfl ?_
    refine j_aload_n C dX3_heldBy_3 rfl 0 rfl ?_
    refine jmG1 C dX3_heldBy_4 ?_
    refine j_iconst (v := 0) C dX3_heldBy_7 rfl ?_
    obtain ⟨hgd, hF⟩ := hF
    refine jmL1 C hg hgd dX3_heldBy_8 ?_
    refine j_icmp_ge (tgt := 33) C dX3_heldBy_9 (by decide) (fun hc_1 => ?_) (fun hc_1 => ?_)
    · replace hF := hF.1 hc_1
      refine j_iconst (v := (-1)) C dX3_heldBy_33 rfl ?_
      rw [hQ]
      exact j_iret C rfl ⟨_, _, rfl, rfl, hF⟩ dX3_heldBy_34
    · replace hF := hF.2 hc_1
      refine j_aload_n C dX3_heldBy_12 rfl 0 rfl ?_
      refine jmG1 C dX3_heldBy_13 ?_
      refine j_bipush (v := 84) C dX3_heldBy_16 rfl ?_
      refine j_iload_n C dX3_heldBy_18 rfl 2 rfl ?_
      refine j_iadd C dX3_heldBy_19 ?_
      obtain ⟨hgd, hF⟩ := hF
      refine jmL1 C hg hgd dX3_heldBy_20 ?_
      refine j_iload_n C dX3_heldBy_21 rfl 1 rfl ?_
      refine j_icmp_ne (tgt := 27) C dX3_heldBy_22 (by decide) (fun hc_2 => ?_) (fun hc_2 => ?_)
      · replace hF := hF.2 hc_2
        refine j_iinc (q := 2) (v := z2 + 1) (L2 := [(2, .int (z2 + 1)), (0, .ref (g 0)), (1, .int f1)]) C dX3_heldBy_27 rfl rfl (by decide) rfl ?_
        refine j_goto (tgt := 2) C dX3_heldBy_30 (by decide) ?_
        exact J.locals [1, 2, 0] (ih _ _ hF) rfl
      · replace hF := hF.1 hc_2
        refine j_iload_n C dX3_heldBy_25 rfl 2 rfl ?_
        rw [hQ]
        exact j_iret C rfl ⟨_, _, rfl, rfl, hF⟩ dX3_heldBy_26
set_option maxHeartbeats 4000000 in
theorem M_mheldBy (G : GT) (l : Launch) (hG : GOK G) (h : AH) (g : Nat → Nat) (hg : Mg G g) (S : MS) (x1 : Int32) (P : Int32 → MS → Prop) (hF : F_mheldBy S x1 P) : MMi G l yX3_heldBy cX3_heldBy 3 .int 0 0 [.ref (g 0), .int x1] h g S P := by
  refine MT.mk (own := RX3) (by decide) rfl hG (Nat.le_of_ble_eq_true rfl) ?_
  intro p e s m below meth c args Q hargs hQ C _
  refine J.loca (L2 := [(0, .ref (g 0)), (1, .int x1)]) rfl ?_
  unfold F_mheldBy at hF
  refine j_iconst (v := 0) C dX3_heldBy_0 rfl ?_
  refine j_istore_n (L2 := [(2, .int 0), (0, .ref (g 0)), (1, .int x1)]) C dX3_heldBy_1 rfl (by decide) rfl ?_
  refine J.locals [1, 2, 0] (WL_mheldBy_2 C hG hg hQ NF _ _ hF) rfl
theorem cal_mbidsNow : CalV yX3_bidsNow RX3 cX3_bidsNow 4 (some .int) 1 := ⟨q2050, qs60, q101, q2051, by decide +kernel⟩
def F_mbidsNow (S : MS) (x1 : Int32) (P : Int32 → MS → Prop) : Prop := F_mlikes S x1 (fun r_2 S_1 => F_mheldBy S_1 r_2 (fun r_4 S_3 => (vp_in (78 + r_2) 1152) ∧ (F_mraise S_3 x1 (fun r_6 S_5 => (vp_in (78 + r_2) 1152) ∧ (nm (sput S_5 1 (Int32.toNatClampNeg (78 + r_2)) ((S_3 1 (Int32.toNatClampNeg (78 + r_2))) + r_6)) (fun S_7 => jn (α := MS → Prop) (fun S_9 => (vp_in (84 + x1) 1152) ∧ (nm (sput S_9 1 (Int32.toNatClampNeg (84 + x1)) r_2) (fun S_10 => (vp_in 3 1152) ∧ ((vp_in 3 1152) ∧ (nm (sput S_10 1 (Int32.toNatClampNeg (3)) ((S_10 1 (Int32.toNatClampNeg (3))) + 1)) (fun S_11 => (vp_in (90 + r_2) 1152) ∧ ((vp_in (90 + r_2) 1152) ∧ (nm (sput S_11 1 (Int32.toNatClampNeg (90 + r_2)) ((S_11 1 (Int32.toNatClampNeg (90 + r_2))) + 1)) (fun S_12 => P r_4 S_12))))))))) (fun K_8 => (r_4 = (-1) → K_8 S_7) ∧ (¬ r_4 = (-1) → (vp_in (84 + r_4) 1152) ∧ (nm (sput S_7 1 (Int32.toNatClampNeg (84 + r_4)) (-1)) (fun S_14 => (vp_in 4 1152) ∧ ((vp_in 4 1152) ∧ (nm (sput S_14 1 (Int32.toNatClampNeg (4)) ((S_14 1 (Int32.toNatClampNeg (4))) + 1)) (fun S_15 => K_8 S_15)))))))))))))
set_option maxHeartbeats 4000000 in
theorem M_mbidsNow (G : GT) (l : Launch) (hG : GOK G) (h : AH) (g : Nat → Nat) (hg : Mg G g) (S : MS) (x1 : Int32) (P : Int32 → MS → Prop) (hF : F_mbidsNow S x1 P) : MMi G l yX3_bidsNow cX3_bidsNow 4 .int 4 91 [.ref (g 0), .int x1] h g S P := by
  refine MT.mk (own := RX3) (by decide) rfl hG (Nat.le_of_ble_eq_true rfl) ?_
  intro p e s m below meth c args Q hargs hQ C _
  refine J.loca (L2 := [(0, .ref (g 0)), (1, .int x1)]) rfl ?_
  unfold F_mbidsNow at hF
  refine j_aload_n C dX3_bidsNow_0 rfl 0 rfl ?_
  refine j_iload_n C dX3_bidsNow_1 rfl 1 rfl ?_
  refine jm_calli (As := [.int x1]) (rest := []) C (M_mlikes G l hG h g hg S x1 _ hF) q2035 cal_mlikes rfl rfl (Nat.le_of_ble_eq_true rfl) ⟨Nat.le_of_ble_eq_true rfl, Nat.le_of_ble_eq_true rfl⟩ dX3_bidsNow_2 (fun r_2 S_1 hF => ?_)
  refine j_istore_n (L2 := [(2, .int r_2), (0, .ref (g 0)), (1, .int x1)]) C dX3_bidsNow_5 rfl (by decide) rfl ?_
  refine j_aload_n C dX3_bidsNow_6 rfl 1 rfl ?_
  refine j_iload_n C dX3_bidsNow_7 rfl 0 rfl ?_
  refine jm_calli (As := [.int r_2]) (rest := []) C (M_mheldBy G l hG h g hg S_1 r_2 _ hF) q2052 cal_mheldBy rfl rfl (Nat.le_of_ble_eq_true rfl) ⟨Nat.le_of_ble_eq_true rfl, Nat.le_of_ble_eq_true rfl⟩ dX3_bidsNow_8 (fun r_4 S_3 hF => ?_)
  refine j_istore_n (L2 := [(3, .int r_4), (2, .int r_2), (0, .ref (g 0)), (1, .int x1)]) C dX3_bidsNow_11 rfl (by decide) rfl ?_
  refine j_aload_n C dX3_bidsNow_12 rfl 2 rfl ?_
  refine jmG1 C dX3_bidsNow_13 ?_
  refine j_bipush (v := 78) C dX3_bidsNow_16 rfl ?_
  refine j_iload_n C dX3_bidsNow_18 rfl 1 rfl ?_
  refine j_iadd C dX3_bidsNow_19 ?_
  refine j_dup2 C dX3_bidsNow_20 rfl rfl ?_
  obtain ⟨hgd, hF⟩ := hF
  refine jmL1 C hg hgd dX3_bidsNow_21 ?_
  refine j_aload_n C dX3_bidsNow_22 rfl 2 rfl ?_
  refine j_iload_n C dX3_bidsNow_23 rfl 3 rfl ?_
  refine jm_calli (As := [.int x1]) (rest := [.int (S_3 1 (Int32.toNatClampNeg (78 + r_2))), .int (78 + r_2), .ref (g 1)]) C (M_mraise G l hG h g hg S_3 x1 _ hF) q2043 cal_mraise rfl rfl (Nat.le_of_ble_eq_true rfl) ⟨Nat.le_of_ble_eq_true rfl, Nat.le_of_ble_eq_true rfl⟩ dX3_bidsNow_24 (fun r_6 S_5 hF => ?_)
  refine j_iadd C dX3_bidsNow_27 ?_
  obtain ⟨hgd, hF⟩ := hF
  refine jmS1 C hg hgd dX3_bidsNow_28 ?_
  obtain ⟨S_7, eS_7, hF⟩ := nm_intro hF
  refine m_J eS_7 ?_
  refine j_iload_n C dX3_bidsNow_29 rfl 0 rfl ?_
  refine j_iconst (v := (-1)) C dX3_bidsNow_30 rfl ?_
  obtain ⟨K_8, hK_8, hF⟩ := jn_intro (M := fun (K : MS → Prop) => ∀ (S_9 : MS), K S_9 → J G p l e ({ frames := 4, cells := 0, slots := 0, locals := 91 } : Room) s m args below meth c 4 Q 0 0 (MH G.2.2.1 h g S_9) 54 [(0, .ref (g 0)), (1, .int x1), (2, .int r_2), (3, .int r_4)] []) (hk := by
      intro S_9 hF
      refine j_aload_n C dX3_bidsNow_54 rfl 0 rfl ?_
      refine jmG1 C dX3_bidsNow_55 ?_
      refine j_bipush (v := 84) C dX3_bidsNow_58 rfl ?_
      refine j_iload_n C dX3_bidsNow_60 rfl 1 rfl ?_
      refine j_iadd C dX3_bidsNow_61 ?_
      refine j_iload_n C dX3_bidsNow_62 rfl 2 rfl ?_
      obtain ⟨hgd, hF⟩ := hF
      refine jmS1 C hg hgd dX3_bidsNow_63 ?_
      obtain ⟨S_10, eS_10, hF⟩ := nm_intro hF
      refine m_J eS_10 ?_
      refine j_aload_n C dX3_bidsNow_64 rfl 0 rfl ?_
      refine jmG1 C dX3_bidsNow_65 ?_
      refine j_iconst (v := 3) C dX3_bidsNow_68 rfl ?_
      refine j_dup2 C dX3_bidsNow_69 rfl rfl ?_
      obtain ⟨hgd, hF⟩ := hF
      refine jmL1 C hg hgd dX3_bidsNow_70 ?_
      refine j_iconst (v := 1) C dX3_bidsNow_71 rfl ?_
      refine j_iadd C dX3_bidsNow_72 ?_
      obtain ⟨hgd, hF⟩ := hF
      refine jmS1 C hg hgd dX3_bidsNow_73 ?_
      obtain ⟨S_11, eS_11, hF⟩ := nm_intro hF
      refine m_J eS_11 ?_
      refine j_aload_n C dX3_bidsNow_74 rfl 0 rfl ?_
      refine jmG1 C dX3_bidsNow_75 ?_
      refine j_bipush (v := 90) C dX3_bidsNow_78 rfl ?_
      refine j_iload_n C dX3_bidsNow_80 rfl 2 rfl ?_
      refine j_iadd C dX3_bidsNow_81 ?_
      refine j_dup2 C dX3_bidsNow_82 rfl rfl ?_
      obtain ⟨hgd, hF⟩ := hF
      refine jmL1 C hg hgd dX3_bidsNow_83 ?_
      refine j_iconst (v := 1) C dX3_bidsNow_84 rfl ?_
      refine j_iadd C dX3_bidsNow_85 ?_
      obtain ⟨hgd, hF⟩ := hF
      refine jmS1 C hg hgd dX3_bidsNow_86 ?_
      obtain ⟨S_12, eS_12, hF⟩ := nm_intro hF
      refine m_J eS_12 ?_
      refine j_iload_n C dX3_bidsNow_87 rfl 3 rfl ?_
      rw [hQ]
      exact j_iret C rfl ⟨_, _, rfl, rfl, hF⟩ dX3_bidsNow_88) hF
  refine j_icmp_eq (tgt := 54) C dX3_bidsNow_31 (by decide) (fun hc_13 => ?_) (fun hc_13 => ?_)
  · replace hF := hF.1 hc_13
    exact J.locals [2, 3, 1, 0] (hK_8 _ hF) rfl
  · replace hF := hF.2 hc_13
    refine j_aload_n C dX3_bidsNow_34 rfl 2 rfl ?_
    refine jmG1 C dX3_bidsNow_35 ?_
    refine j_bipush (v := 84) C dX3_bidsNow_38 rfl ?_
    refine j_iload_n C dX3_bidsNow_40 rfl 0 rfl ?_
    refine j_iadd C dX3_bidsNow_41 ?_
    refine j_iconst (v := (-1)) C dX3_bidsNow_42 rfl ?_
    obtain ⟨hgd, hF⟩ := hF
    refine jmS1 C hg hgd dX3_bidsNow_43 ?_
    obtain ⟨S_14, eS_14, hF⟩ := nm_intro hF
    refine m_J eS_14 ?_
    refine j_aload_n C dX3_bidsNow_44 rfl 2 rfl ?_
    refine jmG1 C dX3_bidsNow_45 ?_
    refine j_iconst (v := 4) C dX3_bidsNow_48 rfl ?_
    refine j_dup2 C dX3_bidsNow_49 rfl rfl ?_
    obtain ⟨hgd, hF⟩ := hF
    refine jmL1 C hg hgd dX3_bidsNow_50 ?_
    refine j_iconst (v := 1) C dX3_bidsNow_51 rfl ?_
    refine j_iadd C dX3_bidsNow_52 ?_
    obtain ⟨hgd, hF⟩ := hF
    refine jmS1 C hg hgd dX3_bidsNow_53 ?_
    obtain ⟨S_15, eS_15, hF⟩ := nm_intro hF
    refine m_J eS_15 ?_
    exact J.locals [2, 3, 1, 0] (hK_8 _ hF) rfl
theorem cal_mbidsOnce : CalV yX3_bidsOnce RX3 cX3_bidsOnce 4 (some .boolean) 0 := ⟨q2025, qs54, q101, q2026, by decide +kernel⟩
def F_mbidsOnce (S : MS) (P : Int32 → MS → Prop) : Prop := F_mfirstFree S (fun r_2 S_1 => jn (α := MS → Int32 → Prop) (fun S_4 t_5 => (vp_in 0 1152) ∧ (F_mrefuses S_4 t_5 5 (S_4 1 (Int32.toNatClampNeg (0))) (fun r_7 S_6 => (r_7 = 0 → F_mwhyNot S_6 r_2 (fun r_10 S_9 => jn (α := MS → Int32 → Prop) (fun S_12 t_13 => F_mrefuses S_12 t_13 6 r_2 (fun r_15 S_14 => (r_15 = 0 → jn (α := MS → Prop) (fun S_18 => F_mbidsNow S_18 r_2 (fun r_20 S_19 => (vp_in (84 + r_2) 1152) ∧ (nm (sput S_19 0 4 (S_19 1 (Int32.toNatClampNeg (84 + r_2)))) (fun S_21 => (r_20 = r_2 → P 0 S_21) ∧ (¬ r_20 = r_2 → P 1 S_21))))) (fun K_17 => (r_10 = 7 → F_mlikes S_14 r_2 (fun r_25 S_24 => (vp_in (78 + r_25) 1152) ∧ (F_mrefuses S_24 1 7 (S_24 1 (Int32.toNatClampNeg (78 + r_25))) (fun r_27 S_26 => (r_27 = 0 → K_17 S_26) ∧ (¬ r_27 = 0 → P 0 S_26))))) ∧ (¬ r_10 = 7 → K_17 S_14))) ∧ (¬ r_15 = 0 → P 0 S_14))) (fun K_11 => (r_10 = 6 → K_11 S_9 1) ∧ (¬ r_10 = 6 → K_11 S_9 0)))) ∧ (¬ r_7 = 0 → P 0 S_6)))) (fun K_3 => (r_2 = (-1) → K_3 S_1 1) ∧ (¬ r_2 = (-1) → K_3 S_1 0)))
set_option maxHeartbeats 4000000 in
theorem M_mbidsOnce (G : GT) (l : Launch) (hG : GOK G) (h : AH) (g : Nat → Nat) (hg : Mg G g) (S : MS) (P : Int32 → MS → Prop) (hF : F_mbidsOnce S P) : MMi G l yX3_bidsOnce cX3_bidsOnce 4 .boolean 5 114 [.ref (g 0)] h g S P := by
  refine MT.mk (own := RX3) (by decide) rfl hG (Nat.le_of_ble_eq_true rfl) ?_
  intro p e s m below meth c args Q hargs hQ C _
  refine J.loca (L2 := [(0, .ref (g 0))]) rfl ?_
  unfold F_mbidsOnce at hF
  refine j_aload_n C dX3_bidsOnce_0 rfl 0 rfl ?_
  refine jm_calli (As := []) (rest := []) C (M_mfirstFree G l hG h g hg S _ hF) q2027 cal_mfirstFree rfl rfl (Nat.le_of_ble_eq_true rfl) ⟨Nat.le_of_ble_eq_true rfl, Nat.le_of_ble_eq_true rfl⟩ dX3_bidsOnce_1 (fun r_2 S_1 hF => ?_)
  refine j_istore_n (L2 := [(1, .int r_2), (0, .ref (g 0))]) C dX3_bidsOnce_4 rfl (by decide) rfl ?_
  refine j_aload_n C dX3_bidsOnce_5 rfl 1 rfl ?_
  refine j_iload_n C dX3_bidsOnce_6 rfl 0 rfl ?_
  refine j_iconst (v := (-1)) C dX3_bidsOnce_7 rfl ?_
  obtain ⟨K_3, hK_3, hF⟩ := jn_intro (M := fun (K : MS → Int32 → Prop) => ∀ (S_4 : MS) (t_5 : Int32), K S_4 t_5 → J G p l e ({ frames := 5, cells := 0, slots := 0, locals := 114 } : Room) s m args below meth c 4 Q 0 0 (MH G.2.2.1 h g S_4) 16 [(0, .ref (g 0)), (1, .int r_2)] [.int t_5, .ref (g 0)]) (hk := by
      intro S_4 t_5 hF
      refine j_iconst (v := 5) C dX3_bidsOnce_16 rfl ?_
      refine j_aload_n C dX3_bidsOnce_17 rfl 0 rfl ?_
      refine jmG1 C dX3_bidsOnce_18 ?_
      refine j_iconst (v := 0) C dX3_bidsOnce_21 rfl ?_
      obtain ⟨hgd, hF⟩ := hF
      refine jmL1 C hg hgd dX3_bidsOnce_22 ?_
      refine jm_calli (As := [.int t_5, .int 5, .int (S_4 1 (Int32.toNatClampNeg (0)))]) (rest := []) C (M_mrefuses G l hG h g hg S_4 t_5 5 (S_4 1 (Int32.toNatClampNeg (0))) _ hF) q1964 cal_mrefuses rfl rfl (Nat.le_of_ble_eq_true rfl) ⟨Nat.le_of_ble_eq_true rfl, Nat.le_of_ble_eq_true rfl⟩ dX3_bidsOnce_23 (fun r_7 S_6 hF => ?_)
      refine j_if_eq (tgt := 31) C dX3_bidsOnce_26 (by decide) (fun hc_8 => ?_) (fun hc_8 => ?_)
      · replace hF := hF.1 hc_8
        refine j_aload_n C dX3_bidsOnce_31 rfl 0 rfl ?_
        refine j_iload_n C dX3_bidsOnce_32 rfl 1 rfl ?_
        refine jm_calli (As := [.int r_2]) (rest := []) C (M_mwhyNot G l hG h g hg S_6 r_2 _ hF) q2031 cal_mwhyNot rfl rfl (Nat.le_of_ble_eq_true rfl) ⟨Nat.le_of_ble_eq_true rfl, Nat.le_of_ble_eq_true rfl⟩ dX3_bidsOnce_33 (fun r_10 S_9 hF => ?_)
        refine j_istore_n (L2 := [(2, .int r_10), (0, .ref (g 0)), (1, .int r_2)]) C dX3_bidsOnce_36 rfl (by decide) rfl ?_
        refine j_aload_n C dX3_bidsOnce_37 rfl 1 rfl ?_
        refine j_iload_n C dX3_bidsOnce_38 rfl 0 rfl ?_
        refine j_bipush (v := 6) C dX3_bidsOnce_39 rfl ?_
        obtain ⟨K_11, hK_11, hF⟩ := jn_intro (M := fun (K : MS → Int32 → Prop) => ∀ (S_12 : MS) (t_13 : Int32), K S_12 t_13 → J G p l e ({ frames := 5, cells := 0, slots := 0, locals := 114 } : Room) s m args below meth c 4 Q 0 0 (MH G.2.2.1 h g S_12) 49 [(0, .ref (g 0)), (1, .int r_2), (2, .int r_10)] [.int t_13, .ref (g 0)]) (hk := by
            intro S_12 t_13 hF
            refine j_bipush (v := 6) C dX3_bidsOnce_49 rfl ?_
            refine j_iload_n C dX3_bidsOnce_51 rfl 1 rfl ?_
            refine jm_calli (As := [.int t_13, .int 6, .int r_2]) (rest := []) C (M_mrefuses G l hG h g hg S_12 t_13 6 r_2 _ hF) q1964 cal_mrefuses rfl rfl (Nat.le_of_ble_eq_true rfl) ⟨Nat.le_of_ble_eq_true rfl, Nat.le_of_ble_eq_true rfl⟩ dX3_bidsOnce_52 (fun r_15 S_14 hF => ?_)
            refine j_if_ne (tgt := 87) C dX3_bidsOnce_55 (by decide) (fun hc_16 => ?_) (fun hc_16 => ?_)
            · replace hF := hF.2 hc_16
              refine j_iconst (v := 0) C dX3_bidsOnce_87 rfl ?_
              rw [hQ]
              exact j_iret C rfl ⟨_, _, rfl, rfl, hF⟩ dX3_bidsOnce_88
            · replace hF := hF.1 hc_16
              refine j_iload_n C dX3_bidsOnce_58 rfl 2 rfl ?_
              refine j_bipush (v := 7) C dX3_bidsOnce_59 rfl ?_
              obtain ⟨K_17, hK_17, hF⟩ := jn_intro (M := fun (K : MS → Prop) => ∀ (S_18 : MS), K S_18 → J G p l e ({ frames := 5, cells := 0, slots := 0, locals := 114 } : Room) s m args below meth c 4 Q 0 0 (MH G.2.2.1 h g S_18) 89 [(0, .ref (g 0)), (1, .int r_2)] []) (hk := by
                  intro S_18 hF
                  refine j_aload_n C dX3_bidsOnce_89 rfl 0 rfl ?_
                  refine j_iload_n C dX3_bidsOnce_90 rfl 1 rfl ?_
                  refine jm_calli (As := [.int r_2]) (rest := []) C (M_mbidsNow G l hG h g hg S_18 r_2 _ hF) q2048 cal_mbidsNow rfl rfl (Nat.le_of_ble_eq_true rfl) ⟨Nat.le_of_ble_eq_true rfl, Nat.le_of_ble_eq_true rfl⟩ dX3_bidsOnce_91 (fun r_20 S_19 hF => ?_)
                  refine j_istore_n (L2 := [(3, .int r_20), (0, .ref (g 0)), (1, .int r_2)]) C dX3_bidsOnce_94 rfl (by decide) rfl ?_
                  refine j_aload_n C dX3_bidsOnce_95 rfl 1 rfl ?_
                  refine j_aload_n C dX3_bidsOnce_96 rfl 1 rfl ?_
                  refine jmG1 C dX3_bidsOnce_97 ?_
                  refine j_bipush (v := 84) C dX3_bidsOnce_100 rfl ?_
                  refine j_iload_n C dX3_bidsOnce_102 rfl 2 rfl ?_
                  refine j_iadd C dX3_bidsOnce_103 ?_
                  obtain ⟨hgd, hF⟩ := hF
                  refine jmL1 C hg hgd dX3_bidsOnce_104 ?_
                  refine jmP4 C hg dX3_bidsOnce_105 ?_
                  obtain ⟨S_21, eS_21, hF⟩ := nm_intro hF
                  refine m_J eS_21 ?_
                  refine j_iload_n C dX3_bidsOnce_108 rfl 0 rfl ?_
                  refine j_iload_n C dX3_bidsOnce_109 rfl 2 rfl ?_
                  refine j_icmp_eq (tgt := 117) C dX3_bidsOnce_110 (by decide) (fun hc_22 => ?_) (fun hc_22 => ?_)
                  · replace hF := hF.1 hc_22
                    refine j_iconst (v := 0) C dX3_bidsOnce_117 rfl ?_
                    rw [hQ]
                    exact j_iret C rfl ⟨_, _, rfl, rfl, hF⟩ dX3_bidsOnce_118
                  · replace hF := hF.2 hc_22
                    refine j_iconst (v := 1) C dX3_bidsOnce_113 rfl ?_
                    refine j_goto (tgt := 118) C dX3_bidsOnce_114 (by decide) ?_
                    rw [hQ]
                    exact j_iret C rfl ⟨_, _, rfl, rfl, hF⟩ dX3_bidsOnce_118) hF
              refine j_icmp_ne (tgt := 89) C dX3_bidsOnce_61 (by decide) (fun hc_23 => ?_) (fun hc_23 => ?_)
              · replace hF := hF.2 hc_23
                exact J.locals [0, 1] (hK_17 _ hF) rfl
              · replace hF := hF.1 hc_23
                refine j_aload_n C dX3_bidsOnce_64 rfl 0 rfl ?_
                refine j_iconst (v := 1) C dX3_bidsOnce_65 rfl ?_
                refine j_bipush (v := 7) C dX3_bidsOnce_66 rfl ?_
                refine j_aload_n C dX3_bidsOnce_68 rfl 0 rfl ?_
                refine jmG1 C dX3_bidsOnce_69 ?_
                refine j_bipush (v := 78) C dX3_bidsOnce_72 rfl ?_
                refine j_aload_n C dX3_bidsOnce_74 rfl 0 rfl ?_
                refine j_iload_n C dX3_bidsOnce_75 rfl 1 rfl ?_
                refine jm_calli (As := [.int r_2]) (rest := [.int 78, .ref (g 1), .int 7, .int 1, .ref (g 0)]) C (M_mlikes G l hG h g hg S_14 r_2 _ hF) q2035 cal_mlikes rfl rfl (Nat.le_of_ble_eq_true rfl) ⟨Nat.le_of_ble_eq_true rfl, Nat.le_of_ble_eq_true rfl⟩ dX3_bidsOnce_76 (fun r_25 S_24 hF => ?_)
                refine j_iadd C dX3_bidsOnce_79 ?_
                obtain ⟨hgd, hF⟩ := hF
                refine jmL1 C hg hgd dX3_bidsOnce_80 ?_
                refine jm_calli (As := [.int 1, .int 7, .int (S_24 1 (Int32.toNatClampNeg (78 + r_25)))]) (rest := []) C (M_mrefuses G l hG h g hg S_24 1 7 (S_24 1 (Int32.toNatClampNeg (78 + r_25))) _ hF) q1964 cal_mrefuses rfl rfl (Nat.le_of_ble_eq_true rfl) ⟨Nat.le_of_ble_eq_true rfl, Nat.le_of_ble_eq_true rfl⟩ dX3_bidsOnce_81 (fun r_27 S_26 hF => ?_)
                refine j_if_eq (tgt := 89) C dX3_bidsOnce_84 (by decide) (fun hc_28 => ?_) (fun hc_28 => ?_)
                · replace hF := hF.1 hc_28
                  exact J.locals [0, 1] (hK_17 _ hF) rfl
                · replace hF := hF.2 hc_28
                  refine j_iconst (v := 0) C dX3_bidsOnce_87 rfl ?_
                  rw [hQ]
                  exact j_iret C rfl ⟨_, _, rfl, rfl, hF⟩ dX3_bidsOnce_88) hF
        refine j_icmp_ne (tgt := 48) C dX3_bidsOnce_41 (by decide) (fun hc_29 => ?_) (fun hc_29 => ?_)
        · replace hF := hF.2 hc_29
          refine j_iconst (v := 0) C dX3_bidsOnce_48 rfl ?_
          exact J.locals [1, 2, 0] (hK_11 _ _ hF) rfl
        · replace hF := hF.1 hc_29
          refine j_iconst (v := 1) C dX3_bidsOnce_44 rfl ?_
          refine j_goto (tgt := 49) C dX3_bidsOnce_45 (by decide) ?_
          exact J.locals [1, 2, 0] (hK_11 _ _ hF) rfl
      · replace hF := hF.2 hc_8
        refine j_iconst (v := 0) C dX3_bidsOnce_29 rfl ?_
        rw [hQ]
        exact j_iret C rfl ⟨_, _, rfl, rfl, hF⟩ dX3_bidsOnce_30) hF
  refine j_icmp_ne (tgt := 15) C dX3_bidsOnce_8 (by decide) (fun hc_30 => ?_) (fun hc_30 => ?_)
  · replace hF := hF.2 hc_30
    refine j_iconst (v := 0) C dX3_bidsOnce_15 rfl ?_
    exact J.locals [1, 0] (hK_3 _ _ hF) rfl
  · replace hF := hF.1 hc_30
    refine j_iconst (v := 1) C dX3_bidsOnce_11 rfl ?_
    refine j_goto (tgt := 16) C dX3_bidsOnce_12 (by decide) ?_
    exact J.locals [1, 0] (hK_3 _ _ hF) rfl
theorem cal_mbid : CalV yX3_bid RX3 cX3_bid 1 (some .int) 0 := ⟨q2020, q2021, q101, q2022, by decide +kernel⟩
def F_mbid (S : MS) (P : Int32 → MS → Prop) : Prop := F_mbegins S (fun S_1 => F_mbidsOnce S_1 (fun r_3 S_2 => F_mends S_2 r_3 1 (fun r_5 S_4 => P r_5 S_4)))
set_option maxHeartbeats 4000000 in
theorem M_mbid (G : GT) (l : Launch) (hG : GOK G) (h : AH) (g : Nat → Nat) (hg : Mg G g) (S : MS) (P : Int32 → MS → Prop) (hF : F_mbid S P) : MMi G l yX3_bid cX3_bid 1 .int 6 137 [.ref (g 0)] h g S P := by
  refine MT.mk (own := RX3) (by decide) rfl hG (Nat.le_of_ble_eq_true rfl) ?_
  intro p e s m below meth c args Q hargs hQ C _
  refine J.loca (L2 := [(0, .ref (g 0))]) rfl ?_
  unfold F_mbid at hF
  refine j_aload_n C dX3_bid_0 rfl 0 rfl ?_
  refine jm_callv (As := []) (rest := []) C (M_mbegins G l hG h g hg S _ hF) q1952 cal_mbegins rfl rfl (Nat.le_of_ble_eq_true rfl) ⟨Nat.le_of_ble_eq_true rfl, Nat.le_of_ble_eq_true rfl⟩ dX3_bid_1 (fun S_1 hF => ?_)
  refine j_aload_n C dX3_bid_4 rfl 0 rfl ?_
  refine j_aload_n C dX3_bid_5 rfl 0 rfl ?_
  refine jm_calli (As := []) (rest := [.ref (g 0)]) C (M_mbidsOnce G l hG h g hg S_1 _ hF) q2023 cal_mbidsOnce rfl rfl (Nat.le_of_ble_eq_true rfl) ⟨Nat.le_of_ble_eq_true rfl, Nat.le_of_ble_eq_true rfl⟩ dX3_bid_6 (fun r_3 S_2 hF => ?_)
  refine j_iconst (v := 1) C dX3_bid_9 rfl ?_
  refine jm_calli (As := [.int r_3, .int 1]) (rest := []) C (M_mends G l hG h g hg S_2 r_3 1 _ hF) q1972 cal_mends rfl rfl (Nat.le_of_ble_eq_true rfl) ⟨Nat.le_of_ble_eq_true rfl, Nat.le_of_ble_eq_true rfl⟩ dX3_bid_10 (fun r_5 S_4 hF => ?_)
  rw [hQ]
  exact j_iret C rfl ⟨_, _, rfl, rfl, hF⟩ dX3_bid_13
theorem cal_mbidsAll : CalV yX3_bidsAll RX3 cX3_bidsAll 4 (some .int) 0 := ⟨q2094, qs70, q101, q2095, by decide +kernel⟩
def L_mbidsAll_12 (P : Int32 → MS → Prop) : Nat → MS → Int32 → Int32 → Prop
  | 0, _, _, _ => False
  | n + 1, S, z1, z2 => (z2 = (-1) → P z1 S) ∧ (¬ z2 = (-1) → F_mbidsNow S z2 (fun r_6 S_5 => F_mfirstFree S_5 (fun r_8 S_7 => L_mbidsAll_12 P n S_7 (z1 + 1) r_8)))
def F_mbidsAll (S : MS) (P : Int32 → MS → Prop) : Prop := F_mallFree S 1 (fun S_1 => F_mfirstFree S_1 (fun r_3 S_2 => L_mbidsAll_12  P NF S_2 0 r_3))
set_option maxHeartbeats 4000000 in
theorem WL_mbidsAll_12 {G : GT} {p : Program} {l : Launch} {e : Env} {s : State} {m : MethodId} {args : Array Value} {below : List Frame} {meth : Method} {c : Code} {h : AH} {g : Nat → Nat} {Q : State → Prop} (C : Cx G p s m args meth c cX3_bidsAll RX3 4 (some .int)) (hG : GOK G) (hg : Mg G g) {P : Int32 → MS → Prop} (hQ : Q = MQ below (SQ G (fun v h' => ∃ (r : Int32) (S' : MS), v = some (.int r) ∧ h' = (MH G.2.2.1 h g S') ∧ P r S')) args s (({ frames := 5, cells := 0, slots := 0, locals := 114 } : Room) : Room).cells (({ frames := 5, cells := 0, slots := 0, locals := 114 } : Room) : Room).slots (fun q => G.1 ≤ q)) :
    ∀ (n : Nat) (S : MS) (z1 : Int32) (z2 : Int32), L_mbidsAll_12 P n S z1 z2 → J G p l e ({ frames := 5, cells := 0, slots := 0, locals := 114 } : Room) s m args below meth c 4 Q 0 0 (MH G.2.2.1 h g S) 12 [(0, .ref (g 0)), (1, .int z1), (2, .int z2)] [] := by
  intro n
  induction n with
  | zero => intro S z1 z2 hF; exact hF.elim
  | succ n ih =>
    intro S z1 z2 hF
    unfold L_mbidsAll_12 at hF
    refine j_iload_n C dX3_bidsAll_12 rfl 2 rfl ?_
    refine j_iconst (v := (-1)) C dX3_bidsAll_13 rfl ?_
    refine j_icmp_eq (tgt := 34) C dX3_bidsAll_14 (by decide) (fun hc_4 => ?_) (fun hc_4 => ?_)
    · replace hF := hF.1 hc_4
      refine j_iload_n C dX3_bidsAll_34 rfl 1 rfl ?_
      rw [hQ]
      exact j_iret C rfl ⟨_, _, rfl, rfl, hF⟩ dX3_bidsAll_35
    · replace hF := hF.2 hc_4
      refine j_aload_n C dX3_bidsAll_17 rfl 0 rfl ?_
      refine j_iload_n C dX3_bidsAll_18 rfl 2 rfl ?_
      refine jm_calli (As := [.int z2]) (rest := []) C (M_mbidsNow G l hG h g hg S z2 _ hF) q2048 cal_mbidsNow rfl rfl (Nat.le_of_ble_eq_true rfl) ⟨Nat.le_of_ble_eq_true rfl, Nat.le_of_ble_eq_true rfl⟩ dX3_bidsAll_19 (fun r_6 S_5 hF => ?_)
      refine j_istore_n (L2 := [(3, .int r_6), (0, .ref (g 0)), (1, .int z1), (2, .int z2)]) C dX3_bidsAll_22 rfl (by decide) rfl ?_
      refine j_iinc (q := 2) (v := z1 + 1) (L2 := [(1, .int (z1 + 1)), (3, .int r_6), (0, .ref (g 0)), (2, .int z2)]) C dX3_bidsAll_23 rfl rfl (by decide) rfl ?_
      refine j_aload_n C dX3_bidsAll_26 rfl 2 rfl ?_
      refine jm_calli (As := []) (rest := []) C (M_mfirstFree G l hG h g hg S_5 _ hF) q2027 cal_mfirstFree rfl rfl (Nat.le_of_ble_eq_true rfl) ⟨Nat.le_of_ble_eq_true rfl, Nat.le_of_ble_eq_true rfl⟩ dX3_bidsAll_27 (fun r_8 S_7 hF => ?_)
      refine j_istore_n (L2 := [(2, .int r_8), (1, .int (z1 + 1)), (3, .int r_6), (0, .ref (g 0))]) C dX3_bidsAll_30 rfl (by decide) rfl ?_
      refine j_goto (tgt := 12) C dX3_bidsAll_31 (by decide) ?_
      exact J.locals [3, 1, 0] (ih _ _ _ hF) rfl
set_option maxHeartbeats 4000000 in
theorem M_mbidsAll (G : GT) (l : Launch) (hG : GOK G) (h : AH) (g : Nat → Nat) (hg : Mg G g) (S : MS) (P : Int32 → MS → Prop) (hF : F_mbidsAll S P) : MMi G l yX3_bidsAll cX3_bidsAll 4 .int 5 114 [.ref (g 0)] h g S P := by
  refine MT.mk (own := RX3) (by decide) rfl hG (Nat.le_of_ble_eq_true rfl) ?_
  intro p e s m below meth c args Q hargs hQ C _
  refine J.loca (L2 := [(0, .ref (g 0))]) rfl ?_
  unfold F_mbidsAll at hF
  refine j_aload_n C dX3_bidsAll_0 rfl 0 rfl ?_
  refine j_iconst (v := 1) C dX3_bidsAll_1 rfl ?_
  refine jm_callv (As := [.int 1]) (rest := []) C (M_mallFree G l hG h g hg S 1 _ hF) q1968 cal_mallFree rfl rfl (Nat.le_of_ble_eq_true rfl) ⟨Nat.le_of_ble_eq_true rfl, Nat.le_of_ble_eq_true rfl⟩ dX3_bidsAll_2 (fun S_1 hF => ?_)
  refine j_iconst (v := 0) C dX3_bidsAll_5 rfl ?_
  refine j_istore_n (L2 := [(1, .int 0), (0, .ref (g 0))]) C dX3_bidsAll_6 rfl (by decide) rfl ?_
  refine j_aload_n C dX3_bidsAll_7 rfl 1 rfl ?_
  refine jm_calli (As := []) (rest := []) C (M_mfirstFree G l hG h g hg S_1 _ hF) q2027 cal_mfirstFree rfl rfl (Nat.le_of_ble_eq_true rfl) ⟨Nat.le_of_ble_eq_true rfl, Nat.le_of_ble_eq_true rfl⟩ dX3_bidsAll_8 (fun r_3 S_2 hF => ?_)
  refine j_istore_n (L2 := [(2, .int r_3), (1, .int 0), (0, .ref (g 0))]) C dX3_bidsAll_11 rfl (by decide) rfl ?_
  refine J.locals [2, 1, 0] (WL_mbidsAll_12 C hG hg hQ NF _ _ _ hF) rfl
theorem cal_mburden : CalV yX3_burden RX3 cX3_burden 3 (some .int) 2 := ⟨q2125, q2126, q101, q2127, by decide +kernel⟩
def F_mburden (S : MS) (x1 : Int32) (x2 : Int32) (P : Int32 → MS → Prop) : Prop := F_misApprentice S x1 (fun r_2 S_1 => jn (α := MS → Int32 → Prop) (fun S_4 t_5 => nm (sput S_4 0 0 t_5) (fun S_6 => ((S_6 0 0) = 0 → F_mheavy S_6 x1 x2 (fun r_9 S_8 => P r_9 S_8)) ∧ (¬ (S_6 0 0) = 0 → P 0 S_6))) (fun K_3 => jn (α := MS → Prop) (fun S_11 => K_3 S_11 1) (fun K_10 => (r_2 = 0 → K_10 S_1) ∧ (¬ r_2 = 0 → F_misMaster S_1 x2 (fun r_14 S_13 => (r_14 = 0 → K_10 S_13) ∧ (¬ r_14 = 0 → F_misBarred S_13 x1 x2 (fun r_17 S_16 => (r_17 = 0 → K_3 S_16 0) ∧ (¬ r_17 = 0 → K_3 S_16 2))))))))
set_option maxHeartbeats 4000000 in
theorem M_mburden (G : GT) (l : Launch) (hG : GOK G) (h : AH) (g : Nat → Nat) (hg : Mg G g) (S : MS) (x1 : Int32) (x2 : Int32) (P : Int32 → MS → Prop) (hF : F_mburden S x1 x2 P) : MMi G l yX3_burden cX3_burden 3 .int 2 44 [.ref (g 0), .int x1, .int x2] h g S P := by
  refine MT.mk (own := RX3) (by decide) rfl hG (Nat.le_of_ble_eq_true rfl) ?_
  intro p e s m below meth c args Q hargs hQ C _
  refine J.loca (L2 := [(0, .ref (g 0)), (1, .int x1), (2, .int x2)]) rfl ?_
  unfold F_mburden at hF
  refine j_aload_n C dX3_burden_0 rfl 0 rfl ?_
  refine j_aload_n C dX3_burden_1 rfl 0 rfl ?_
  refine j_iload_n C dX3_burden_2 rfl 1 rfl ?_
  refine jm_calli (As := [.int x1]) (rest := [.ref (g 0)]) C (M_misApprentice G l hG h g hg S x1 _ hF) q1992 cal_misApprentice rfl rfl (Nat.le_of_ble_eq_true rfl) ⟨Nat.le_of_ble_eq_true rfl, Nat.le_of_ble_eq_true rfl⟩ dX3_burden_3 (fun r_2 S_1 hF => ?_)
  obtain ⟨K_3, hK_3, hF⟩ := jn_intro (M := fun (K : MS → Int32 → Prop) => ∀ (S_4 : MS) (t_5 : Int32), K S_4 t_5 → J G p l e ({ frames := 2, cells := 0, slots := 0, locals := 44 } : Room) s m args below meth c 3 Q 0 0 (MH G.2.2.1 h g S_4) 35 [(0, .ref (g 0)), (1, .int x1), (2, .int x2)] [.int t_5, .ref (g 0)]) (hk := by
      intro S_4 t_5 hF
      refine jmP0 C hg dX3_burden_35 ?_
      obtain ⟨S_6, eS_6, hF⟩ := nm_intro hF
      refine m_J eS_6 ?_
      refine j_aload_n C dX3_burden_38 rfl 0 rfl ?_
      refine jmG0 C dX3_burden_39 ?_
      refine j_if_ne (tgt := 54) C dX3_burden_42 (by decide) (fun hc_7 => ?_) (fun hc_7 => ?_)
      · replace hF := hF.2 hc_7
        refine j_iconst (v := 0) C dX3_burden_54 rfl ?_
        rw [hQ]
        exact j_iret C rfl ⟨_, _, rfl, rfl, hF⟩ dX3_burden_55
      · replace hF := hF.1 hc_7
        refine j_aload_n C dX3_burden_45 rfl 0 rfl ?_
        refine j_iload_n C dX3_burden_46 rfl 1 rfl ?_
        refine j_iload_n C dX3_burden_47 rfl 2 rfl ?_
        refine jm_calli (As := [.int x1, .int x2]) (rest := []) C (M_mheavy G l hG h g hg S_6 x1 x2 _ hF) q2039 cal_mheavy rfl rfl (Nat.le_of_ble_eq_true rfl) ⟨Nat.le_of_ble_eq_true rfl, Nat.le_of_ble_eq_true rfl⟩ dX3_burden_48 (fun r_9 S_8 hF => ?_)
        refine j_goto (tgt := 55) C dX3_burden_51 (by decide) ?_
        rw [hQ]
        exact j_iret C rfl ⟨_, _, rfl, rfl, hF⟩ dX3_burden_55) hF
  obtain ⟨K_10, hK_10, hF⟩ := jn_intro (M := fun (K : MS → Prop) => ∀ (S_11 : MS), K S_11 → J G p l e ({ frames := 2, cells := 0, slots := 0, locals := 44 } : Room) s m args below meth c 3 Q 0 0 (MH G.2.2.1 h g S_11) 17 [(0, .ref (g 0)), (1, .int x1), (2, .int x2)] [.ref (g 0)]) (hk := by
      intro S_11 hF
      refine j_iconst (v := 1) C dX3_burden_17 rfl ?_
      refine j_goto (tgt := 35) C dX3_burden_18 (by decide) ?_
      exact J.locals [0, 1, 2] (hK_3 _ _ hF) rfl) hF
  refine j_if_eq (tgt := 17) C dX3_burden_6 (by decide) (fun hc_12 => ?_) (fun hc_12 => ?_)
  · replace hF := hF.1 hc_12
    exact J.locals [0, 1, 2] (hK_10 _ hF) rfl
  · replace hF := hF.2 hc_12
    refine j_aload_n C dX3_burden_9 rfl 0 rfl ?_
    refine j_iload_n C dX3_burden_10 rfl 2 rfl ?_
    refine jm_calli (As := [.int x2]) (rest := [.ref (g 0)]) C (M_misMaster G l hG h g hg S_1 x2 _ hF) q1999 cal_misMaster rfl rfl (Nat.le_of_ble_eq_true rfl) ⟨Nat.le_of_ble_eq_true rfl, Nat.le_of_ble_eq_true rfl⟩ dX3_burden_11 (fun r_14 S_13 hF => ?_)
    refine j_if_ne (tgt := 21) C dX3_burden_14 (by decide) (fun hc_15 => ?_) (fun hc_15 => ?_)
    · replace hF := hF.2 hc_15
      refine j_aload_n C dX3_burden_21 rfl 0 rfl ?_
      refine j_iload_n C dX3_burden_22 rfl 1 rfl ?_
      refine j_iload_n C dX3_burden_23 rfl 2 rfl ?_
      refine jm_calli (As := [.int x1, .int x2]) (rest := [.ref (g 0)]) C (M_misBarred G l hG h g hg S_13 x1 x2 _ hF) q2015 cal_misBarred rfl rfl (Nat.le_of_ble_eq_true rfl) ⟨Nat.le_of_ble_eq_true rfl, Nat.le_of_ble_eq_true rfl⟩ dX3_burden_24 (fun r_17 S_16 hF => ?_)
      refine j_if_eq (tgt := 34) C dX3_burden_27 (by decide) (fun hc_18 => ?_) (fun hc_18 => ?_)
      · replace hF := hF.1 hc_18
        refine j_iconst (v := 0) C dX3_burden_34 rfl ?_
        exact J.locals [0, 1, 2] (hK_3 _ _ hF) rfl
      · replace hF := hF.2 hc_18
        refine j_iconst (v := 2) C dX3_burden_30 rfl ?_
        refine j_goto (tgt := 35) C dX3_burden_31 (by decide) ?_
        exact J.locals [0, 1, 2] (hK_3 _ _ hF) rfl
    · replace hF := hF.1 hc_15
      exact J.locals [0, 1, 2] (hK_10 _ hF) rfl
theorem cal_mchain : CalV yX3_chain RX3 cX3_chain 6 (some .int) 1 := ⟨q2182, q2183, q101, q2184, by decide +kernel⟩
def L_mchain_30 (K81 : MS → Int32 → Int32 → Prop) (P : Int32 → MS → Prop) (f1 : Int32) : Nat → MS → Int32 → Int32 → Int32 → Int32 → Prop
  | 0, _, _, _, _, _ => False
  | n + 1, S, z2, z3, z4, z5 => (z2 = (-1) → K81 S z4 z5) ∧ (¬ z2 = (-1) → (z4 = 0 → jn (α := MS → Int32 → Prop) (fun S_10 t_11 => F_mwhyNot S_10 z2 (fun r_13 S_12 => (r_13 = 0 → F_mbidsNow S_12 z2 (fun r_16 S_15 => L_mchain_30 K81 P f1 n S_15 r_16 (z3 + 1) r_13 t_11)) ∧ (¬ r_13 = 0 → L_mchain_30 K81 P f1 n S_12 z2 (z3 + 1) r_13 t_11))) (fun K_9 => (z3 = f1 → K_9 S z2) ∧ (¬ z3 = f1 → K_9 S z5))) ∧ (¬ z4 = 0 → K81 S z4 z5))
def F_mchain (S : MS) (x1 : Int32) (P : Int32 → MS → Prop) : Prop := F_mcopies S 0 11 (fun S_1 => F_mfirstFree S_1 (fun r_3 S_2 => jn (α := MS → Int32 → Prop) (fun S_5 t_6 => L_mchain_30 (fun S_18 w4_19 w5_20 => F_mcopies S_18 11 0 (fun S_21 => jn (α := MS → Int32 → Prop) (fun S_23 t_24 => F_misThere S_23 t_24 (fun r_26 S_25 => (r_26 = 0 → P 0 S_25) ∧ (¬ r_26 = 0 → P w5_20 S_25))) (fun K_22 => jn (α := MS → Prop) (fun S_29 => K_22 S_29 0) (fun K_28 => (w4_19 = 0 → (w5_20 = (-1) → K_28 S_21) ∧ (¬ w5_20 = (-1) → K_22 S_21 1)) ∧ (¬ w4_19 = 0 → K_28 S_21))))) P x1 NF S_5 r_3 0 t_6 (-1)) (fun K_4 => (r_3 = (-1) → K_4 S_2 6) ∧ (¬ r_3 = (-1) → K_4 S_2 0))))
set_option maxHeartbeats 4000000 in
theorem WL_mchain_30 {G : GT} {p : Program} {l : Launch} {e : Env} {s : State} {m : MethodId} {args : Array Value} {below : List Frame} {meth : Method} {c : Code} {h : AH} {g : Nat → Nat} {Q : State → Prop} (C : Cx G p s m args meth c cX3_chain RX3 6 (some .int)) (hG : GOK G) (hg : Mg G g) {P : Int32 → MS → Prop} (hQ : Q = MQ below (SQ G (fun v h' => ∃ (r : Int32) (S' : MS), v = some (.int r) ∧ h' = (MH G.2.2.1 h g S') ∧ P r S')) args s (({ frames := 5, cells := 0, slots := 0, locals := 114 } : Room) : Room).cells (({ frames := 5, cells := 0, slots := 0, locals := 114 } : Room) : Room).slots (fun q => G.1 ≤ q)) {K81 : MS → Int32 → Int32 → Prop} {f1 : Int32} (hK81 : ∀ (S0 : MS) (w4 : Int32) (w5 : Int32), K81 S0 w4 w5 → J G p l e ({ frames := 5, cells := 0, slots := 0, locals := 114 } : Room) s m args below meth c 6 Q 0 0 (MH G.2.2.1 h g S0) 81 [(0, .ref (g 0)), (4, .int w4), (5, .int w5)] []) :
    ∀ (n : Nat) (S : MS) (z2 : Int32) (z3 : Int32) (z4 : Int32) (z5 : Int32), L_mchain_30 K81 P f1 n S z2 z3 z4 z5 → J G p l e ({ frames := 5, cells := 0, slots := 0, locals := 114 } : Room) s m args below meth c 6 Q 0 0 (MH G.2.2.1 h g S) 30 [(0, .ref (g 0)), (1, .int f1), (2, .int z2), (3, .int z3), (4, .int z4), (5, .int z5)] [] := by
  intro n
  induction n with
  | zero => intro S z2 z3 z4 z5 hF; exact hF.elim
  | succ n ih =>
    intro S z2 z3 z4 z5 hF
    unfold L_mchain_30 at hF
    refine j_iload_n C dX3_chain_30 rfl 2 rfl ?_
    refine j_iconst (v := (-1)) C dX3_chain_31 rfl ?_
    refine j_icmp_eq (tgt := 81) C dX3_chain_32 (by decide) (fun hc_7 => ?_) (fun hc_7 => ?_)
    · replace hF := hF.1 hc_7
      exact J.locals [0, 4, 5] (hK81 _ _ _ hF) rfl
    · replace hF := hF.2 hc_7
      refine j_iload C dX3_chain_35 4 rfl ?_
      refine j_if_ne (tgt := 81) C dX3_chain_37 (by decide) (fun hc_8 => ?_) (fun hc_8 => ?_)
      · replace hF := hF.2 hc_8
        exact J.locals [0, 4, 5] (hK81 _ _ _ hF) rfl
      · replace hF := hF.1 hc_8
        refine j_iload_n C dX3_chain_40 rfl 3 rfl ?_
        refine j_iload_n C dX3_chain_41 rfl 1 rfl ?_
        obtain ⟨K_9, hK_9, hF⟩ := jn_intro (M := fun (K : MS → Int32 → Prop) => ∀ (S_10 : MS) (t_11 : Int32), K S_10 t_11 → J G p l e ({ frames := 5, cells := 0, slots := 0, locals := 114 } : Room) s m args below meth c 6 Q 0 0 (MH G.2.2.1 h g S_10) 51 [(0, .ref (g 0)), (1, .int f1), (2, .int z2), (3, .int z3)] [.int t_11]) (hk := by
            intro S_10 t_11 hF
            refine j_istore (L2 := [(5, .int t_11), (0, .ref (g 0)), (1, .int f1), (2, .int z2), (3, .int z3)]) C dX3_chain_51 (by decide) rfl ?_
            refine j_aload_n C dX3_chain_53 rfl 1 rfl ?_
            refine j_iload_n C dX3_chain_54 rfl 3 rfl ?_
            refine jm_calli (As := [.int z2]) (rest := []) C (M_mwhyNot G l hG h g hg S_10 z2 _ hF) q2031 cal_mwhyNot rfl rfl (Nat.le_of_ble_eq_true rfl) ⟨Nat.le_of_ble_eq_true rfl, Nat.le_of_ble_eq_true rfl⟩ dX3_chain_55 (fun r_13 S_12 hF => ?_)
            refine j_istore (L2 := [(4, .int r_13), (5, .int t_11), (0, .ref (g 0)), (1, .int f1), (2, .int z2), (3, .int z3)]) C dX3_chain_58 (by decide) rfl ?_
            refine j_iload C dX3_chain_60 0 rfl ?_
            refine j_if_ne (tgt := 73) C dX3_chain_62 (by decide) (fun hc_14 => ?_) (fun hc_14 => ?_)
            · replace hF := hF.2 hc_14
              refine j_iload_n C dX3_chain_73 rfl 4 rfl ?_
              refine j_istore_n (L2 := [(2, .int z2), (4, .int r_13), (5, .int t_11), (0, .ref (g 0)), (1, .int f1), (3, .int z3)]) C dX3_chain_74 rfl (by decide) rfl ?_
              refine j_iinc (q := 5) (v := z3 + 1) (L2 := [(3, .int (z3 + 1)), (2, .int z2), (4, .int r_13), (5, .int t_11), (0, .ref (g 0)), (1, .int f1)]) C dX3_chain_75 rfl rfl (by decide) rfl ?_
              refine j_goto (tgt := 30) C dX3_chain_78 (by decide) ?_
              exact J.locals [4, 5, 1, 0, 2, 3] (ih _ _ _ _ _ hF) rfl
            · replace hF := hF.1 hc_14
              refine j_aload_n C dX3_chain_65 rfl 2 rfl ?_
              refine j_iload_n C dX3_chain_66 rfl 4 rfl ?_
              refine jm_calli (As := [.int z2]) (rest := []) C (M_mbidsNow G l hG h g hg S_12 z2 _ hF) q2048 cal_mbidsNow rfl rfl (Nat.le_of_ble_eq_true rfl) ⟨Nat.le_of_ble_eq_true rfl, Nat.le_of_ble_eq_true rfl⟩ dX3_chain_67 (fun r_16 S_15 hF => ?_)
              refine j_goto (tgt := 74) C dX3_chain_70 (by decide) ?_
              refine j_istore_n (L2 := [(2, .int r_16), (4, .int r_13), (5, .int t_11), (0, .ref (g 0)), (1, .int f1), (3, .int z3)]) C dX3_chain_74 rfl (by decide) rfl ?_
              refine j_iinc (q := 5) (v := z3 + 1) (L2 := [(3, .int (z3 + 1)), (2, .int r_16), (4, .int r_13), (5, .int t_11), (0, .ref (g 0)), (1, .int f1)]) C dX3_chain_75 rfl rfl (by decide) rfl ?_
              refine j_goto (tgt := 30) C dX3_chain_78 (by decide) ?_
              exact J.locals [4, 5, 1, 0, 2, 3] (ih _ _ _ _ _ hF) rfl) hF
        refine j_icmp_ne (tgt := 49) C dX3_chain_42 (by decide) (fun hc_17 => ?_) (fun hc_17 => ?_)
        · replace hF := hF.2 hc_17
          refine j_iload C dX3_chain_49 5 rfl ?_
          exact J.locals [0, 1, 2, 3] (hK_9 _ _ hF) rfl
        · replace hF := hF.1 hc_17
          refine j_iload_n C dX3_chain_45 rfl 2 rfl ?_
          refine j_goto (tgt := 51) C dX3_chain_46 (by decide) ?_
          exact J.locals [0, 1, 2, 3] (hK_9 _ _ hF) rfl
set_option maxHeartbeats 4000000 in
theorem M_mchain (G : GT) (l : Launch) (hG : GOK G) (h : AH) (g : Nat → Nat) (hg : Mg G g) (S : MS) (x1 : Int32) (P : Int32 → MS → Prop) (hF : F_mchain S x1 P) : MMi G l yX3_chain cX3_chain 6 .int 5 114 [.ref (g 0), .int x1] h g S P := by
  refine MT.mk (own := RX3) (by decide) rfl hG (Nat.le_of_ble_eq_true rfl) ?_
  intro p e s m below meth c args Q hargs hQ C _
  refine J.loca (L2 := [(0, .ref (g 0)), (1, .int x1)]) rfl ?_
  unfold F_mchain at hF
  refine j_aload_n C dX3_chain_0 rfl 0 rfl ?_
  refine j_iconst (v := 0) C dX3_chain_1 rfl ?_
  refine j_bipush (v := 11) C dX3_chain_2 rfl ?_
  refine jm_callv (As := [.int 0, .int 11]) (rest := []) C (M_mcopies G l hG h g hg S 0 11 _ hF) q1956 cal_mcopies rfl rfl (Nat.le_of_ble_eq_true rfl) ⟨Nat.le_of_ble_eq_true rfl, Nat.le_of_ble_eq_true rfl⟩ dX3_chain_4 (fun S_1 hF => ?_)
  refine j_aload_n C dX3_chain_7 rfl 0 rfl ?_
  refine jm_calli (As := []) (rest := []) C (M_mfirstFree G l hG h g hg S_1 _ hF) q2027 cal_mfirstFree rfl rfl (Nat.le_of_ble_eq_true rfl) ⟨Nat.le_of_ble_eq_true rfl, Nat.le_of_ble_eq_true rfl⟩ dX3_chain_8 (fun r_3 S_2 hF => ?_)
  refine j_istore_n (L2 := [(2, .int r_3), (0, .ref (g 0)), (1, .int x1)]) C dX3_chain_11 rfl (by decide) rfl ?_
  refine j_iconst (v := 0) C dX3_chain_12 rfl ?_
  refine j_istore_n (L2 := [(3, .int 0), (2, .int r_3), (0, .ref (g 0)), (1, .int x1)]) C dX3_chain_13 rfl (by decide) rfl ?_
  refine j_iload_n C dX3_chain_14 rfl 1 rfl ?_
  refine j_iconst (v := (-1)) C dX3_chain_15 rfl ?_
  obtain ⟨K_4, hK_4, hF⟩ := jn_intro (M := fun (K : MS → Int32 → Prop) => ∀ (S_5 : MS) (t_6 : Int32), K S_5 t_6 → J G p l e ({ frames := 5, cells := 0, slots := 0, locals := 114 } : Room) s m args below meth c 6 Q 0 0 (MH G.2.2.1 h g S_5) 25 [(0, .ref (g 0)), (1, .int x1), (2, .int r_3), (3, .int 0)] [.int t_6]) (hk := by
      intro S_5 t_6 hF
      refine j_istore (L2 := [(4, .int t_6), (0, .ref (g 0)), (1, .int x1), (2, .int r_3), (3, .int 0)]) C dX3_chain_25 (by decide) rfl ?_
      refine j_iconst (v := (-1)) C dX3_chain_27 rfl ?_
      refine j_istore (L2 := [(5, .int (-1)), (4, .int t_6), (0, .ref (g 0)), (1, .int x1), (2, .int r_3), (3, .int 0)]) C dX3_chain_28 (by decide) rfl ?_
      refine J.locals [2, 3, 4, 5, 1, 0] (WL_mchain_30 C hG hg hQ ?_ NF _ _ _ _ _ hF) rfl
      · intro S_18 w4_19 w5_20 hF
        refine j_aload_n C dX3_chain_81 rfl 0 rfl ?_
        refine j_bipush (v := 11) C dX3_chain_82 rfl ?_
        refine j_iconst (v := 0) C dX3_chain_84 rfl ?_
        refine jm_callv (As := [.int 11, .int 0]) (rest := []) C (M_mcopies G l hG h g hg S_18 11 0 _ hF) q1956 cal_mcopies rfl rfl (Nat.le_of_ble_eq_true rfl) ⟨Nat.le_of_ble_eq_true rfl, Nat.le_of_ble_eq_true rfl⟩ dX3_chain_85 (fun S_21 hF => ?_)
        refine j_aload_n C dX3_chain_88 rfl 0 rfl ?_
        refine j_iload C dX3_chain_89 1 rfl ?_
        obtain ⟨K_22, hK_22, hF⟩ := jn_intro (M := fun (K : MS → Int32 → Prop) => ∀ (S_23 : MS) (t_24 : Int32), K S_23 t_24 → J G p l e ({ frames := 5, cells := 0, slots := 0, locals := 114 } : Room) s m args below meth c 6 Q 0 0 (MH G.2.2.1 h g S_23) 105 [(5, .int w5_20)] [.int t_24, .ref (g 0)]) (hk := by
            intro S_23 t_24 hF
            refine jm_calli (As := [.int t_24]) (rest := []) C (M_misThere G l hG h g hg S_23 t_24 _ hF) q1944 cal_misThere rfl rfl (Nat.le_of_ble_eq_true rfl) ⟨Nat.le_of_ble_eq_true rfl, Nat.le_of_ble_eq_true rfl⟩ dX3_chain_105 (fun r_26 S_25 hF => ?_)
            refine j_if_eq (tgt := 116) C dX3_chain_108 (by decide) (fun hc_27 => ?_) (fun hc_27 => ?_)
            · replace hF := hF.1 hc_27
              refine j_iconst (v := 0) C dX3_chain_116 rfl ?_
              rw [hQ]
              exact j_iret C rfl ⟨_, _, rfl, rfl, hF⟩ dX3_chain_117
            · replace hF := hF.2 hc_27
              refine j_iload C dX3_chain_111 0 rfl ?_
              refine j_goto (tgt := 117) C dX3_chain_113 (by decide) ?_
              rw [hQ]
              exact j_iret C rfl ⟨_, _, rfl, rfl, hF⟩ dX3_chain_117) hF
        obtain ⟨K_28, hK_28, hF⟩ := jn_intro (M := fun (K : MS → Prop) => ∀ (S_29 : MS), K S_29 → J G p l e ({ frames := 5, cells := 0, slots := 0, locals := 114 } : Room) s m args below meth c 6 Q 0 0 (MH G.2.2.1 h g S_29) 104 [(5, .int w5_20)] [.ref (g 0)]) (hk := by
            intro S_29 hF
            refine j_iconst (v := 0) C dX3_chain_104 rfl ?_
            exact J.locals [0] (hK_22 _ _ hF) rfl) hF
        refine j_if_ne (tgt := 104) C dX3_chain_91 (by decide) (fun hc_30 => ?_) (fun hc_30 => ?_)
        · replace hF := hF.2 hc_30
          exact J.locals [2] (hK_28 _ hF) rfl
        · replace hF := hF.1 hc_30
          refine j_iload C dX3_chain_94 2 rfl ?_
          refine j_iconst (v := (-1)) C dX3_chain_96 rfl ?_
          refine j_icmp_eq (tgt := 104) C dX3_chain_97 (by decide) (fun hc_31 => ?_) (fun hc_31 => ?_)
          · replace hF := hF.1 hc_31
            exact J.locals [2] (hK_28 _ hF) rfl
          · replace hF := hF.2 hc_31
            refine j_iconst (v := 1) C dX3_chain_100 rfl ?_
            refine j_goto (tgt := 105) C dX3_chain_101 (by decide) ?_
            exact J.locals [2] (hK_22 _ _ hF) rfl) hF
  refine j_icmp_ne (tgt := 24) C dX3_chain_16 (by decide) (fun hc_32 => ?_) (fun hc_32 => ?_)
  · replace hF := hF.2 hc_32
    refine j_iconst (v := 0) C dX3_chain_24 rfl ?_
    exact J.locals [2, 3, 1, 0] (hK_4 _ _ hF) rfl
  · replace hF := hF.1 hc_32
    refine j_bipush (v := 6) C dX3_chain_19 rfl ?_
    refine j_goto (tgt := 25) C dX3_chain_21 (by decide) ?_
    exact J.locals [2, 3, 1, 0] (hK_4 _ _ hF) rfl
theorem cal_mcharacter : CalV yX3_character RX3 cX3_character 2 (some .char) 1 := ⟨q2255, q2256, q101, q2257, by decide +kernel⟩
def F_mcharacter (S : MS) (x1 : Int32) (P : Int32 → MS → Prop) : Prop := F_min S x1 0 ((S 0 22) - 1) (fun r_2 S_1 => F_misThere S_1 r_2 (fun r_4 S_3 => (r_4 = 0 → P 0 S_3) ∧ (¬ r_4 = 0 → (vp_in x1 60) ∧ ((narrow .char (.int (S_3 6 (Int32.toNatClampNeg (x1)))) = .int (S_3 6 (Int32.toNatClampNeg (x1)))) ∧ P (S_3 6 (Int32.toNatClampNeg (x1))) S_3))))
set_option maxHeartbeats 4000000 in
theorem M_mcharacter (G : GT) (l : Launch) (hG : GOK G) (h : AH) (g : Nat → Nat) (hg : Mg G g) (S : MS) (x1 : Int32) (P : Int32 → MS → Prop) (hF : F_mcharacter S x1 P) : MMi G l yX3_character cX3_character 2 .char 1 22 [.ref (g 0), .int x1] h g S P := by
  refine MT.mk (own := RX3) (by decide) rfl hG (Nat.le_of_ble_eq_true rfl) ?_
  intro p e s m below meth c args Q hargs hQ C _
  refine J.loca (L2 := [(0, .ref (g 0)), (1, .int x1)]) rfl ?_
  unfold F_mcharacter at hF
  refine j_aload_n C dX3_character_0 rfl 0 rfl ?_
  refine j_iload_n C dX3_character_1 rfl 1 rfl ?_
  refine j_iconst (v := 0) C dX3_character_2 rfl ?_
  refine j_aload_n C dX3_character_3 rfl 0 rfl ?_
  refine jmG22 C dX3_character_4 ?_
  refine j_iconst (v := 1) C dX3_character_7 rfl ?_
  refine j_isub C dX3_character_8 ?_
  refine jm_callsi (As := [.int x1, .int 0, .int ((S 0 22) - 1)]) (rest := [.ref (g 0)]) C (M_min G l hG h g hg S x1 0 ((S 0 22) - 1) _ hF) q1996 cal_min rfl rfl (Nat.le_of_ble_eq_true rfl) ⟨Nat.le_of_ble_eq_true rfl, Nat.le_of_ble_eq_true rfl⟩ dX3_character_9 (fun r_2 S_1 hF => ?_)
  refine jm_calli (As := [.int r_2]) (rest := []) C (M_misThere G l hG h g hg S_1 r_2 _ hF) q1944 cal_misThere rfl rfl (Nat.le_of_ble_eq_true rfl) ⟨Nat.le_of_ble_eq_true rfl, Nat.le_of_ble_eq_true rfl⟩ dX3_character_12 (fun r_4 S_3 hF => ?_)
  refine j_if_eq (tgt := 27) C dX3_character_15 (by decide) (fun hc_5 => ?_) (fun hc_5 => ?_)
  · replace hF := hF.1 hc_5
    refine j_iconst (v := 0) C dX3_character_27 rfl ?_
    rw [hQ]
    exact j_iret C rfl ⟨_, _, rfl, rfl, hF⟩ dX3_character_28
  · replace hF := hF.2 hc_5
    refine j_aload_n C dX3_character_18 rfl 0 rfl ?_
    refine jmG21 C dX3_character_19 ?_
    refine j_iload_n C dX3_character_22 rfl 1 rfl ?_
    obtain ⟨hgd, hF⟩ := hF
    refine jmL6 C hg hgd dX3_character_23 ?_
    refine j_goto (tgt := 28) C dX3_character_24 (by decide) ?_
    rw [hQ]
    exact j_iret C hF.1 ⟨_, _, rfl, rfl, hF.2⟩ dX3_character_28
theorem cal_mcosts : CalV yX3_costs RX3 cX3_costs 4 (some .boolean) 3 := ⟨q1986, qs47, q101, q1987, by decide +kernel⟩
def F_mcosts (S : MS) (x1 : Int32) (x2 : Int32) (x3 : Int32) (P : Int32 → MS → Prop) : Prop := F_misNone S x1 x2 (fun r_2 S_1 => (r_2 = 0 → F_min S_1 x3 0 60 (fun r_5 S_4 => jn (α := MS → Int32 → Prop) (fun S_7 t_8 => F_mrefuses S_7 t_8 3 x3 (fun r_10 S_9 => (r_10 = 0 → F_mc S_9 x1 x2 (fun r_13 S_12 => jn (α := MS → Int32 → Prop) (fun S_15 t_16 => F_mrefuses S_15 t_16 4 x3 (fun r_18 S_17 => (r_18 = 0 → F_mc S_17 x1 x2 (fun r_21 S_20 => nm (sput S_20 0 4 r_21) (fun S_22 => (vp_in ((6 + (6 * x1)) + x2) 1152) ∧ (nm (sput S_22 1 (Int32.toNatClampNeg ((6 + (6 * x1)) + x2)) x3) (fun S_23 => P 1 S_23))))) ∧ (¬ r_18 = 0 → P 0 S_17))) (fun K_14 => (r_13 = x3 → K_14 S_12 1) ∧ (¬ r_13 = x3 → K_14 S_12 0)))) ∧ (¬ r_10 = 0 → P 0 S_9))) (fun K_6 => (r_5 = 0 → K_6 S_4 1) ∧ (¬ r_5 = 0 → K_6 S_4 0)))) ∧ (¬ r_2 = 0 → P 0 S_1))
set_option maxHeartbeats 4000000 in
theorem M_mcosts (G : GT) (l : Launch) (hG : GOK G) (h : AH) (g : Nat → Nat) (hg : Mg G g) (S : MS) (x1 : Int32) (x2 : Int32) (x3 : Int32) (P : Int32 → MS → Prop) (hF : F_mcosts S x1 x2 x3 P) : MMi G l yX3_costs cX3_costs 4 .boolean 3 65 [.ref (g 0), .int x1, .int x2, .int x3] h g S P := by
  refine MT.mk (own := RX3) (by decide) rfl hG (Nat.le_of_ble_eq_true rfl) ?_
  intro p e s m below meth c args Q hargs hQ C _
  refine J.loca (L2 := [(0, .ref (g 0)), (1, .int x1), (2, .int x2), (3, .int x3)]) rfl ?_
  unfold F_mcosts at hF
  refine j_aload_n C dX3_costs_0 rfl 0 rfl ?_
  refine j_iload_n C dX3_costs_1 rfl 1 rfl ?_
  refine j_iload_n C dX3_costs_2 rfl 2 rfl ?_
  refine jm_calli (As := [.int x1, .int x2]) (rest := []) C (M_misNone G l hG h g hg S x1 x2 _ hF) q1988 cal_misNone rfl rfl (Nat.le_of_ble_eq_true rfl) ⟨Nat.le_of_ble_eq_true rfl, Nat.le_of_ble_eq_true rfl⟩ dX3_costs_3 (fun r_2 S_1 hF => ?_)
  refine j_if_ne (tgt := 57) C dX3_costs_6 (by decide) (fun hc_3 => ?_) (fun hc_3 => ?_)
  · replace hF := hF.2 hc_3
    refine j_iconst (v := 0) C dX3_costs_57 rfl ?_
    rw [hQ]
    exact j_iret C rfl ⟨_, _, rfl, rfl, hF⟩ dX3_costs_58
  · replace hF := hF.1 hc_3
    refine j_aload_n C dX3_costs_9 rfl 0 rfl ?_
    refine j_iload_n C dX3_costs_10 rfl 3 rfl ?_
    refine j_iconst (v := 0) C dX3_costs_11 rfl ?_
    refine j_bipush (v := 60) C dX3_costs_12 rfl ?_
    refine jm_callsi (As := [.int x3, .int 0, .int 60]) (rest := [.ref (g 0)]) C (M_min G l hG h g hg S_1 x3 0 60 _ hF) q1996 cal_min rfl rfl (Nat.le_of_ble_eq_true rfl) ⟨Nat.le_of_ble_eq_true rfl, Nat.le_of_ble_eq_true rfl⟩ dX3_costs_14 (fun r_5 S_4 hF => ?_)
    obtain ⟨K_6, hK_6, hF⟩ := jn_intro (M := fun (K : MS → Int32 → Prop) => ∀ (S_7 : MS) (t_8 : Int32), K S_7 t_8 → J G p l e ({ frames := 3, cells := 0, slots := 0, locals := 65 } : Room) s m args below meth c 4 Q 0 0 (MH G.2.2.1 h g S_7) 25 [(0, .ref (g 0)), (1, .int x1), (2, .int x2), (3, .int x3)] [.int t_8, .ref (g 0)]) (hk := by
        intro S_7 t_8 hF
        refine j_iconst (v := 3) C dX3_costs_25 rfl ?_
        refine j_iload_n C dX3_costs_26 rfl 3 rfl ?_
        refine jm_calli (As := [.int t_8, .int 3, .int x3]) (rest := []) C (M_mrefuses G l hG h g hg S_7 t_8 3 x3 _ hF) q1964 cal_mrefuses rfl rfl (Nat.le_of_ble_eq_true rfl) ⟨Nat.le_of_ble_eq_true rfl, Nat.le_of_ble_eq_true rfl⟩ dX3_costs_27 (fun r_10 S_9 hF => ?_)
        refine j_if_ne (tgt := 57) C dX3_costs_30 (by decide) (fun hc_11 => ?_) (fun hc_11 => ?_)
        · replace hF := hF.2 hc_11
          refine j_iconst (v := 0) C dX3_costs_57 rfl ?_
          rw [hQ]
          exact j_iret C rfl ⟨_, _, rfl, rfl, hF⟩ dX3_costs_58
        · replace hF := hF.1 hc_11
          refine j_aload_n C dX3_costs_33 rfl 0 rfl ?_
          refine j_aload_n C dX3_costs_34 rfl 0 rfl ?_
          refine j_iload_n C dX3_costs_35 rfl 1 rfl ?_
          refine j_iload_n C dX3_costs_36 rfl 2 rfl ?_
          refine jm_calli (As := [.int x1, .int x2]) (rest := [.ref (g 0)]) C (M_mc G l hG h g hg S_9 x1 x2 _ hF) q2003 cal_mc rfl rfl (Nat.le_of_ble_eq_true rfl) ⟨Nat.le_of_ble_eq_true rfl, Nat.le_of_ble_eq_true rfl⟩ dX3_costs_37 (fun r_13 S_12 hF => ?_)
          refine j_iload_n C dX3_costs_40 rfl 3 rfl ?_
          obtain ⟨K_14, hK_14, hF⟩ := jn_intro (M := fun (K : MS → Int32 → Prop) => ∀ (S_15 : MS) (t_16 : Int32), K S_15 t_16 → J G p l e ({ frames := 3, cells := 0, slots := 0, locals := 65 } : Room) s m args below meth c 4 Q 0 0 (MH G.2.2.1 h g S_15) 49 [(0, .ref (g 0)), (1, .int x1), (2, .int x2), (3, .int x3)] [.int t_16, .ref (g 0)]) (hk := by
              intro S_15 t_16 hF
              refine j_iconst (v := 4) C dX3_costs_49 rfl ?_
              refine j_iload_n C dX3_costs_50 rfl 3 rfl ?_
              refine jm_calli (As := [.int t_16, .int 4, .int x3]) (rest := []) C (M_mrefuses G l hG h g hg S_15 t_16 4 x3 _ hF) q1964 cal_mrefuses rfl rfl (Nat.le_of_ble_eq_true rfl) ⟨Nat.le_of_ble_eq_true rfl, Nat.le_of_ble_eq_true rfl⟩ dX3_costs_51 (fun r_18 S_17 hF => ?_)
              refine j_if_eq (tgt := 59) C dX3_costs_54 (by decide) (fun hc_19 => ?_) (fun hc_19 => ?_)
              · replace hF := hF.1 hc_19
                refine j_aload_n C dX3_costs_59 rfl 0 rfl ?_
                refine j_aload_n C dX3_costs_60 rfl 0 rfl ?_
                refine j_iload_n C dX3_costs_61 rfl 1 rfl ?_
                refine j_iload_n C dX3_costs_62 rfl 2 rfl ?_
                refine jm_calli (As := [.int x1, .int x2]) (rest := [.ref (g 0)]) C (M_mc G l hG h g hg S_17 x1 x2 _ hF) q2003 cal_mc rfl rfl (Nat.le_of_ble_eq_true rfl) ⟨Nat.le_of_ble_eq_true rfl, Nat.le_of_ble_eq_true rfl⟩ dX3_costs_63 (fun r_21 S_20 hF => ?_)
                refine jmP4 C hg dX3_costs_66 ?_
                obtain ⟨S_22, eS_22, hF⟩ := nm_intro hF
                refine m_J eS_22 ?_
                refine j_aload_n C dX3_costs_69 rfl 0 rfl ?_
                refine jmG1 C dX3_costs_70 ?_
                refine j_bipush (v := 6) C dX3_costs_73 rfl ?_
                refine j_bipush (v := 6) C dX3_costs_75 rfl ?_
                refine j_iload_n C dX3_costs_77 rfl 1 rfl ?_
                refine j_imul C dX3_costs_78 ?_
                refine j_iadd C dX3_costs_79 ?_
                refine j_iload_n C dX3_costs_80 rfl 2 rfl ?_
                refine j_iadd C dX3_costs_81 ?_
                refine j_iload_n C dX3_costs_82 rfl 3 rfl ?_
                obtain ⟨hgd, hF⟩ := hF
                refine jmS1 C hg hgd dX3_costs_83 ?_
                obtain ⟨S_23, eS_23, hF⟩ := nm_intro hF
                refine m_J eS_23 ?_
                refine j_iconst (v := 1) C dX3_costs_84 rfl ?_
                rw [hQ]
                exact j_iret C rfl ⟨_, _, rfl, rfl, hF⟩ dX3_costs_85
              · replace hF := hF.2 hc_19
                refine j_iconst (v := 0) C dX3_costs_57 rfl ?_
                rw [hQ]
                exact j_iret C rfl ⟨_, _, rfl, rfl, hF⟩ dX3_costs_58) hF
          refine j_icmp_ne (tgt := 48) C dX3_costs_41 (by decide) (fun hc_24 => ?_) (fun hc_24 => ?_)
          · replace hF := hF.2 hc_24
            refine j_iconst (v := 0) C dX3_costs_48 rfl ?_
            exact J.locals [0, 1, 2, 3] (hK_14 _ _ hF) rfl
          · replace hF := hF.1 hc_24
            refine j_iconst (v := 1) C dX3_costs_44 rfl ?_
            refine j_goto (tgt := 49) C dX3_costs_45 (by decide) ?_
            exact J.locals [0, 1, 2, 3] (hK_14 _ _ hF) rfl) hF
    refine j_if_ne (tgt := 24) C dX3_costs_17 (by decide) (fun hc_25 => ?_) (fun hc_25 => ?_)
    · replace hF := hF.2 hc_25
      refine j_iconst (v := 0) C dX3_costs_24 rfl ?_
      exact J.locals [0, 1, 2, 3] (hK_6 _ _ hF) rfl
    · replace hF := hF.1 hc_25
      refine j_iconst (v := 1) C dX3_costs_20 rfl ?_
      refine j_goto (tgt := 25) C dX3_costs_21 (by decide) ?_
      exact J.locals [0, 1, 2, 3] (hK_6 _ _ hF) rfl
theorem cal_mcost : CalV yX3_cost RX3 cX3_cost 4 (some .int) 3 := ⟨q1981, q1982, q101, q1983, by decide +kernel⟩
def F_mcost (S : MS) (x1 : Int32) (x2 : Int32) (x3 : Int32) (P : Int32 → MS → Prop) : Prop := F_mbegins S (fun S_1 => F_mcosts S_1 x1 x2 x3 (fun r_3 S_2 => F_mends S_2 r_3 1 (fun r_5 S_4 => P r_5 S_4)))
set_option maxHeartbeats 4000000 in
theorem M_mcost (G : GT) (l : Launch) (hG : GOK G) (h : AH) (g : Nat → Nat) (hg : Mg G g) (S : MS) (x1 : Int32) (x2 : Int32) (x3 : Int32) (P : Int32 → MS → Prop) (hF : F_mcost S x1 x2 x3 P) : MMi G l yX3_cost cX3_cost 4 .int 4 88 [.ref (g 0), .int x1, .int x2, .int x3] h g S P := by
  refine MT.mk (own := RX3) (by decide) rfl hG (Nat.le_of_ble_eq_true rfl) ?_
  intro p e s m below meth c args Q hargs hQ C _
  refine J.loca (L2 := [(0, .ref (g 0)), (1, .int x1), (2, .int x2), (3, .int x3)]) rfl ?_
  unfold F_mcost at hF
  refine j_aload_n C dX3_cost_0 rfl 0 rfl ?_
  refine jm_callv (As := []) (rest := []) C (M_mbegins G l hG h g hg S _ hF) q1952 cal_mbegins rfl rfl (Nat.le_of_ble_eq_true rfl) ⟨Nat.le_of_ble_eq_true rfl, Nat.le_of_ble_eq_true rfl⟩ dX3_cost_1 (fun S_1 hF => ?_)
  refine j_aload_n C dX3_cost_4 rfl 0 rfl ?_
  refine j_aload_n C dX3_cost_5 rfl 0 rfl ?_
  refine j_iload_n C dX3_cost_6 rfl 1 rfl ?_
  refine j_iload_n C dX3_cost_7 rfl 2 rfl ?_
  refine j_iload_n C dX3_cost_8 rfl 3 rfl ?_
  refine jm_calli (As := [.int x1, .int x2, .int x3]) (rest := [.ref (g 0)]) C (M_mcosts G l hG h g hg S_1 x1 x2 x3 _ hF) q1984 cal_mcosts rfl rfl (Nat.le_of_ble_eq_true rfl) ⟨Nat.le_of_ble_eq_true rfl, Nat.le_of_ble_eq_true rfl⟩ dX3_cost_9 (fun r_3 S_2 hF => ?_)
  refine j_iconst (v := 1) C dX3_cost_12 rfl ?_
  refine jm_calli (As := [.int r_3, .int 1]) (rest := []) C (M_mends G l hG h g hg S_2 r_3 1 _ hF) q1972 cal_mends rfl rfl (Nat.le_of_ble_eq_true rfl) ⟨Nat.le_of_ble_eq_true rfl, Nat.le_of_ble_eq_true rfl⟩ dX3_cost_13 (fun r_5 S_4 hF => ?_)
  rw [hQ]
  exact j_iret C rfl ⟨_, _, rfl, rfl, hF⟩ dX3_cost_16
theorem cal_mcostOf : CalV yX3_costOf RX3 cX3_costOf 3 (some .int) 2 := ⟨q2117, q2118, q101, q2119, by decide +kernel⟩
def F_mcostOf (S : MS) (x1 : Int32) (x2 : Int32) (P : Int32 → MS → Prop) : Prop := F_mareThere S x1 x2 (fun r_2 S_1 => (r_2 = 0 → P 0 S_1) ∧ (¬ r_2 = 0 → F_mc S_1 x1 x2 (fun r_5 S_4 => P r_5 S_4)))
set_option maxHeartbeats 4000000 in
theorem M_mcostOf (G : GT) (l : Launch) (hG : GOK G) (h : AH) (g : Nat → Nat) (hg : Mg G g) (S : MS) (x1 : Int32) (x2 : Int32) (P : Int32 → MS → Prop) (hF : F_mcostOf S x1 x2 P) : MMi G l yX3_costOf cX3_costOf 3 .int 3 65 [.ref (g 0), .int x1, .int x2] h g S P := by
  refine MT.mk (own := RX3) (by decide) rfl hG (Nat.le_of_ble_eq_true rfl) ?_
  intro p e s m below meth c args Q hargs hQ C _
  refine J.loca (L2 := [(0, .ref (g 0)), (1, .int x1), (2, .int x2)]) rfl ?_
  unfold F_mcostOf at hF
  refine j_aload_n C dX3_costOf_0 rfl 0 rfl ?_
  refine j_iload_n C dX3_costOf_1 rfl 1 rfl ?_
  refine j_iload_n C dX3_costOf_2 rfl 2 rfl ?_
  refine jm_calli (As := [.int x1, .int x2]) (rest := []) C (M_mareThere G l hG h g hg S x1 x2 _ hF) q2120 cal_mareThere rfl rfl (Nat.le_of_ble_eq_true rfl) ⟨Nat.le_of_ble_eq_true rfl, Nat.le_of_ble_eq_true rfl⟩ dX3_costOf_3 (fun r_2 S_1 hF => ?_)
  refine j_if_eq (tgt := 18) C dX3_costOf_6 (by decide) (fun hc_3 => ?_) (fun hc_3 => ?_)
  · replace hF := hF.1 hc_3
    refine j_iconst (v := 0) C dX3_costOf_18 rfl ?_
    rw [hQ]
    exact j_iret C rfl ⟨_, _, rfl, rfl, hF⟩ dX3_costOf_19
  · replace hF := hF.2 hc_3
    refine j_aload_n C dX3_costOf_9 rfl 0 rfl ?_
    refine j_iload_n C dX3_costOf_10 rfl 1 rfl ?_
    refine j_iload_n C dX3_costOf_11 rfl 2 rfl ?_
    refine jm_calli (As := [.int x1, .int x2]) (rest := []) C (M_mc G l hG h g hg S_1 x1 x2 _ hF) q2003 cal_mc rfl rfl (Nat.le_of_ble_eq_true rfl) ⟨Nat.le_of_ble_eq_true rfl, Nat.le_of_ble_eq_true rfl⟩ dX3_costOf_12 (fun r_5 S_4 hF => ?_)
    refine j_goto (tgt := 19) C dX3_costOf_15 (by decide) ?_
    rw [hQ]
    exact j_iret C rfl ⟨_, _, rfl, rfl, hF⟩ dX3_costOf_19
theorem cal_mmostFrom : CalV yX3_mostFrom RX3 cX3_mostFrom 6 (some .int) 2 := ⟨q2090, qs69, q101, q2091, by decide +kernel⟩
def L_mmostFrom_24 (rec : MS → Int32 → Int32 → (Int32 → MS → Prop) → Prop) (P : Int32 → MS → Prop) (f1 : Int32) (f2 : Int32) : Nat → MS → Int32 → Int32 → Prop
  | 0, _, _, _ => False
  | n + 1, S, z3, z4 => (vp_in 1 1152) ∧ (((S 1 (Int32.toNatClampNeg (1))) ≤ z4 → P z3 S) ∧ (¬ (S 1 (Int32.toNatClampNeg (1))) ≤ z4 → F_misBarred S f1 z4 (fun r_6 S_5 => (r_6 = 0 → (((f2 >>> (z4 &&& 31)) &&& 1) = 1 → L_mmostFrom_24 rec P f1 f2 n S_5 z3 (z4 + 1)) ∧ (¬ ((f2 >>> (z4 &&& 31)) &&& 1) = 1 → rec S_5 (f1 + 1) (f2 ||| (1 <<< (z4 &&& 31))) (fun r_10 S_9 => ((1 + r_10) ≤ z3 → L_mmostFrom_24 rec P f1 f2 n S_9 z3 (z4 + 1)) ∧ (¬ (1 + r_10) ≤ z3 → L_mmostFrom_24 rec P f1 f2 n S_9 (1 + r_10) (z4 + 1))))) ∧ (¬ r_6 = 0 → L_mmostFrom_24 rec P f1 f2 n S_5 z3 (z4 + 1)))))
def F_mmostFrom : Nat → MS → Int32 → Int32 → (Int32 → MS → Prop) → Prop
  | 0, _, _, _, _ => False
  | d + 1, S, x1, x2, P => (vp_in 0 1152) ∧ ((x1 = (S 1 (Int32.toNatClampNeg (0))) → P 0 S) ∧ (¬ x1 = (S 1 (Int32.toNatClampNeg (0))) → (F_mmostFrom d) S (x1 + 1) x2 (fun r_3 S_2 => L_mmostFrom_24 (F_mmostFrom d)  P x1 x2 NF S_2 r_3 0)))
set_option maxHeartbeats 4000000 in
theorem WL_mmostFrom_24 {G : GT} {p : Program} {l : Launch} {e : Env} {s : State} {m : MethodId} {args : Array Value} {below : List Frame} {meth : Method} {c : Code} {h : AH} {g : Nat → Nat} {d : Nat} {Q : State → Prop} (C : Cx G p s m args meth c cX3_mostFrom RX3 6 (some .int)) (hG : GOK G) (hg : Mg G g) {rec : MS → Int32 → Int32 → (Int32 → MS → Prop) → Prop} (hrec : ∀ (S0 : MS) (x1 : Int32) (x2 : Int32) (P0 : Int32 → MS → Prop), rec S0 x1 x2 P0 → MMi G l yX3_mostFrom cX3_mostFrom 6 .int (2 + d) (44 + 25 * d) [.ref (g 0), .int x1, .int x2] h g S0 P0) {P : Int32 → MS → Prop} (hQ : Q = MQ below (SQ G (fun v h' => ∃ (r : Int32) (S' : MS), v = some (.int r) ∧ h' = (MH G.2.2.1 h g S') ∧ P r S')) args s (({ frames := 2 + (d + 1), cells := 0, slots := 0, locals := 44 + 25 * (d + 1) } : Room) : Room).cells (({ frames := 2 + (d + 1), cells := 0, slots := 0, locals := 44 + 25 * (d + 1) } : Room) : Room).slots (fun q => G.1 ≤ q)) {f1 : Int32} {f2 : Int32} :
    ∀ (n : Nat) (S : MS) (z3 : Int32) (z4 : Int32), L_mmostFrom_24 rec P f1 f2 n S z3 z4 → J G p l e ({ frames := 2 + (d + 1), cells := 0, slots := 0, locals := 44 + 25 * (d + 1) } : Room) s m args below meth c 6 Q 0 0 (MH G.2.2.1 h g S) 24 [(0, .ref (g 0)), (1, .int f1), (2, .int f2), (3, .int z3), (4, .int z4)] [] := by
  intro n
  induction n with
  | zero => intro S z3 z4 hF; exact hF.elim
  | succ n ih =>
    intro S z3 z4 hF
    unfold L_mmostFrom_24 at hF
    refine j_iload C dX3_mostFrom_24 4 rfl ?_
    refine j_aload_n C dX3_mostFrom_26 rfl 0 rfl ?_
    refine jmG1 C dX3_mostFrom_27 ?_
    refine j_iconst (v := 1) C dX3_mostFrom_30 rfl ?_
    obtain ⟨hgd, hF⟩ := hF
    refine jmL1 C hg hgd dX3_mostFrom_31 ?_
    refine j_icmp_ge (tgt := 94) C dX3_mostFrom_32 (by decide) (fun hc_4 => ?_) (fun hc_4 => ?_)
    · replace hF := hF.1 hc_4
      refine j_iload_n C dX3_mostFrom_94 rfl 3 rfl ?_
      rw [hQ]
      exact j_iret C rfl ⟨_, _, rfl, rfl, hF⟩ dX3_mostFrom_95
    · replace hF := hF.2 hc_4
      refine j_aload_n C dX3_mostFrom_35 rfl 0 rfl ?_
      refine j_iload_n C dX3_mostFrom_36 rfl 1 rfl ?_
      refine j_iload C dX3_mostFrom_37 4 rfl ?_
      refine jm_calli (As := [.int f1, .int z4]) (rest := []) C (M_misBarred G l hG h g hg S f1 z4 _ hF) q2015 cal_misBarred rfl rfl (Nat.le_of_ble_eq_true rfl) ⟨by dsimp only; omega, by dsimp only; omega⟩ dX3_mostFrom_39 (fun r_6 S_5 hF => ?_)
      refine j_if_ne (tgt := 88) C dX3_mostFrom_42 (by decide) (fun hc_7 => ?_) (fun hc_7 => ?_)
      · replace hF := hF.2 hc_7
        refine j_iinc (q := 4) (v := z4 + 1) (L2 := [(4, .int (z4 + 1)), (0, .ref (g 0)), (1, .int f1), (2, .int f2), (3, .int z3)]) C dX3_mostFrom_88 rfl rfl (by decide) rfl ?_
        refine j_goto (tgt := 24) C dX3_mostFrom_91 (by decide) ?_
        exact J.locals [1, 2, 3, 4, 0] (ih _ _ _ hF) rfl
      · replace hF := hF.1 hc_7
        refine j_iload_n C dX3_mostFrom_45 rfl 2 rfl ?_
        refine j_iload C dX3_mostFrom_46 4 rfl ?_
        refine j_ishr C dX3_mostFrom_48 ?_
        refine j_iconst (v := 1) C dX3_mostFrom_49 rfl ?_
        refine j_iand C dX3_mostFrom_50 ?_
        refine j_iconst (v := 1) C dX3_mostFrom_51 rfl ?_
        refine j_icmp_ne (tgt := 58) C dX3_mostFrom_52 (by decide) (fun hc_8 => ?_) (fun hc_8 => ?_)
        · replace hF := hF.2 hc_8
          refine j_iconst (v := 1) C dX3_mostFrom_58 rfl ?_
          refine j_aload_n C dX3_mostFrom_59 rfl 0 rfl ?_
          refine j_iload_n C dX3_mostFrom_60 rfl 1 rfl ?_
          refine j_iconst (v := 1) C dX3_mostFrom_61 rfl ?_
          refine j_iadd C dX3_mostFrom_62 ?_
          refine j_iload_n C dX3_mostFrom_63 rfl 2 rfl ?_
          refine j_iconst (v := 1) C dX3_mostFrom_64 rfl ?_
          refine j_iload C dX3_mostFrom_65 4 rfl ?_
          refine j_ishl C dX3_mostFrom_67 ?_
          refine j_ior C dX3_mostFrom_68 ?_
          refine jm_calli (As := [.int (f1 + 1), .int (f2 ||| (1 <<< (z4 &&& 31)))]) (rest := [.int 1]) C (hrec S_5 (f1 + 1) (f2 ||| (1 <<< (z4 &&& 31))) _ hF) q2088 cal_mmostFrom rfl rfl (Nat.le_of_ble_eq_true rfl) ⟨by dsimp only; omega, by dsimp only; omega⟩ dX3_mostFrom_69 (fun r_10 S_9 hF => ?_)
          refine j_iadd C dX3_mostFrom_72 ?_
          refine j_istore (L2 := [(5, .int (1 + r_10)), (0, .ref (g 0)), (1, .int f1), (2, .int f2), (3, .int z3), (4, .int z4)]) C dX3_mostFrom_73 (by decide) rfl ?_
          refine j_iload C dX3_mostFrom_75 0 rfl ?_
          refine j_iload_n C dX3_mostFrom_77 rfl 4 rfl ?_
          refine j_icmp_le (tgt := 86) C dX3_mostFrom_78 (by decide) (fun hc_11 => ?_) (fun hc_11 => ?_)
          · replace hF := hF.1 hc_11
            refine j_iload_n C dX3_mostFrom_86 rfl 4 rfl ?_
            refine j_istore_n (L2 := [(3, .int z3), (5, .int (1 + r_10)), (0, .ref (g 0)), (1, .int f1), (2, .int f2), (4, .int z4)]) C dX3_mostFrom_87 rfl (by decide) rfl ?_
            refine j_iinc (q := 5) (v := z4 + 1) (L2 := [(4, .int (z4 + 1)), (3, .int z3), (5, .int (1 + r_10)), (0, .ref (g 0)), (1, .int f1), (2, .int f2)]) C dX3_mostFrom_88 rfl rfl (by decide) rfl ?_
            refine j_goto (tgt := 24) C dX3_mostFrom_91 (by decide) ?_
            exact J.locals [3, 4, 5, 1, 0] (ih _ _ _ hF) rfl
          · replace hF := hF.2 hc_11
            refine j_iload C dX3_mostFrom_81 0 rfl ?_
            refine j_goto (tgt := 87) C dX3_mostFrom_83 (by decide) ?_
            refine j_istore_n (L2 := [(3, .int (1 + r_10)), (5, .int (1 + r_10)), (0, .ref (g 0)), (1, .int f1), (2, .int f2), (4, .int z4)]) C dX3_mostFrom_87 rfl (by decide) rfl ?_
            refine j_iinc (q := 5) (v := z4 + 1) (L2 := [(4, .int (z4 + 1)), (3, .int (1 + r_10)), (5, .int (1 + r_10)), (0, .ref (g 0)), (1, .int f1), (2, .int f2)]) C dX3_mostFrom_88 rfl rfl (by decide) rfl ?_
            refine j_goto (tgt := 24) C dX3_mostFrom_91 (by decide) ?_
            exact J.locals [3, 4, 5, 1, 0] (ih _ _ _ hF) rfl
        · replace hF := hF.1 hc_8
          refine j_goto (tgt := 88) C dX3_mostFrom_55 (by decide) ?_
          refine j_iinc (q := 4) (v := z4 + 1) (L2 := [(4, .int (z4 + 1)), (0, .ref (g 0)), (1, .int f1), (2, .int f2), (3, .int z3)]) C dX3_mostFrom_88 rfl rfl (by decide) rfl ?_
          refine j_goto (tgt := 24) C dX3_mostFrom_91 (by decide) ?_
          exact J.locals [1, 2, 3, 4, 0] (ih _ _ _ hF) rfl
set_option maxHeartbeats 4000000 in
theorem M_mmostFrom (G : GT) (l : Launch) (hG : GOK G) : ∀ (d : Nat) (h : AH) (g : Nat → Nat) (hg : Mg G g) (S : MS) (x1 : Int32) (x2 : Int32) (P : Int32 → MS → Prop) (hF : F_mmostFrom d S x1 x2 P), MMi G l yX3_mostFrom cX3_mostFrom 6 .int (2 + d) (44 + 25 * d) [.ref (g 0), .int x1, .int x2] h g S P := by
  intro d
  induction d with
  | zero => intro h g hg S x1 x2 P hF; exact hF.elim
  | succ d ihd =>
    intro h g hg S x1 x2 P hF
    have hrec : ∀ (S0 : MS) (x1 : Int32) (x2 : Int32) (P0 : Int32 → MS → Prop), F_mmostFrom d S0 x1 x2 P0 → MMi G l yX3_mostFrom cX3_mostFrom 6 .int (2 + d) (44 + 25 * d) [.ref (g 0), .int x1, .int x2] h g S0 P0 := fun S0 x1 x2 P0 h0 => ihd h g hg S0 x1 x2 P0 h0
    refine MT.mk (own := RX3) (by decide) rfl hG (Nat.le_of_ble_eq_true rfl) ?_
    intro p e s m below meth c args Q hargs hQ C _
    refine J.loca (L2 := [(0, .ref (g 0)), (1, .int x1), (2, .int x2)]) rfl ?_
    unfold F_mmostFrom at hF
    refine j_iload_n C dX3_mostFrom_0 rfl 1 rfl ?_
    refine j_aload_n C dX3_mostFrom_1 rfl 0 rfl ?_
    refine jmG1 C dX3_mostFrom_2 ?_
    refine j_iconst (v := 0) C dX3_mostFrom_5 rfl ?_
    obtain ⟨hgd, hF⟩ := hF
    refine jmL1 C hg hgd dX3_mostFrom_6 ?_
    refine j_icmp_ne (tgt := 12) C dX3_mostFrom_7 (by decide) (fun hc_1 => ?_) (fun hc_1 => ?_)
    · replace hF := hF.2 hc_1
      refine j_aload_n C dX3_mostFrom_12 rfl 0 rfl ?_
      refine j_iload_n C dX3_mostFrom_13 rfl 1 rfl ?_
      refine j_iconst (v := 1) C dX3_mostFrom_14 rfl ?_
      refine j_iadd C dX3_mostFrom_15 ?_
      refine j_iload_n C dX3_mostFrom_16 rfl 2 rfl ?_
      refine jm_calli (As := [.int (x1 + 1), .int x2]) (rest := []) C (hrec S (x1 + 1) x2 _ hF) q2088 cal_mmostFrom rfl rfl (Nat.le_of_ble_eq_true rfl) ⟨by dsimp only; omega, by dsimp only; omega⟩ dX3_mostFrom_17 (fun r_3 S_2 hF => ?_)
      refine j_istore_n (L2 := [(3, .int r_3), (0, .ref (g 0)), (1, .int x1), (2, .int x2)]) C dX3_mostFrom_20 rfl (by decide) rfl ?_
      refine j_iconst (v := 0) C dX3_mostFrom_21 rfl ?_
      refine j_istore (L2 := [(4, .int 0), (3, .int r_3), (0, .ref (g 0)), (1, .int x1), (2, .int x2)]) C dX3_mostFrom_22 (by decide) rfl ?_
      refine J.locals [2, 3, 4, 1, 0] (WL_mmostFrom_24 C hG hg hrec hQ NF _ _ _ hF) rfl
    · replace hF := hF.1 hc_1
      refine j_iconst (v := 0) C dX3_mostFrom_10 rfl ?_
      rw [hQ]
      exact j_iret C rfl ⟨_, _, rfl, rfl, hF⟩ dX3_mostFrom_11
theorem cal_mmost0 : CalV yX3_most0 RX3 cX3_most0 1 (some .int) 0 := ⟨q2086, qs68, q101, q2087, by decide +kernel⟩
def F_mmost0 (S : MS) (P : Int32 → MS → Prop) : Prop := F_mmostFrom 8 S 0 0 (fun r_2 S_1 => P r_2 S_1)
set_option maxHeartbeats 4000000 in
theorem M_mmost0 (G : GT) (l : Launch) (hG : GOK G) (h : AH) (g : Nat → Nat) (hg : Mg G g) (S : MS) (P : Int32 → MS → Prop) (hF : F_mmost0 S P) : MMi G l yX3_most0 cX3_most0 1 .int 11 269 [.ref (g 0)] h g S P := by
  refine MT.mk (own := RX3) (by decide) rfl hG (Nat.le_of_ble_eq_true rfl) ?_
  intro p e s m below meth c args Q hargs hQ C _
  refine J.loca (L2 := [(0, .ref (g 0))]) rfl ?_
  unfold F_mmost0 at hF
  refine j_aload_n C dX3_most0_0 rfl 0 rfl ?_
  refine j_iconst (v := 0) C dX3_most0_1 rfl ?_
  refine j_iconst (v := 0) C dX3_most0_2 rfl ?_
  refine jm_calli (As := [.int 0, .int 0]) (rest := []) C (M_mmostFrom G l hG 8 h g hg S 0 0 _ hF) q2088 cal_mmostFrom rfl rfl (Nat.le_of_ble_eq_true rfl) ⟨Nat.le_of_ble_eq_true rfl, Nat.le_of_ble_eq_true rfl⟩ dX3_most0_3 (fun r_2 S_1 hF => ?_)
  rw [hQ]
  exact j_iret C rfl ⟨_, _, rfl, rfl, hF⟩ dX3_most0_6
theorem cal_msettlesNow : CalV yX3_settlesNow RX3 cX3_settlesNow 1 (some .boolean) 0 := ⟨q2062, qs62, q101, q2063, by decide +kernel⟩
def F_msettlesNow (S : MS) (P : Int32 → MS → Prop) : Prop := F_mlooks S (fun S_1 => jn (α := MS → Int32 → Prop) (fun S_3 t_4 => F_mmost0 S_3 (fun r_6 S_5 => F_mrefuses S_5 t_4 8 r_6 (fun r_8 S_7 => (r_8 = 0 → F_mbidsAll S_7 (fun r_11 S_10 => nm (sput S_10 0 4 r_11) (fun S_12 => (vp_in 5 1152) ∧ ((vp_in 5 1152) ∧ (nm (sput S_12 1 (Int32.toNatClampNeg (5)) ((S_12 1 (Int32.toNatClampNeg (5))) + 1)) (fun S_13 => P 1 S_13)))))) ∧ (¬ r_8 = 0 → P 0 S_7)))) (fun K_2 => ((S_1 0 11) = 0 → K_2 S_1 1) ∧ (¬ (S_1 0 11) = 0 → K_2 S_1 0)))
set_option maxHeartbeats 4000000 in
theorem M_msettlesNow (G : GT) (l : Launch) (hG : GOK G) (h : AH) (g : Nat → Nat) (hg : Mg G g) (S : MS) (P : Int32 → MS → Prop) (hF : F_msettlesNow S P) : MMi G l yX3_settlesNow cX3_settlesNow 1 .boolean 13 311 [.ref (g 0)] h g S P := by
  refine MT.mk (own := RX3) (by decide) rfl hG (Nat.le_of_ble_eq_true rfl) ?_
  intro p e s m below meth c args Q hargs hQ C _
  refine J.loca (L2 := [(0, .ref (g 0))]) rfl ?_
  unfold F_msettlesNow at hF
  refine j_aload_n C dX3_settlesNow_0 rfl 0 rfl ?_
  refine jm_callv (As := []) (rest := []) C (M_mlooks G l hG h g hg S _ hF) q2064 cal_mlooks rfl rfl (Nat.le_of_ble_eq_true rfl) ⟨Nat.le_of_ble_eq_true rfl, Nat.le_of_ble_eq_true rfl⟩ dX3_settlesNow_1 (fun S_1 hF => ?_)
  refine j_aload_n C dX3_settlesNow_4 rfl 0 rfl ?_
  refine j_aload_n C dX3_settlesNow_5 rfl 0 rfl ?_
  refine jmG11 C dX3_settlesNow_6 ?_
  obtain ⟨K_2, hK_2, hF⟩ := jn_intro (M := fun (K : MS → Int32 → Prop) => ∀ (S_3 : MS) (t_4 : Int32), K S_3 t_4 → J G p l e ({ frames := 13, cells := 0, slots := 0, locals := 311 } : Room) s m args below meth c 1 Q 0 0 (MH G.2.2.1 h g S_3) 17 [(0, .ref (g 0))] [.int t_4, .ref (g 0)]) (hk := by
      intro S_3 t_4 hF
      refine j_bipush (v := 8) C dX3_settlesNow_17 rfl ?_
      refine j_aload_n C dX3_settlesNow_19 rfl 0 rfl ?_
      refine jm_calli (As := []) (rest := [.int 8, .int t_4, .ref (g 0)]) C (M_mmost0 G l hG h g hg S_3 _ hF) q2084 cal_mmost0 rfl rfl (Nat.le_of_ble_eq_true rfl) ⟨Nat.le_of_ble_eq_true rfl, Nat.le_of_ble_eq_true rfl⟩ dX3_settlesNow_20 (fun r_6 S_5 hF => ?_)
      refine jm_calli (As := [.int t_4, .int 8, .int r_6]) (rest := []) C (M_mrefuses G l hG h g hg S_5 t_4 8 r_6 _ hF) q1964 cal_mrefuses rfl rfl (Nat.le_of_ble_eq_true rfl) ⟨Nat.le_of_ble_eq_true rfl, Nat.le_of_ble_eq_true rfl⟩ dX3_settlesNow_23 (fun r_8 S_7 hF => ?_)
      refine j_if_eq (tgt := 31) C dX3_settlesNow_26 (by decide) (fun hc_9 => ?_) (fun hc_9 => ?_)
      · replace hF := hF.1 hc_9
        refine j_aload_n C dX3_settlesNow_31 rfl 0 rfl ?_
        refine j_aload_n C dX3_settlesNow_32 rfl 0 rfl ?_
        refine jm_calli (As := []) (rest := [.ref (g 0)]) C (M_mbidsAll G l hG h g hg S_7 _ hF) q2092 cal_mbidsAll rfl rfl (Nat.le_of_ble_eq_true rfl) ⟨Nat.le_of_ble_eq_true rfl, Nat.le_of_ble_eq_true rfl⟩ dX3_settlesNow_33 (fun r_11 S_10 hF => ?_)
        refine jmP4 C hg dX3_settlesNow_36 ?_
        obtain ⟨S_12, eS_12, hF⟩ := nm_intro hF
        refine m_J eS_12 ?_
        refine j_aload_n C dX3_settlesNow_39 rfl 0 rfl ?_
        refine jmG1 C dX3_settlesNow_40 ?_
        refine j_iconst (v := 5) C dX3_settlesNow_43 rfl ?_
        refine j_dup2 C dX3_settlesNow_44 rfl rfl ?_
        obtain ⟨hgd, hF⟩ := hF
        refine jmL1 C hg hgd dX3_settlesNow_45 ?_
        refine j_iconst (v := 1) C dX3_settlesNow_46 rfl ?_
        refine j_iadd C dX3_settlesNow_47 ?_
        obtain ⟨hgd, hF⟩ := hF
        refine jmS1 C hg hgd dX3_settlesNow_48 ?_
        obtain ⟨S_13, eS_13, hF⟩ := nm_intro hF
        refine m_J eS_13 ?_
        refine j_iconst (v := 1) C dX3_settlesNow_49 rfl ?_
        rw [hQ]
        exact j_iret C rfl ⟨_, _, rfl, rfl, hF⟩ dX3_settlesNow_50
      · replace hF := hF.2 hc_9
        refine j_iconst (v := 0) C dX3_settlesNow_29 rfl ?_
        rw [hQ]
        exact j_iret C rfl ⟨_, _, rfl, rfl, hF⟩ dX3_settlesNow_30) hF
  refine j_if_ne (tgt := 16) C dX3_settlesNow_9 (by decide) (fun hc_14 => ?_) (fun hc_14 => ?_)
  · replace hF := hF.2 hc_14
    refine j_iconst (v := 0) C dX3_settlesNow_16 rfl ?_
    exact J.locals [0] (hK_2 _ _ hF) rfl
  · replace hF := hF.1 hc_14
    refine j_iconst (v := 1) C dX3_settlesNow_12 rfl ?_
    refine j_goto (tgt := 17) C dX3_settlesNow_13 (by decide) ?_
    exact J.locals [0] (hK_2 _ _ hF) rfl
theorem cal_mleaves : CalV yX3_leaves RX3 cX3_leaves 2 (some .boolean) 1 := ⟨q2102, qs71, q101, q2103, by decide +kernel⟩
def F_mleaves (S : MS) (x1 : Int32) (P : Int32 → MS → Prop) : Prop := F_misApprentice S x1 (fun r_2 S_1 => jn (α := MS → Int32 → Prop) (fun S_4 t_5 => F_mrefuses S_4 t_5 2 x1 (fun r_7 S_6 => (r_7 = 0 → (vp_in (84 + x1) 1152) ∧ (jn (α := MS → Int32 → Prop) (fun S_10 t_11 => F_mrefuses S_10 t_11 9 x1 (fun r_13 S_12 => (r_13 = 0 → (vp_in (84 + x1) 1152) ∧ (nm (sput S_12 0 4 (S_12 1 (Int32.toNatClampNeg (84 + x1)))) (fun S_15 => (vp_in (84 + x1) 1152) ∧ (nm (sput S_15 1 (Int32.toNatClampNeg (84 + x1)) (-1)) (fun S_16 => P 1 S_16))))) ∧ (¬ r_13 = 0 → P 0 S_12))) (fun K_9 => ((S_6 1 (Int32.toNatClampNeg (84 + x1))) = (-1) → K_9 S_6 1) ∧ (¬ (S_6 1 (Int32.toNatClampNeg (84 + x1))) = (-1) → K_9 S_6 0)))) ∧ (¬ r_7 = 0 → P 0 S_6))) (fun K_3 => (r_2 = 0 → K_3 S_1 1) ∧ (¬ r_2 = 0 → K_3 S_1 0)))
set_option maxHeartbeats 4000000 in
theorem M_mleaves (G : GT) (l : Launch) (hG : GOK G) (h : AH) (g : Nat → Nat) (hg : Mg G g) (S : MS) (x1 : Int32) (P : Int32 → MS → Prop) (hF : F_mleaves S x1 P) : MMi G l yX3_leaves cX3_leaves 2 .boolean 2 43 [.ref (g 0), .int x1] h g S P := by
  refine MT.mk (own := RX3) (by decide) rfl hG (Nat.le_of_ble_eq_true rfl) ?_
  intro p e s m below meth c args Q hargs hQ C _
  refine J.loca (L2 := [(0, .ref (g 0)), (1, .int x1)]) rfl ?_
  unfold F_mleaves at hF
  refine j_aload_n C dX3_leaves_0 rfl 0 rfl ?_
  refine j_aload_n C dX3_leaves_1 rfl 0 rfl ?_
  refine j_iload_n C dX3_leaves_2 rfl 1 rfl ?_
  refine jm_calli (As := [.int x1]) (rest := [.ref (g 0)]) C (M_misApprentice G l hG h g hg S x1 _ hF) q1992 cal_misApprentice rfl rfl (Nat.le_of_ble_eq_true rfl) ⟨Nat.le_of_ble_eq_true rfl, Nat.le_of_ble_eq_true rfl⟩ dX3_leaves_3 (fun r_2 S_1 hF => ?_)
  obtain ⟨K_3, hK_3, hF⟩ := jn_intro (M := fun (K : MS → Int32 → Prop) => ∀ (S_4 : MS) (t_5 : Int32), K S_4 t_5 → J G p l e ({ frames := 2, cells := 0, slots := 0, locals := 43 } : Room) s m args below meth c 2 Q 0 0 (MH G.2.2.1 h g S_4) 14 [(0, .ref (g 0)), (1, .int x1)] [.int t_5, .ref (g 0)]) (hk := by
      intro S_4 t_5 hF
      refine j_iconst (v := 2) C dX3_leaves_14 rfl ?_
      refine j_iload_n C dX3_leaves_15 rfl 1 rfl ?_
      refine jm_calli (As := [.int t_5, .int 2, .int x1]) (rest := []) C (M_mrefuses G l hG h g hg S_4 t_5 2 x1 _ hF) q1964 cal_mrefuses rfl rfl (Nat.le_of_ble_eq_true rfl) ⟨Nat.le_of_ble_eq_true rfl, Nat.le_of_ble_eq_true rfl⟩ dX3_leaves_16 (fun r_7 S_6 hF => ?_)
      refine j_if_ne (tgt := 50) C dX3_leaves_19 (by decide) (fun hc_8 => ?_) (fun hc_8 => ?_)
      · replace hF := hF.2 hc_8
        refine j_iconst (v := 0) C dX3_leaves_50 rfl ?_
        rw [hQ]
        exact j_iret C rfl ⟨_, _, rfl, rfl, hF⟩ dX3_leaves_51
      · replace hF := hF.1 hc_8
        refine j_aload_n C dX3_leaves_22 rfl 0 rfl ?_
        refine j_aload_n C dX3_leaves_23 rfl 0 rfl ?_
        refine jmG1 C dX3_leaves_24 ?_
        refine j_bipush (v := 84) C dX3_leaves_27 rfl ?_
        refine j_iload_n C dX3_leaves_29 rfl 1 rfl ?_
        refine j_iadd C dX3_leaves_30 ?_
        obtain ⟨hgd, hF⟩ := hF
        refine jmL1 C hg hgd dX3_leaves_31 ?_
        refine j_iconst (v := (-1)) C dX3_leaves_32 rfl ?_
        obtain ⟨K_9, hK_9, hF⟩ := jn_intro (M := fun (K : MS → Int32 → Prop) => ∀ (S_10 : MS) (t_11 : Int32), K S_10 t_11 → J G p l e ({ frames := 2, cells := 0, slots := 0, locals := 43 } : Room) s m args below meth c 2 Q 0 0 (MH G.2.2.1 h g S_10) 41 [(0, .ref (g 0)), (1, .int x1)] [.int t_11, .ref (g 0)]) (hk := by
            intro S_10 t_11 hF
            refine j_bipush (v := 9) C dX3_leaves_41 rfl ?_
            refine j_iload_n C dX3_leaves_43 rfl 1 rfl ?_
            refine jm_calli (As := [.int t_11, .int 9, .int x1]) (rest := []) C (M_mrefuses G l hG h g hg S_10 t_11 9 x1 _ hF) q1964 cal_mrefuses rfl rfl (Nat.le_of_ble_eq_true rfl) ⟨Nat.le_of_ble_eq_true rfl, Nat.le_of_ble_eq_true rfl⟩ dX3_leaves_44 (fun r_13 S_12 hF => ?_)
            refine j_if_eq (tgt := 52) C dX3_leaves_47 (by decide) (fun hc_14 => ?_) (fun hc_14 => ?_)
            · replace hF := hF.1 hc_14
              refine j_aload_n C dX3_leaves_52 rfl 0 rfl ?_
              refine j_aload_n C dX3_leaves_53 rfl 0 rfl ?_
              refine jmG1 C dX3_leaves_54 ?_
              refine j_bipush (v := 84) C dX3_leaves_57 rfl ?_
              refine j_iload_n C dX3_leaves_59 rfl 1 rfl ?_
              refine j_iadd C dX3_leaves_60 ?_
              obtain ⟨hgd, hF⟩ := hF
              refine jmL1 C hg hgd dX3_leaves_61 ?_
              refine jmP4 C hg dX3_leaves_62 ?_
              obtain ⟨S_15, eS_15, hF⟩ := nm_intro hF
              refine m_J eS_15 ?_
              refine j_aload_n C dX3_leaves_65 rfl 0 rfl ?_
              refine jmG1 C dX3_leaves_66 ?_
              refine j_bipush (v := 84) C dX3_leaves_69 rfl ?_
              refine j_iload_n C dX3_leaves_71 rfl 1 rfl ?_
              refine j_iadd C dX3_leaves_72 ?_
              refine j_iconst (v := (-1)) C dX3_leaves_73 rfl ?_
              obtain ⟨hgd, hF⟩ := hF
              refine jmS1 C hg hgd dX3_leaves_74 ?_
              obtain ⟨S_16, eS_16, hF⟩ := nm_intro hF
              refine m_J eS_16 ?_
              refine j_iconst (v := 1) C dX3_leaves_75 rfl ?_
              rw [hQ]
              exact j_iret C rfl ⟨_, _, rfl, rfl, hF⟩ dX3_leaves_76
            · replace hF := hF.2 hc_14
              refine j_iconst (v := 0) C dX3_leaves_50 rfl ?_
              rw [hQ]
              exact j_iret C rfl ⟨_, _, rfl, rfl, hF⟩ dX3_leaves_51) hF
        refine j_icmp_ne (tgt := 40) C dX3_leaves_33 (by decide) (fun hc_17 => ?_) (fun hc_17 => ?_)
        · replace hF := hF.2 hc_17
          refine j_iconst (v := 0) C dX3_leaves_40 rfl ?_
          exact J.locals [0, 1] (hK_9 _ _ hF) rfl
        · replace hF := hF.1 hc_17
          refine j_iconst (v := 1) C dX3_leaves_36 rfl ?_
          refine j_goto (tgt := 41) C dX3_leaves_37 (by decide) ?_
          exact J.locals [0, 1] (hK_9 _ _ hF) rfl) hF
  refine j_if_ne (tgt := 13) C dX3_leaves_6 (by decide) (fun hc_18 => ?_) (fun hc_18 => ?_)
  · replace hF := hF.2 hc_18
    refine j_iconst (v := 0) C dX3_leaves_13 rfl ?_
    exact J.locals [0, 1] (hK_3 _ _ hF) rfl
  · replace hF := hF.1 hc_18
    refine j_iconst (v := 1) C dX3_leaves_9 rfl ?_
    refine j_goto (tgt := 14) C dX3_leaves_10 (by decide) ?_
    exact J.locals [0, 1] (hK_3 _ _ hF) rfl
theorem cal_mgoesBy : CalV yX3_goesBy RX3 cX3_goesBy 3 (some .boolean) 0 := ⟨q2110, qs72, q101, q2111, by decide +kernel⟩
def L_mgoesBy_10 (K97 : MS → Prop) (P : Int32 → MS → Prop) : Nat → MS → Int32 → Prop
  | 0, _, _ => False
  | n + 1, S, z1 => (vp_in 0 1152) ∧ (((S 1 (Int32.toNatClampNeg (0))) ≤ z1 → K97 S) ∧ (¬ (S 1 (Int32.toNatClampNeg (0))) ≤ z1 → (vp_in (84 + z1) 1152) ∧ (((S 1 (Int32.toNatClampNeg (84 + z1))) = (-1) → L_mgoesBy_10 K97 P n S (z1 + 1)) ∧ (¬ (S 1 (Int32.toNatClampNeg (84 + z1))) = (-1) → (vp_in ((42 + (6 * z1)) + (S 1 (Int32.toNatClampNeg (84 + z1)))) 1152) ∧ ((vp_in ((42 + (6 * z1)) + (S 1 (Int32.toNatClampNeg (84 + z1)))) 1152) ∧ (nm (sput S 1 (Int32.toNatClampNeg ((42 + (6 * z1)) + (S 1 (Int32.toNatClampNeg (84 + z1))))) ((S 1 (Int32.toNatClampNeg ((42 + (6 * z1)) + (S 1 (Int32.toNatClampNeg (84 + z1)))))) + 1)) (fun S_6 => F_mc S_6 z1 (S 1 (Int32.toNatClampNeg (84 + z1))) (fun r_8 S_7 => (r_8 = 0 → (vp_in ((6 + (6 * z1)) + (S 1 (Int32.toNatClampNeg (84 + z1)))) 1152) ∧ (nm (sput S_7 1 (Int32.toNatClampNeg ((6 + (6 * z1)) + (S 1 (Int32.toNatClampNeg (84 + z1))))) 0) (fun S_13 => L_mgoesBy_10 K97 P n S_13 (z1 + 1)))) ∧ (¬ r_8 = 0 → F_mc S_7 z1 (S 1 (Int32.toNatClampNeg (84 + z1))) (fun r_11 S_10 => (vp_in ((6 + (6 * z1)) + (S 1 (Int32.toNatClampNeg (84 + z1)))) 1152) ∧ (nm (sput S_10 1 (Int32.toNatClampNeg ((6 + (6 * z1)) + (S 1 (Int32.toNatClampNeg (84 + z1))))) (r_11 - 1)) (fun S_12 => L_mgoesBy_10 K97 P n S_12 (z1 + 1)))))))))))))
def F_mgoesBy (S : MS) (P : Int32 → MS → Prop) : Prop := F_mpairCost S (fun r_2 S_1 => nm (sput S_1 0 4 r_2) (fun S_3 => L_mgoesBy_10 (fun S_14 => F_mallFree S_14 0 (fun S_15 => (vp_in 2 1152) ∧ ((vp_in 2 1152) ∧ (nm (sput S_15 1 (Int32.toNatClampNeg (2)) ((S_15 1 (Int32.toNatClampNeg (2))) + 1)) (fun S_16 => P 1 S_16))))) P NF S_3 0))
set_option maxHeartbeats 4000000 in
theorem WL_mgoesBy_10 {G : GT} {p : Program} {l : Launch} {e : Env} {s : State} {m : MethodId} {args : Array Value} {below : List Frame} {meth : Method} {c : Code} {h : AH} {g : Nat → Nat} {Q : State → Prop} (C : Cx G p s m args meth c cX3_goesBy RX3 3 (some .boolean)) (hG : GOK G) (hg : Mg G g) {P : Int32 → MS → Prop} (hQ : Q = MQ below (SQ G (fun v h' => ∃ (r : Int32) (S' : MS), v = some (.int r) ∧ h' = (MH G.2.2.1 h g S') ∧ P r S')) args s (({ frames := 2, cells := 0, slots := 0, locals := 44 } : Room) : Room).cells (({ frames := 2, cells := 0, slots := 0, locals := 44 } : Room) : Room).slots (fun q => G.1 ≤ q)) {K97 : MS → Prop} (hK97 : ∀ (S0 : MS), K97 S0 → J G p l e ({ frames := 2, cells := 0, slots := 0, locals := 44 } : Room) s m args below meth c 3 Q 0 0 (MH G.2.2.1 h g S0) 97 [(0, .ref (g 0))] []) :
    ∀ (n : Nat) (S : MS) (z1 : Int32), L_mgoesBy_10 K97 P n S z1 → J G p l e ({ frames := 2, cells := 0, slots := 0, locals := 44 } : Room) s m args below meth c 3 Q 0 0 (MH G.2.2.1 h g S) 10 [(0, .ref (g 0)), (1, .int z1)] [] := by
  intro n
  induction n with
  | zero => intro S z1 hF; exact hF.elim
  | succ n ih =>
    intro S z1 hF
    unfold L_mgoesBy_10 at hF
    refine j_iload_n C dX3_goesBy_10 rfl 1 rfl ?_
    refine j_aload_n C dX3_goesBy_11 rfl 0 rfl ?_
    refine jmG1 C dX3_goesBy_12 ?_
    refine j_iconst (v := 0) C dX3_goesBy_15 rfl ?_
    obtain ⟨hgd, hF⟩ := hF
    refine jmL1 C hg hgd dX3_goesBy_16 ?_
    refine j_icmp_ge (tgt := 97) C dX3_goesBy_17 (by decide) (fun hc_4 => ?_) (fun hc_4 => ?_)
    · replace hF := hF.1 hc_4
      exact J.locals [0] (hK97 _ hF) rfl
    · replace hF := hF.2 hc_4
      refine j_aload_n C dX3_goesBy_20 rfl 0 rfl ?_
      refine jmG1 C dX3_goesBy_21 ?_
      refine j_bipush (v := 84) C dX3_goesBy_24 rfl ?_
      refine j_iload_n C dX3_goesBy_26 rfl 1 rfl ?_
      refine j_iadd C dX3_goesBy_27 ?_
      obtain ⟨hgd, hF⟩ := hF
      refine jmL1 C hg hgd dX3_goesBy_28 ?_
      refine j_istore_n (L2 := [(2, .int (S 1 (Int32.toNatClampNeg (84 + z1)))), (0, .ref (g 0)), (1, .int z1)]) C dX3_goesBy_29 rfl (by decide) rfl ?_
      refine j_iload_n C dX3_goesBy_30 rfl 0 rfl ?_
      refine j_iconst (v := (-1)) C dX3_goesBy_31 rfl ?_
      refine j_icmp_ne (tgt := 38) C dX3_goesBy_32 (by decide) (fun hc_5 => ?_) (fun hc_5 => ?_)
      · replace hF := hF.2 hc_5
        refine j_aload_n C dX3_goesBy_38 rfl 1 rfl ?_
        refine jmG1 C dX3_goesBy_39 ?_
        refine j_bipush (v := 42) C dX3_goesBy_42 rfl ?_
        refine j_bipush (v := 6) C dX3_goesBy_44 rfl ?_
        refine j_iload_n C dX3_goesBy_46 rfl 2 rfl ?_
        refine j_imul C dX3_goesBy_47 ?_
        refine j_iadd C dX3_goesBy_48 ?_
        refine j_iload_n C dX3_goesBy_49 rfl 0 rfl ?_
        refine j_iadd C dX3_goesBy_50 ?_
        refine j_dup2 C dX3_goesBy_51 rfl rfl ?_
        obtain ⟨hgd, hF⟩ := hF
        refine jmL1 C hg hgd dX3_goesBy_52 ?_
        refine j_iconst (v := 1) C dX3_goesBy_53 rfl ?_
        refine j_iadd C dX3_goesBy_54 ?_
        obtain ⟨hgd, hF⟩ := hF
        refine jmS1 C hg hgd dX3_goesBy_55 ?_
        obtain ⟨S_6, eS_6, hF⟩ := nm_intro hF
        refine m_J eS_6 ?_
        refine j_aload_n C dX3_goesBy_56 rfl 1 rfl ?_
        refine jmG1 C dX3_goesBy_57 ?_
        refine j_bipush (v := 6) C dX3_goesBy_60 rfl ?_
        refine j_bipush (v := 6) C dX3_goesBy_62 rfl ?_
        refine j_iload_n C dX3_goesBy_64 rfl 2 rfl ?_
        refine j_imul C dX3_goesBy_65 ?_
        refine j_iadd C dX3_goesBy_66 ?_
        refine j_iload_n C dX3_goesBy_67 rfl 0 rfl ?_
        refine j_iadd C dX3_goesBy_68 ?_
        refine j_aload_n C dX3_goesBy_69 rfl 1 rfl ?_
        refine j_iload_n C dX3_goesBy_70 rfl 2 rfl ?_
        refine j_iload_n C dX3_goesBy_71 rfl 0 rfl ?_
        refine jm_calli (As := [.int z1, .int (S 1 (Int32.toNatClampNeg (84 + z1)))]) (rest := [.int ((6 + (6 * z1)) + (S 1 (Int32.toNatClampNeg (84 + z1)))), .ref (g 1)]) C (M_mc G l hG h g hg S_6 z1 (S 1 (Int32.toNatClampNeg (84 + z1))) _ hF) q2003 cal_mc rfl rfl (Nat.le_of_ble_eq_true rfl) ⟨Nat.le_of_ble_eq_true rfl, Nat.le_of_ble_eq_true rfl⟩ dX3_goesBy_72 (fun r_8 S_7 hF => ?_)
        refine j_if_ne (tgt := 82) C dX3_goesBy_75 (by decide) (fun hc_9 => ?_) (fun hc_9 => ?_)
        · replace hF := hF.2 hc_9
          refine j_aload_n C dX3_goesBy_82 rfl 1 rfl ?_
          refine j_iload_n C dX3_goesBy_83 rfl 2 rfl ?_
          refine j_iload_n C dX3_goesBy_84 rfl 0 rfl ?_
          refine jm_calli (As := [.int z1, .int (S 1 (Int32.toNatClampNeg (84 + z1)))]) (rest := [.int ((6 + (6 * z1)) + (S 1 (Int32.toNatClampNeg (84 + z1)))), .ref (g 1)]) C (M_mc G l hG h g hg S_7 z1 (S 1 (Int32.toNatClampNeg (84 + z1))) _ hF) q2003 cal_mc rfl rfl (Nat.le_of_ble_eq_true rfl) ⟨Nat.le_of_ble_eq_true rfl, Nat.le_of_ble_eq_true rfl⟩ dX3_goesBy_85 (fun r_11 S_10 hF => ?_)
          refine j_iconst (v := 1) C dX3_goesBy_88 rfl ?_
          refine j_isub C dX3_goesBy_89 ?_
          obtain ⟨hgd, hF⟩ := hF
          refine jmS1 C hg hgd dX3_goesBy_90 ?_
          obtain ⟨S_12, eS_12, hF⟩ := nm_intro hF
          refine m_J eS_12 ?_
          refine j_iinc (q := 2) (v := z1 + 1) (L2 := [(1, .int (z1 + 1)), (2, .int (S 1 (Int32.toNatClampNeg (84 + z1)))), (0, .ref (g 0))]) C dX3_goesBy_91 rfl rfl (by decide) rfl ?_
          refine j_goto (tgt := 10) C dX3_goesBy_94 (by decide) ?_
          exact J.locals [2, 0] (ih _ _ hF) rfl
        · replace hF := hF.1 hc_9
          refine j_iconst (v := 0) C dX3_goesBy_78 rfl ?_
          refine j_goto (tgt := 90) C dX3_goesBy_79 (by decide) ?_
          obtain ⟨hgd, hF⟩ := hF
          refine jmS1 C hg hgd dX3_goesBy_90 ?_
          obtain ⟨S_13, eS_13, hF⟩ := nm_intro hF
          refine m_J eS_13 ?_
          refine j_iinc (q := 2) (v := z1 + 1) (L2 := [(1, .int (z1 + 1)), (2, .int (S 1 (Int32.toNatClampNeg (84 + z1)))), (0, .ref (g 0))]) C dX3_goesBy_91 rfl rfl (by decide) rfl ?_
          refine j_goto (tgt := 10) C dX3_goesBy_94 (by decide) ?_
          exact J.locals [2, 0] (ih _ _ hF) rfl
      · replace hF := hF.1 hc_5
        refine j_goto (tgt := 91) C dX3_goesBy_35 (by decide) ?_
        refine j_iinc (q := 2) (v := z1 + 1) (L2 := [(1, .int (z1 + 1)), (2, .int (S 1 (Int32.toNatClampNeg (84 + z1)))), (0, .ref (g 0))]) C dX3_goesBy_91 rfl rfl (by decide) rfl ?_
        refine j_goto (tgt := 10) C dX3_goesBy_94 (by decide) ?_
        exact J.locals [2, 0] (ih _ _ hF) rfl
set_option maxHeartbeats 4000000 in
theorem M_mgoesBy (G : GT) (l : Launch) (hG : GOK G) (h : AH) (g : Nat → Nat) (hg : Mg G g) (S : MS) (P : Int32 → MS → Prop) (hF : F_mgoesBy S P) : MMi G l yX3_goesBy cX3_goesBy 3 .boolean 2 44 [.ref (g 0)] h g S P := by
  refine MT.mk (own := RX3) (by decide) rfl hG (Nat.le_of_ble_eq_true rfl) ?_
  intro p e s m below meth c args Q hargs hQ C _
  refine J.loca (L2 := [(0, .ref (g 0))]) rfl ?_
  unfold F_mgoesBy at hF
  refine j_aload_n C dX3_goesBy_0 rfl 0 rfl ?_
  refine j_aload_n C dX3_goesBy_1 rfl 0 rfl ?_
  refine jm_calli (As := []) (rest := [.ref (g 0)]) C (M_mpairCost G l hG h g hg S _ hF) q2112 cal_mpairCost rfl rfl (Nat.le_of_ble_eq_true rfl) ⟨Nat.le_of_ble_eq_true rfl, Nat.le_of_ble_eq_true rfl⟩ dX3_goesBy_2 (fun r_2 S_1 hF => ?_)
  refine jmP4 C hg dX3_goesBy_5 ?_
  obtain ⟨S_3, eS_3, hF⟩ := nm_intro hF
  refine m_J eS_3 ?_
  refine j_iconst (v := 0) C dX3_goesBy_8 rfl ?_
  refine j_istore_n (L2 := [(1, .int 0), (0, .ref (g 0))]) C dX3_goesBy_9 rfl (by decide) rfl ?_
  refine J.locals [1, 0] (WL_mgoesBy_10 C hG hg hQ ?_ NF _ _ hF) rfl
  · intro S_14 hF
    refine j_aload_n C dX3_goesBy_97 rfl 0 rfl ?_
    refine j_iconst (v := 0) C dX3_goesBy_98 rfl ?_
    refine jm_callv (As := [.int 0]) (rest := []) C (M_mallFree G l hG h g hg S_14 0 _ hF) q1968 cal_mallFree rfl rfl (Nat.le_of_ble_eq_true rfl) ⟨Nat.le_of_ble_eq_true rfl, Nat.le_of_ble_eq_true rfl⟩ dX3_goesBy_99 (fun S_15 hF => ?_)
    refine j_aload_n C dX3_goesBy_102 rfl 0 rfl ?_
    refine jmG1 C dX3_goesBy_103 ?_
    refine j_iconst (v := 2) C dX3_goesBy_106 rfl ?_
    refine j_dup2 C dX3_goesBy_107 rfl rfl ?_
    obtain ⟨hgd, hF⟩ := hF
    refine jmL1 C hg hgd dX3_goesBy_108 ?_
    refine j_iconst (v := 1) C dX3_goesBy_109 rfl ?_
    refine j_iadd C dX3_goesBy_110 ?_
    obtain ⟨hgd, hF⟩ := hF
    refine jmS1 C hg hgd dX3_goesBy_111 ?_
    obtain ⟨S_16, eS_16, hF⟩ := nm_intro hF
    refine m_J eS_16 ?_
    refine j_iconst (v := 1) C dX3_goesBy_112 rfl ?_
    rw [hQ]
    exact j_iret C rfl ⟨_, _, rfl, rfl, hF⟩ dX3_goesBy_113
theorem cal_mdoes : CalV yX3_does RX3 cX3_does 4 (some .boolean) 1 := ⟨q2232, qs87, q101, q2233, by decide +kernel⟩
def F_mdoes (S : MS) (x1 : Int32) (P : Int32 → MS → Prop) : Prop := (vp_in (x1 + 1) 244) ∧ ((vp_in (x1 + 2) 244) ∧ ((vp_in x1 244) ∧ (jn (α := MS → Prop) (fun S_2 => F_mgoesBy S_2 (fun r_4 S_3 => (narrow .boolean (.int r_4) = .int r_4) ∧ P r_4 S_3)) (fun K_1 => ((S 5 (Int32.toNatClampNeg (x1))) = 97 → F_mcomes S 0 (fun r_7 S_6 => (narrow .boolean (.int r_7) = .int r_7) ∧ P r_7 S_6)) ∧ (¬ (S 5 (Int32.toNatClampNeg (x1))) = 97 → ((S 5 (Int32.toNatClampNeg (x1))) = 98 → F_mbars S (S 5 (Int32.toNatClampNeg (x1 + 1))) (S 5 (Int32.toNatClampNeg (x1 + 2))) (fun r_10 S_9 => (narrow .boolean (.int r_10) = .int r_10) ∧ P r_10 S_9)) ∧ (¬ (S 5 (Int32.toNatClampNeg (x1))) = 98 → ((S 5 (Int32.toNatClampNeg (x1))) = 99 → (vp_in (x1 + 3) 244) ∧ (F_mcosts S (S 5 (Int32.toNatClampNeg (x1 + 1))) (S 5 (Int32.toNatClampNeg (x1 + 2))) (S 5 (Int32.toNatClampNeg (x1 + 3))) (fun r_13 S_12 => (narrow .boolean (.int r_13) = .int r_13) ∧ P r_13 S_12))) ∧ (¬ (S 5 (Int32.toNatClampNeg (x1))) = 99 → ((S 5 (Int32.toNatClampNeg (x1))) = 100 → K_1 S) ∧ (¬ (S 5 (Int32.toNatClampNeg (x1))) = 100 → ((S 5 (Int32.toNatClampNeg (x1))) = 101 → K_1 S) ∧ (¬ (S 5 (Int32.toNatClampNeg (x1))) = 101 → ((S 5 (Int32.toNatClampNeg (x1))) = 102 → K_1 S) ∧ (¬ (S 5 (Int32.toNatClampNeg (x1))) = 102 → ((S 5 (Int32.toNatClampNeg (x1))) = 103 → K_1 S) ∧ (¬ (S 5 (Int32.toNatClampNeg (x1))) = 103 → ((S 5 (Int32.toNatClampNeg (x1))) = 104 → K_1 S) ∧ (¬ (S 5 (Int32.toNatClampNeg (x1))) = 104 → ((S 5 (Int32.toNatClampNeg (x1))) = 105 → F_mbidsOnce S (fun r_21 S_20 => (narrow .boolean (.int r_21) = .int r_21) ∧ P r_21 S_20)) ∧ (¬ (S 5 (Int32.toNatClampNeg (x1))) = 105 → ((S 5 (Int32.toNatClampNeg (x1))) = 106 → K_1 S) ∧ (¬ (S 5 (Int32.toNatClampNeg (x1))) = 106 → ((S 5 (Int32.toNatClampNeg (x1))) = 107 → K_1 S) ∧ (¬ (S 5 (Int32.toNatClampNeg (x1))) = 107 → ((S 5 (Int32.toNatClampNeg (x1))) = 108 → F_mleaves S (S 5 (Int32.toNatClampNeg (x1 + 1))) (fun r_26 S_25 => (narrow .boolean (.int r_26) = .int r_26) ∧ P r_26 S_25)) ∧ (¬ (S 5 (Int32.toNatClampNeg (x1))) = 108 → ((S 5 (Int32.toNatClampNeg (x1))) = 109 → F_mcomes S 1 (fun r_29 S_28 => (narrow .boolean (.int r_29) = .int r_29) ∧ P r_29 S_28)) ∧ (¬ (S 5 (Int32.toNatClampNeg (x1))) = 109 → ((S 5 (Int32.toNatClampNeg (x1))) = 110 → K_1 S) ∧ (¬ (S 5 (Int32.toNatClampNeg (x1))) = 110 → ((S 5 (Int32.toNatClampNeg (x1))) = 111 → K_1 S) ∧ (¬ (S 5 (Int32.toNatClampNeg (x1))) = 111 → ((S 5 (Int32.toNatClampNeg (x1))) = 112 → K_1 S) ∧ (¬ (S 5 (Int32.toNatClampNeg (x1))) = 112 → ((S 5 (Int32.toNatClampNeg (x1))) = 113 → K_1 S) ∧ (¬ (S 5 (Int32.toNatClampNeg (x1))) = 113 → ((S 5 (Int32.toNatClampNeg (x1))) = 114 → K_1 S) ∧ (¬ (S 5 (Int32.toNatClampNeg (x1))) = 114 → ((S 5 (Int32.toNatClampNeg (x1))) = 115 → F_msettlesNow S (fun r_37 S_36 => (narrow .boolean (.int r_37) = .int r_37) ∧ P r_37 S_36)) ∧ (¬ (S 5 (Int32.toNatClampNeg (x1))) = 115 → K_1 S)))))))))))))))))))))))
set_option maxHeartbeats 4000000 in
theorem M_mdoes (G : GT) (l : Launch) (hG : GOK G) (h : AH) (g : Nat → Nat) (hg : Mg G g) (S : MS) (x1 : Int32) (P : Int32 → MS → Prop) (hF : F_mdoes S x1 P) : MMi G l yX3_does cX3_does 4 .boolean 14 331 [.ref (g 0), .int x1] h g S P := by
  refine MT.mk (own := RX3) (by decide) rfl hG (Nat.le_of_ble_eq_true rfl) ?_
  intro p e s m below meth c args Q hargs hQ C _
  refine J.loca (L2 := [(0, .ref (g 0)), (1, .int x1)]) rfl ?_
  unfold F_mdoes at hF
  refine j_aload_n C dX3_does_0 rfl 0 rfl ?_
  refine jmG19 C dX3_does_1 ?_
  refine j_iload_n C dX3_does_4 rfl 1 rfl ?_
  refine j_iconst (v := 1) C dX3_does_5 rfl ?_
  refine j_iadd C dX3_does_6 ?_
  obtain ⟨hgd, hF⟩ := hF
  refine jmL5 C hg hgd dX3_does_7 ?_
  refine j_istore_n (L2 := [(2, .int (S 5 (Int32.toNatClampNeg (x1 + 1)))), (0, .ref (g 0)), (1, .int x1)]) C dX3_does_8 rfl (by decide) rfl ?_
  refine j_aload_n C dX3_does_9 rfl 1 rfl ?_
  refine jmG19 C dX3_does_10 ?_
  refine j_iload_n C dX3_does_13 rfl 2 rfl ?_
  refine j_iconst (v := 2) C dX3_does_14 rfl ?_
  refine j_iadd C dX3_does_15 ?_
  obtain ⟨hgd, hF⟩ := hF
  refine jmL5 C hg hgd dX3_does_16 ?_
  refine j_istore_n (L2 := [(3, .int (S 5 (Int32.toNatClampNeg (x1 + 2)))), (2, .int (S 5 (Int32.toNatClampNeg (x1 + 1)))), (0, .ref (g 0)), (1, .int x1)]) C dX3_does_17 rfl (by decide) rfl ?_
  refine j_aload_n C dX3_does_18 rfl 2 rfl ?_
  refine jmG19 C dX3_does_19 ?_
  refine j_iload_n C dX3_does_22 rfl 3 rfl ?_
  obtain ⟨hgd, hF⟩ := hF
  refine jmL5 C hg hgd dX3_does_23 ?_
  obtain ⟨K_1, hK_1, hF⟩ := jn_intro (M := fun (K : MS → Prop) => ∀ (S_2 : MS), K S_2 → J G p l e ({ frames := 14, cells := 0, slots := 0, locals := 331 } : Room) s m args below meth c 4 Q 0 0 (MH G.2.2.1 h g S_2) 166 [(0, .ref (g 0))] []) (hk := by
      intro S_2 hF
      refine j_aload_n C dX3_does_166 rfl 0 rfl ?_
      refine jm_calli (As := []) (rest := []) C (M_mgoesBy G l hG h g hg S_2 _ hF) q2108 cal_mgoesBy rfl rfl (Nat.le_of_ble_eq_true rfl) ⟨Nat.le_of_ble_eq_true rfl, Nat.le_of_ble_eq_true rfl⟩ dX3_does_167 (fun r_4 S_3 hF => ?_)
      rw [hQ]
      exact j_iret C hF.1 ⟨_, _, rfl, rfl, hF.2⟩ dX3_does_170) hF
  by_cases hc_5 : (S 5 (Int32.toNatClampNeg (x1))) = 97
  · replace hF := hF.1 hc_5
    refine j_tableIn (tgt := 116) C dX3_does_24 (by rw [hc_5]; decide) (by rw [hc_5]; decide) (by rw [hc_5]; rfl) (by decide) ?_
    refine j_aload_n C dX3_does_116 rfl 2 rfl ?_
    refine j_iconst (v := 0) C dX3_does_117 rfl ?_
    refine jm_calli (As := [.int 0]) (rest := []) C (M_mcomes G l hG h g hg S 0 _ hF) q1960 cal_mcomes rfl rfl (Nat.le_of_ble_eq_true rfl) ⟨Nat.le_of_ble_eq_true rfl, Nat.le_of_ble_eq_true rfl⟩ dX3_does_118 (fun r_7 S_6 hF => ?_)
    rw [hQ]
    exact j_iret C hF.1 ⟨_, _, rfl, rfl, hF.2⟩ dX3_does_121
  replace hF := hF.2 hc_5
  by_cases hc_8 : (S 5 (Int32.toNatClampNeg (x1))) = 98
  · replace hF := hF.1 hc_8
    refine j_tableIn (tgt := 143) C dX3_does_24 (by rw [hc_8]; decide) (by rw [hc_8]; decide) (by rw [hc_8]; rfl) (by decide) ?_
    refine j_aload_n C dX3_does_143 rfl 2 rfl ?_
    refine j_iload_n C dX3_does_144 rfl 1 rfl ?_
    refine j_iload_n C dX3_does_145 rfl 0 rfl ?_
    refine jm_calli (As := [.int (S 5 (Int32.toNatClampNeg (x1 + 1))), .int (S 5 (Int32.toNatClampNeg (x1 + 2)))]) (rest := []) C (M_mbars G l hG h g hg S (S 5 (Int32.toNatClampNeg (x1 + 1))) (S 5 (Int32.toNatClampNeg (x1 + 2))) _ hF) q2011 cal_mbars rfl rfl (Nat.le_of_ble_eq_true rfl) ⟨Nat.le_of_ble_eq_true rfl, Nat.le_of_ble_eq_true rfl⟩ dX3_does_146 (fun r_10 S_9 hF => ?_)
    rw [hQ]
    exact j_iret C hF.1 ⟨_, _, rfl, rfl, hF.2⟩ dX3_does_149
  replace hF := hF.2 hc_8
  by_cases hc_11 : (S 5 (Int32.toNatClampNeg (x1))) = 99
  · replace hF := hF.1 hc_11
    refine j_tableIn (tgt := 128) C dX3_does_24 (by rw [hc_11]; decide) (by rw [hc_11]; decide) (by rw [hc_11]; rfl) (by decide) ?_
    refine j_aload_n C dX3_does_128 rfl 2 rfl ?_
    refine j_iload_n C dX3_does_129 rfl 1 rfl ?_
    refine j_iload_n C dX3_does_130 rfl 0 rfl ?_
    refine j_aload_n C dX3_does_131 rfl 2 rfl ?_
    refine jmG19 C dX3_does_132 ?_
    refine j_iload_n C dX3_does_135 rfl 3 rfl ?_
    refine j_iconst (v := 3) C dX3_does_136 rfl ?_
    refine j_iadd C dX3_does_137 ?_
    obtain ⟨hgd, hF⟩ := hF
    refine jmL5 C hg hgd dX3_does_138 ?_
    refine jm_calli (As := [.int (S 5 (Int32.toNatClampNeg (x1 + 1))), .int (S 5 (Int32.toNatClampNeg (x1 + 2))), .int (S 5 (Int32.toNatClampNeg (x1 + 3)))]) (rest := []) C (M_mcosts G l hG h g hg S (S 5 (Int32.toNatClampNeg (x1 + 1))) (S 5 (Int32.toNatClampNeg (x1 + 2))) (S 5 (Int32.toNatClampNeg (x1 + 3))) _ hF) q1984 cal_mcosts rfl rfl (Nat.le_of_ble_eq_true rfl) ⟨Nat.le_of_ble_eq_true rfl, Nat.le_of_ble_eq_true rfl⟩ dX3_does_139 (fun r_13 S_12 hF => ?_)
    rw [hQ]
    exact j_iret C hF.1 ⟨_, _, rfl, rfl, hF.2⟩ dX3_does_142
  replace hF := hF.2 hc_11
  by_cases hc_14 : (S 5 (Int32.toNatClampNeg (x1))) = 100
  · replace hF := hF.1 hc_14
    refine j_tableIn (tgt := 166) C dX3_does_24 (by rw [hc_14]; decide) (by rw [hc_14]; decide) (by rw [hc_14]; rfl) (by decide) ?_
    exact J.locals [2] (hK_1 _ hF) rfl
  replace hF := hF.2 hc_14
  by_cases hc_15 : (S 5 (Int32.toNatClampNeg (x1))) = 101
  · replace hF := hF.1 hc_15
    refine j_tableIn (tgt := 166) C dX3_does_24 (by rw [hc_15]; decide) (by rw [hc_15]; decide) (by rw [hc_15]; rfl) (by decide) ?_
    exact J.locals [2] (hK_1 _ hF) rfl
  replace hF := hF.2 hc_15
  by_cases hc_16 : (S 5 (Int32.toNatClampNeg (x1))) = 102
  · replace hF := hF.1 hc_16
    refine j_tableIn (tgt := 166) C dX3_does_24 (by rw [hc_16]; decide) (by rw [hc_16]; decide) (by rw [hc_16]; rfl) (by decide) ?_
    exact J.locals [2] (hK_1 _ hF) rfl
  replace hF := hF.2 hc_16
  by_cases hc_17 : (S 5 (Int32.toNatClampNeg (x1))) = 103
  · replace hF := hF.1 hc_17
    refine j_tableIn (tgt := 166) C dX3_does_24 (by rw [hc_17]; decide) (by rw [hc_17]; decide) (by rw [hc_17]; rfl) (by decide) ?_
    exact J.locals [2] (hK_1 _ hF) rfl
  replace hF := hF.2 hc_17
  by_cases hc_18 : (S 5 (Int32.toNatClampNeg (x1))) = 104
  · replace hF := hF.1 hc_18
    refine j_tableIn (tgt := 166) C dX3_does_24 (by rw [hc_18]; decide) (by rw [hc_18]; decide) (by rw [hc_18]; rfl) (by decide) ?_
    exact J.locals [2] (hK_1 _ hF) rfl
  replace hF := hF.2 hc_18
  by_cases hc_19 : (S 5 (Int32.toNatClampNeg (x1))) = 105
  · replace hF := hF.1 hc_19
    refine j_tableIn (tgt := 150) C dX3_does_24 (by rw [hc_19]; decide) (by rw [hc_19]; decide) (by rw [hc_19]; rfl) (by decide) ?_
    refine j_aload_n C dX3_does_150 rfl 2 rfl ?_
    refine jm_calli (As := []) (rest := []) C (M_mbidsOnce G l hG h g hg S _ hF) q2023 cal_mbidsOnce rfl rfl (Nat.le_of_ble_eq_true rfl) ⟨Nat.le_of_ble_eq_true rfl, Nat.le_of_ble_eq_true rfl⟩ dX3_does_151 (fun r_21 S_20 hF => ?_)
    rw [hQ]
    exact j_iret C hF.1 ⟨_, _, rfl, rfl, hF.2⟩ dX3_does_154
  replace hF := hF.2 hc_19
  by_cases hc_22 : (S 5 (Int32.toNatClampNeg (x1))) = 106
  · replace hF := hF.1 hc_22
    refine j_tableIn (tgt := 166) C dX3_does_24 (by rw [hc_22]; decide) (by rw [hc_22]; decide) (by rw [hc_22]; rfl) (by decide) ?_
    exact J.locals [2] (hK_1 _ hF) rfl
  replace hF := hF.2 hc_22
  by_cases hc_23 : (S 5 (Int32.toNatClampNeg (x1))) = 107
  · replace hF := hF.1 hc_23
    refine j_tableIn (tgt := 166) C dX3_does_24 (by rw [hc_23]; decide) (by rw [hc_23]; decide) (by rw [hc_23]; rfl) (by decide) ?_
    exact J.locals [2] (hK_1 _ hF) rfl
  replace hF := hF.2 hc_23
  by_cases hc_24 : (S 5 (Int32.toNatClampNeg (x1))) = 108
  · replace hF := hF.1 hc_24
    refine j_tableIn (tgt := 160) C dX3_does_24 (by rw [hc_24]; decide) (by rw [hc_24]; decide) (by rw [hc_24]; rfl) (by decide) ?_
    refine j_aload_n C dX3_does_160 rfl 2 rfl ?_
    refine j_iload_n C dX3_does_161 rfl 1 rfl ?_
    refine jm_calli (As := [.int (S 5 (Int32.toNatClampNeg (x1 + 1)))]) (rest := []) C (M_mleaves G l hG h g hg S (S 5 (Int32.toNatClampNeg (x1 + 1))) _ hF) q2100 cal_mleaves rfl rfl (Nat.le_of_ble_eq_true rfl) ⟨Nat.le_of_ble_eq_true rfl, Nat.le_of_ble_eq_true rfl⟩ dX3_does_162 (fun r_26 S_25 hF => ?_)
    rw [hQ]
    exact j_iret C hF.1 ⟨_, _, rfl, rfl, hF.2⟩ dX3_does_165
  replace hF := hF.2 hc_24
  by_cases hc_27 : (S 5 (Int32.toNatClampNeg (x1))) = 109
  · replace hF := hF.1 hc_27
    refine j_tableIn (tgt := 122) C dX3_does_24 (by rw [hc_27]; decide) (by rw [hc_27]; decide) (by rw [hc_27]; rfl) (by decide) ?_
    refine j_aload_n C dX3_does_122 rfl 2 rfl ?_
    refine j_iconst (v := 1) C dX3_does_123 rfl ?_
    refine jm_calli (As := [.int 1]) (rest := []) C (M_mcomes G l hG h g hg S 1 _ hF) q1960 cal_mcomes rfl rfl (Nat.le_of_ble_eq_true rfl) ⟨Nat.le_of_ble_eq_true rfl, Nat.le_of_ble_eq_true rfl⟩ dX3_does_124 (fun r_29 S_28 hF => ?_)
    rw [hQ]
    exact j_iret C hF.1 ⟨_, _, rfl, rfl, hF.2⟩ dX3_does_127
  replace hF := hF.2 hc_27
  by_cases hc_30 : (S 5 (Int32.toNatClampNeg (x1))) = 110
  · replace hF := hF.1 hc_30
    refine j_tableIn (tgt := 166) C dX3_does_24 (by rw [hc_30]; decide) (by rw [hc_30]; decide) (by rw [hc_30]; rfl) (by decide) ?_
    exact J.locals [2] (hK_1 _ hF) rfl
  replace hF := hF.2 hc_30
  by_cases hc_31 : (S 5 (Int32.toNatClampNeg (x1))) = 111
  · replace hF := hF.1 hc_31
    refine j_tableIn (tgt := 166) C dX3_does_24 (by rw [hc_31]; decide) (by rw [hc_31]; decide) (by rw [hc_31]; rfl) (by decide) ?_
    exact J.locals [2] (hK_1 _ hF) rfl
  replace hF := hF.2 hc_31
  by_cases hc_32 : (S 5 (Int32.toNatClampNeg (x1))) = 112
  · replace hF := hF.1 hc_32
    refine j_tableIn (tgt := 166) C dX3_does_24 (by rw [hc_32]; decide) (by rw [hc_32]; decide) (by rw [hc_32]; rfl) (by decide) ?_
    exact J.locals [2] (hK_1 _ hF) rfl
  replace hF := hF.2 hc_32
  by_cases hc_33 : (S 5 (Int32.toNatClampNeg (x1))) = 113
  · replace hF := hF.1 hc_33
    refine j_tableIn (tgt := 166) C dX3_does_24 (by rw [hc_33]; decide) (by rw [hc_33]; decide) (by rw [hc_33]; rfl) (by decide) ?_
    exact J.locals [2] (hK_1 _ hF) rfl
  replace hF := hF.2 hc_33
  by_cases hc_34 : (S 5 (Int32.toNatClampNeg (x1))) = 114
  · replace hF := hF.1 hc_34
    refine j_tableIn (tgt := 166) C dX3_does_24 (by rw [hc_34]; decide) (by rw [hc_34]; decide) (by rw [hc_34]; rfl) (by decide) ?_
    exact J.locals [2] (hK_1 _ hF) rfl
  replace hF := hF.2 hc_34
  by_cases hc_35 : (S 5 (Int32.toNatClampNeg (x1))) = 115
  · replace hF := hF.1 hc_35
    refine j_tableIn (tgt := 155) C dX3_does_24 (by rw [hc_35]; decide) (by rw [hc_35]; decide) (by rw [hc_35]; rfl) (by decide) ?_
    refine j_aload_n C dX3_does_155 rfl 2 rfl ?_
    refine jm_calli (As := []) (rest := []) C (M_msettlesNow G l hG h g hg S _ hF) q2060 cal_msettlesNow rfl rfl (Nat.le_of_ble_eq_true rfl) ⟨Nat.le_of_ble_eq_true rfl, Nat.le_of_ble_eq_true rfl⟩ dX3_does_156 (fun r_37 S_36 hF => ?_)
    rw [hQ]
    exact j_iret C hF.1 ⟨_, _, rfl, rfl, hF.2⟩ dX3_does_159
  replace hF := hF.2 hc_35
  refine j_tableOut (tgt := 166) C dX3_does_24 (sw_out (by decide) (by decide) (fun k hk => by
      rcases (show k = 0 ∨ k = 1 ∨ k = 2 ∨ k = 3 ∨ k = 4 ∨ k = 5 ∨ k = 6 ∨ k = 7 ∨ k = 8 ∨ k = 9 ∨ k = 10 ∨ k = 11 ∨ k = 12 ∨ k = 13 ∨ k = 14 ∨ k = 15 ∨ k = 16 ∨ k = 17 ∨ k = 18 by omega) with rfl | rfl | rfl | rfl | rfl | rfl | rfl | rfl | rfl | rfl | rfl | rfl | rfl | rfl | rfl | rfl | rfl | rfl | rfl
      · exact hc_5
      · exact hc_8
      · exact hc_11
      · exact hc_14
      · exact hc_15
      · exact hc_16
      · exact hc_17
      · exact hc_18
      · exact hc_19
      · exact hc_22
      · exact hc_23
      · exact hc_24
      · exact hc_27
      · exact hc_30
      · exact hc_31
      · exact hc_32
      · exact hc_33
      · exact hc_34
      · exact hc_35)) (by decide) ?_
  exact J.locals [2] (hK_1 _ hF) rfl
theorem cal_mfaultPosition : CalV yX3_faultPosition RX3 cX3_faultPosition 1 (some .int) 0 := ⟨q2235, q2236, q101, q2237, by decide +kernel⟩
def F_mfaultPosition (S : MS) (P : Int32 → MS → Prop) : Prop := jn (α := MS → Int32 → Prop) (fun S_2 t_3 => F_misThere S_2 t_3 (fun r_5 S_4 => (r_5 = 0 → P 0 S_4) ∧ (¬ r_5 = 0 → P (S_4 0 18) S_4))) (fun K_1 => ((S 0 18) = (-1) → K_1 S 0) ∧ (¬ (S 0 18) = (-1) → K_1 S 1))
set_option maxHeartbeats 4000000 in
theorem M_mfaultPosition (G : GT) (l : Launch) (hG : GOK G) (h : AH) (g : Nat → Nat) (hg : Mg G g) (S : MS) (P : Int32 → MS → Prop) (hF : F_mfaultPosition S P) : MMi G l yX3_faultPosition cX3_faultPosition 1 .int 1 21 [.ref (g 0)] h g S P := by
  refine MT.mk (own := RX3) (by decide) rfl hG (Nat.le_of_ble_eq_true rfl) ?_
  intro p e s m below meth c args Q hargs hQ C _
  refine J.loca (L2 := [(0, .ref (g 0))]) rfl ?_
  unfold F_mfaultPosition at hF
  refine j_aload_n C dX3_faultPosition_0 rfl 0 rfl ?_
  refine j_aload_n C dX3_faultPosition_1 rfl 0 rfl ?_
  refine jmG18 C dX3_faultPosition_2 ?_
  refine j_iconst (v := (-1)) C dX3_faultPosition_5 rfl ?_
  obtain ⟨K_1, hK_1, hF⟩ := jn_intro (M := fun (K : MS → Int32 → Prop) => ∀ (S_2 : MS) (t_3 : Int32), K S_2 t_3 → J G p l e ({ frames := 1, cells := 0, slots := 0, locals := 21 } : Room) s m args below meth c 1 Q 0 0 (MH G.2.2.1 h g S_2) 14 [(0, .ref (g 0))] [.int t_3, .ref (g 0)]) (hk := by
      intro S_2 t_3 hF
      refine jm_calli (As := [.int t_3]) (rest := []) C (M_misThere G l hG h g hg S_2 t_3 _ hF) q1944 cal_misThere rfl rfl (Nat.le_of_ble_eq_true rfl) ⟨Nat.le_of_ble_eq_true rfl, Nat.le_of_ble_eq_true rfl⟩ dX3_faultPosition_14 (fun r_5 S_4 hF => ?_)
      refine j_if_eq (tgt := 27) C dX3_faultPosition_17 (by decide) (fun hc_6 => ?_) (fun hc_6 => ?_)
      · replace hF := hF.1 hc_6
        refine j_iconst (v := 0) C dX3_faultPosition_27 rfl ?_
        rw [hQ]
        exact j_iret C rfl ⟨_, _, rfl, rfl, hF⟩ dX3_faultPosition_28
      · replace hF := hF.2 hc_6
        refine j_aload_n C dX3_faultPosition_20 rfl 0 rfl ?_
        refine jmG18 C dX3_faultPosition_21 ?_
        refine j_goto (tgt := 28) C dX3_faultPosition_24 (by decide) ?_
        rw [hQ]
        exact j_iret C rfl ⟨_, _, rfl, rfl, hF⟩ dX3_faultPosition_28) hF
  refine j_icmp_eq (tgt := 13) C dX3_faultPosition_6 (by decide) (fun hc_7 => ?_) (fun hc_7 => ?_)
  · replace hF := hF.1 hc_7
    refine j_iconst (v := 0) C dX3_faultPosition_13 rfl ?_
    exact J.locals [0] (hK_1 _ _ hF) rfl
  · replace hF := hF.2 hc_7
    refine j_iconst (v := 1) C dX3_faultPosition_9 rfl ?_
    refine j_goto (tgt := 14) C dX3_faultPosition_10 (by decide) ?_
    exact J.locals [0] (hK_1 _ _ hF) rfl
theorem cal_mfeed : CalV yX3_feed RX3 cX3_feed 2 (some .int) 1 := ⟨q2195, q2196, q101, q2197, by decide +kernel⟩
def F_mfeed (S : MS) (x1 : Int32) (P : Int32 → MS → Prop) : Prop := jn (α := MS → Int32 → Prop) (fun S_2 t_3 => F_misThere S_2 t_3 (fun r_5 S_4 => (r_5 = 0 → P 0 S_4) ∧ (¬ r_5 = 0 → (vp_in (S_4 0 15) 60) ∧ (nm (sput S_4 4 (Int32.toNatClampNeg (S_4 0 15)) (vp_nar .char x1)) (fun S_7 => nm (sput S_7 0 15 ((S_7 0 15) + 1)) (fun S_8 => P (S_8 0 15) S_8)))))) (fun K_1 => (60 ≤ (S 0 15) → K_1 S 0) ∧ (¬ 60 ≤ (S 0 15) → K_1 S 1))
set_option maxHeartbeats 4000000 in
theorem M_mfeed (G : GT) (l : Launch) (hG : GOK G) (h : AH) (g : Nat → Nat) (hg : Mg G g) (S : MS) (x1 : Int32) (P : Int32 → MS → Prop) (hF : F_mfeed S x1 P) : MMi G l yX3_feed cX3_feed 2 .int 1 21 [.ref (g 0), .int x1] h g S P := by
  refine MT.mk (own := RX3) (by decide) rfl hG (Nat.le_of_ble_eq_true rfl) ?_
  intro p e s m below meth c args Q hargs hQ C _
  refine J.loca (L2 := [(0, .ref (g 0)), (1, .int x1)]) rfl ?_
  unfold F_mfeed at hF
  refine j_aload_n C dX3_feed_0 rfl 0 rfl ?_
  refine j_aload_n C dX3_feed_1 rfl 0 rfl ?_
  refine jmG15 C dX3_feed_2 ?_
  refine j_bipush (v := 60) C dX3_feed_5 rfl ?_
  obtain ⟨K_1, hK_1, hF⟩ := jn_intro (M := fun (K : MS → Int32 → Prop) => ∀ (S_2 : MS) (t_3 : Int32), K S_2 t_3 → J G p l e ({ frames := 1, cells := 0, slots := 0, locals := 21 } : Room) s m args below meth c 2 Q 0 0 (MH G.2.2.1 h g S_2) 15 [(0, .ref (g 0)), (1, .int x1)] [.int t_3, .ref (g 0)]) (hk := by
      intro S_2 t_3 hF
      refine jm_calli (As := [.int t_3]) (rest := []) C (M_misThere G l hG h g hg S_2 t_3 _ hF) q1944 cal_misThere rfl rfl (Nat.le_of_ble_eq_true rfl) ⟨Nat.le_of_ble_eq_true rfl, Nat.le_of_ble_eq_true rfl⟩ dX3_feed_15 (fun r_5 S_4 hF => ?_)
      refine j_if_ne (tgt := 23) C dX3_feed_18 (by decide) (fun hc_6 => ?_) (fun hc_6 => ?_)
      · replace hF := hF.2 hc_6
        refine j_aload_n C dX3_feed_23 rfl 0 rfl ?_
        refine jmG14 C dX3_feed_24 ?_
        refine j_aload_n C dX3_feed_27 rfl 0 rfl ?_
        refine jmG15 C dX3_feed_28 ?_
        refine j_iload_n C dX3_feed_31 rfl 1 rfl ?_
        obtain ⟨hgd, hF⟩ := hF
        refine jmS4 C hg hgd dX3_feed_32 ?_
        obtain ⟨S_7, eS_7, hF⟩ := nm_intro hF
        refine m_J eS_7 ?_
        refine j_aload_n C dX3_feed_33 rfl 0 rfl ?_
        refine j_dup C dX3_feed_34 rfl ?_
        refine jmG15 C dX3_feed_35 ?_
        refine j_iconst (v := 1) C dX3_feed_38 rfl ?_
        refine j_iadd C dX3_feed_39 ?_
        refine jmP15 C hg dX3_feed_40 ?_
        obtain ⟨S_8, eS_8, hF⟩ := nm_intro hF
        refine m_J eS_8 ?_
        refine j_aload_n C dX3_feed_43 rfl 0 rfl ?_
        refine jmG15 C dX3_feed_44 ?_
        rw [hQ]
        exact j_iret C rfl ⟨_, _, rfl, rfl, hF⟩ dX3_feed_47
      · replace hF := hF.1 hc_6
        refine j_iconst (v := 0) C dX3_feed_21 rfl ?_
        rw [hQ]
        exact j_iret C rfl ⟨_, _, rfl, rfl, hF⟩ dX3_feed_22) hF
  refine j_icmp_ge (tgt := 14) C dX3_feed_7 (by decide) (fun hc_9 => ?_) (fun hc_9 => ?_)
  · replace hF := hF.1 hc_9
    refine j_iconst (v := 0) C dX3_feed_14 rfl ?_
    exact J.locals [0, 1] (hK_1 _ _ hF) rfl
  · replace hF := hF.2 hc_9
    refine j_iconst (v := 1) C dX3_feed_10 rfl ?_
    refine j_goto (tgt := 15) C dX3_feed_11 (by decide) ?_
    exact J.locals [0, 1] (hK_1 _ _ hF) rfl
theorem cal_misBalanced : CalV yX3_isBalanced RX3 cX3_isBalanced 1 (some .boolean) 0 := ⟨q2279, q2280, q101, q2281, by decide +kernel⟩
def F_misBalanced (S : MS) (P : Int32 → MS → Prop) : Prop := nm (sput S 0 0 0) (fun S_1 => P 1 S_1)
set_option maxHeartbeats 4000000 in
theorem M_misBalanced (G : GT) (l : Launch) (hG : GOK G) (h : AH) (g : Nat → Nat) (hg : Mg G g) (S : MS) (P : Int32 → MS → Prop) (hF : F_misBalanced S P) : MMi G l yX3_isBalanced cX3_isBalanced 1 .boolean 0 0 [.ref (g 0)] h g S P := by
  refine MT.mk (own := RX3) (by decide) rfl hG (Nat.le_of_ble_eq_true rfl) ?_
  intro p e s m below meth c args Q hargs hQ C _
  refine J.loca (L2 := [(0, .ref (g 0))]) rfl ?_
  unfold F_misBalanced at hF
  refine j_aload_n C dX3_isBalanced_0 rfl 0 rfl ?_
  refine j_iconst (v := 0) C dX3_isBalanced_1 rfl ?_
  refine jmP0 C hg dX3_isBalanced_2 ?_
  obtain ⟨S_1, eS_1, hF⟩ := nm_intro hF
  refine m_J eS_1 ?_
  refine j_iconst (v := 1) C dX3_isBalanced_5 rfl ?_
  rw [hQ]
  exact j_iret C rfl ⟨_, _, rfl, rfl, hF⟩ dX3_isBalanced_6
theorem cal_misNeeded : CalV yX3_isNeeded RX3 cX3_isNeeded 5 (some .boolean) 2 := ⟨q2170, q2171, q101, q2172, by decide +kernel⟩
def F_misNeeded (S : MS) (x1 : Int32) (x2 : Int32) (P : Int32 → MS → Prop) : Prop := F_mareThere S x1 x2 (fun r_2 S_1 => (r_2 = 0 → P 0 S_1) ∧ (¬ r_2 = 0 → F_mlooks S_1 (fun S_4 => ((S_4 0 11) = 0 → P 0 S_4) ∧ (¬ (S_4 0 11) = 0 → F_mlooksWith S_4 x1 x2 (fun S_6 => ((S_6 0 11) ≤ 0 → P 0 S_6) ∧ (¬ (S_6 0 11) ≤ 0 → ((S_6 0 13) = (S_4 0 13) → ((S_6 0 12) = (S_4 0 12) → P 1 S_6) ∧ (¬ (S_6 0 12) = (S_4 0 12) → P 0 S_6)) ∧ (¬ (S_6 0 13) = (S_4 0 13) → P 0 S_6)))))))
set_option maxHeartbeats 4000000 in
theorem M_misNeeded (G : GT) (l : Launch) (hG : GOK G) (h : AH) (g : Nat → Nat) (hg : Mg G g) (S : MS) (x1 : Int32) (x2 : Int32) (P : Int32 → MS → Prop) (hF : F_misNeeded S x1 x2 P) : MMi G l yX3_isNeeded cX3_isNeeded 5 .boolean 13 311 [.ref (g 0), .int x1, .int x2] h g S P := by
  refine MT.mk (own := RX3) (by decide) rfl hG (Nat.le_of_ble_eq_true rfl) ?_
  intro p e s m below meth c args Q hargs hQ C _
  refine J.loca (L2 := [(0, .ref (g 0)), (1, .int x1), (2, .int x2)]) rfl ?_
  unfold F_misNeeded at hF
  refine j_aload_n C dX3_isNeeded_0 rfl 0 rfl ?_
  refine j_iload_n C dX3_isNeeded_1 rfl 1 rfl ?_
  refine j_iload_n C dX3_isNeeded_2 rfl 2 rfl ?_
  refine jm_calli (As := [.int x1, .int x2]) (rest := []) C (M_mareThere G l hG h g hg S x1 x2 _ hF) q2120 cal_mareThere rfl rfl (Nat.le_of_ble_eq_true rfl) ⟨Nat.le_of_ble_eq_true rfl, Nat.le_of_ble_eq_true rfl⟩ dX3_isNeeded_3 (fun r_2 S_1 hF => ?_)
  refine j_if_ne (tgt := 11) C dX3_isNeeded_6 (by decide) (fun hc_3 => ?_) (fun hc_3 => ?_)
  · replace hF := hF.2 hc_3
    refine j_aload_n C dX3_isNeeded_11 rfl 0 rfl ?_
    refine jm_callv (As := []) (rest := []) C (M_mlooks G l hG h g hg S_1 _ hF) q2064 cal_mlooks rfl rfl (Nat.le_of_ble_eq_true rfl) ⟨Nat.le_of_ble_eq_true rfl, Nat.le_of_ble_eq_true rfl⟩ dX3_isNeeded_12 (fun S_4 hF => ?_)
    refine j_aload_n C dX3_isNeeded_15 rfl 0 rfl ?_
    refine jmG13 C dX3_isNeeded_16 ?_
    refine j_istore_n (L2 := [(3, .int (S_4 0 13)), (0, .ref (g 0)), (1, .int x1), (2, .int x2)]) C dX3_isNeeded_19 rfl (by decide) rfl ?_
    refine j_aload_n C dX3_isNeeded_20 rfl 1 rfl ?_
    refine jmG12 C dX3_isNeeded_21 ?_
    refine j_istore (L2 := [(4, .int (S_4 0 12)), (3, .int (S_4 0 13)), (0, .ref (g 0)), (1, .int x1), (2, .int x2)]) C dX3_isNeeded_24 (by decide) rfl ?_
    refine j_aload_n C dX3_isNeeded_26 rfl 2 rfl ?_
    refine jmG11 C dX3_isNeeded_27 ?_
    refine j_if_ne (tgt := 35) C dX3_isNeeded_30 (by decide) (fun hc_5 => ?_) (fun hc_5 => ?_)
    · replace hF := hF.2 hc_5
      refine j_aload_n C dX3_isNeeded_35 rfl 2 rfl ?_
      refine j_iload_n C dX3_isNeeded_36 rfl 3 rfl ?_
      refine j_iload_n C dX3_isNeeded_37 rfl 4 rfl ?_
      refine jm_callv (As := [.int x1, .int x2]) (rest := []) C (M_mlooksWith G l hG h g hg S_4 x1 x2 _ hF) q2068 cal_mlooksWith rfl rfl (Nat.le_of_ble_eq_true rfl) ⟨Nat.le_of_ble_eq_true rfl, Nat.le_of_ble_eq_true rfl⟩ dX3_isNeeded_38 (fun S_6 hF => ?_)
      refine j_aload_n C dX3_isNeeded_41 rfl 2 rfl ?_
      refine jmG11 C dX3_isNeeded_42 ?_
      refine j_if_le (tgt := 69) C dX3_isNeeded_45 (by decide) (fun hc_7 => ?_) (fun hc_7 => ?_)
      · replace hF := hF.1 hc_7
        refine j_iconst (v := 0) C dX3_isNeeded_69 rfl ?_
        rw [hQ]
        exact j_iret C rfl ⟨_, _, rfl, rfl, hF⟩ dX3_isNeeded_70
      · replace hF := hF.2 hc_7
        refine j_aload_n C dX3_isNeeded_48 rfl 2 rfl ?_
        refine jmG13 C dX3_isNeeded_49 ?_
        refine j_iload_n C dX3_isNeeded_52 rfl 1 rfl ?_
        refine j_icmp_ne (tgt := 69) C dX3_isNeeded_53 (by decide) (fun hc_8 => ?_) (fun hc_8 => ?_)
        · replace hF := hF.2 hc_8
          refine j_iconst (v := 0) C dX3_isNeeded_69 rfl ?_
          rw [hQ]
          exact j_iret C rfl ⟨_, _, rfl, rfl, hF⟩ dX3_isNeeded_70
        · replace hF := hF.1 hc_8
          refine j_aload_n C dX3_isNeeded_56 rfl 2 rfl ?_
          refine jmG12 C dX3_isNeeded_57 ?_
          refine j_iload C dX3_isNeeded_60 0 rfl ?_
          refine j_icmp_ne (tgt := 69) C dX3_isNeeded_62 (by decide) (fun hc_9 => ?_) (fun hc_9 => ?_)
          · replace hF := hF.2 hc_9
            refine j_iconst (v := 0) C dX3_isNeeded_69 rfl ?_
            rw [hQ]
            exact j_iret C rfl ⟨_, _, rfl, rfl, hF⟩ dX3_isNeeded_70
          · replace hF := hF.1 hc_9
            refine j_iconst (v := 1) C dX3_isNeeded_65 rfl ?_
            refine j_goto (tgt := 70) C dX3_isNeeded_66 (by decide) ?_
            rw [hQ]
            exact j_iret C rfl ⟨_, _, rfl, rfl, hF⟩ dX3_isNeeded_70
    · replace hF := hF.1 hc_5
      refine j_iconst (v := 0) C dX3_isNeeded_33 rfl ?_
      rw [hQ]
      exact j_iret C rfl ⟨_, _, rfl, rfl, hF⟩ dX3_isNeeded_34
  · replace hF := hF.1 hc_3
    refine j_iconst (v := 0) C dX3_isNeeded_9 rfl ?_
    rw [hQ]
    exact j_iret C rfl ⟨_, _, rfl, rfl, hF⟩ dX3_isNeeded_10
theorem cal_mleast : CalV yX3_least RX3 cX3_least 1 (some .int) 0 := ⟨q2157, q2158, q101, q2159, by decide +kernel⟩
def F_mleast (S : MS) (P : Int32 → MS → Prop) : Prop := F_mlooks S (fun S_1 => jn (α := MS → Int32 → Prop) (fun S_3 t_4 => F_misThere S_3 t_4 (fun r_6 S_5 => (r_6 = 0 → P 0 S_5) ∧ (¬ r_6 = 0 → P (S_5 0 13) S_5))) (fun K_2 => ((S_1 0 11) ≤ 0 → K_2 S_1 0) ∧ (¬ (S_1 0 11) ≤ 0 → K_2 S_1 1)))
set_option maxHeartbeats 4000000 in
theorem M_mleast (G : GT) (l : Launch) (hG : GOK G) (h : AH) (g : Nat → Nat) (hg : Mg G g) (S : MS) (P : Int32 → MS → Prop) (hF : F_mleast S P) : MMi G l yX3_least cX3_least 1 .int 13 311 [.ref (g 0)] h g S P := by
  refine MT.mk (own := RX3) (by decide) rfl hG (Nat.le_of_ble_eq_true rfl) ?_
  intro p e s m below meth c args Q hargs hQ C _
  refine J.loca (L2 := [(0, .ref (g 0))]) rfl ?_
  unfold F_mleast at hF
  refine j_aload_n C dX3_least_0 rfl 0 rfl ?_
  refine jm_callv (As := []) (rest := []) C (M_mlooks G l hG h g hg S _ hF) q2064 cal_mlooks rfl rfl (Nat.le_of_ble_eq_true rfl) ⟨Nat.le_of_ble_eq_true rfl, Nat.le_of_ble_eq_true rfl⟩ dX3_least_1 (fun S_1 hF => ?_)
  refine j_aload_n C dX3_least_4 rfl 0 rfl ?_
  refine j_aload_n C dX3_least_5 rfl 0 rfl ?_
  refine jmG11 C dX3_least_6 ?_
  obtain ⟨K_2, hK_2, hF⟩ := jn_intro (M := fun (K : MS → Int32 → Prop) => ∀ (S_3 : MS) (t_4 : Int32), K S_3 t_4 → J G p l e ({ frames := 13, cells := 0, slots := 0, locals := 311 } : Room) s m args below meth c 1 Q 0 0 (MH G.2.2.1 h g S_3) 17 [(0, .ref (g 0))] [.int t_4, .ref (g 0)]) (hk := by
      intro S_3 t_4 hF
      refine jm_calli (As := [.int t_4]) (rest := []) C (M_misThere G l hG h g hg S_3 t_4 _ hF) q1944 cal_misThere rfl rfl (Nat.le_of_ble_eq_true rfl) ⟨Nat.le_of_ble_eq_true rfl, Nat.le_of_ble_eq_true rfl⟩ dX3_least_17 (fun r_6 S_5 hF => ?_)
      refine j_if_eq (tgt := 30) C dX3_least_20 (by decide) (fun hc_7 => ?_) (fun hc_7 => ?_)
      · replace hF := hF.1 hc_7
        refine j_iconst (v := 0) C dX3_least_30 rfl ?_
        rw [hQ]
        exact j_iret C rfl ⟨_, _, rfl, rfl, hF⟩ dX3_least_31
      · replace hF := hF.2 hc_7
        refine j_aload_n C dX3_least_23 rfl 0 rfl ?_
        refine jmG13 C dX3_least_24 ?_
        refine j_goto (tgt := 31) C dX3_least_27 (by decide) ?_
        rw [hQ]
        exact j_iret C rfl ⟨_, _, rfl, rfl, hF⟩ dX3_least_31) hF
  refine j_if_le (tgt := 16) C dX3_least_9 (by decide) (fun hc_8 => ?_) (fun hc_8 => ?_)
  · replace hF := hF.1 hc_8
    refine j_iconst (v := 0) C dX3_least_16 rfl ?_
    exact J.locals [0] (hK_2 _ _ hF) rfl
  · replace hF := hF.2 hc_8
    refine j_iconst (v := 1) C dX3_least_12 rfl ?_
    refine j_goto (tgt := 17) C dX3_least_13 (by decide) ?_
    exact J.locals [0] (hK_2 _ _ hF) rfl
theorem cal_mleastAgain : CalV yX3_leastAgain RX3 cX3_leastAgain 1 (some .int) 0 := ⟨q2161, q2162, q101, q2163, by decide +kernel⟩
def F_mleastAgain (S : MS) (P : Int32 → MS → Prop) : Prop := F_mleast S (fun r_2 S_1 => P r_2 S_1)
set_option maxHeartbeats 4000000 in
theorem M_mleastAgain (G : GT) (l : Launch) (hG : GOK G) (h : AH) (g : Nat → Nat) (hg : Mg G g) (S : MS) (P : Int32 → MS → Prop) (hF : F_mleastAgain S P) : MMi G l yX3_leastAgain cX3_leastAgain 1 .int 14 331 [.ref (g 0)] h g S P := by
  refine MT.mk (own := RX3) (by decide) rfl hG (Nat.le_of_ble_eq_true rfl) ?_
  intro p e s m below meth c args Q hargs hQ C _
  refine J.loca (L2 := [(0, .ref (g 0))]) rfl ?_
  unfold F_mleastAgain at hF
  refine j_aload_n C dX3_leastAgain_0 rfl 0 rfl ?_
  refine jm_calli (As := []) (rest := []) C (M_mleast G l hG h g hg S _ hF) q2164 cal_mleast rfl rfl (Nat.le_of_ble_eq_true rfl) ⟨Nat.le_of_ble_eq_true rfl, Nat.le_of_ble_eq_true rfl⟩ dX3_leastAgain_1 (fun r_2 S_1 hF => ?_)
  rw [hQ]
  exact j_iret C rfl ⟨_, _, rfl, rfl, hF⟩ dX3_leastAgain_4
theorem cal_mleave : CalV yX3_leave RX3 cX3_leave 2 (some .int) 1 := ⟨q2097, q2098, q101, q2099, by decide +kernel⟩
def F_mleave (S : MS) (x1 : Int32) (P : Int32 → MS → Prop) : Prop := F_mbegins S (fun S_1 => F_mleaves S_1 x1 (fun r_3 S_2 => F_mends S_2 r_3 1 (fun r_5 S_4 => P r_5 S_4)))
set_option maxHeartbeats 4000000 in
theorem M_mleave (G : GT) (l : Launch) (hG : GOK G) (h : AH) (g : Nat → Nat) (hg : Mg G g) (S : MS) (x1 : Int32) (P : Int32 → MS → Prop) (hF : F_mleave S x1 P) : MMi G l yX3_leave cX3_leave 2 .int 3 64 [.ref (g 0), .int x1] h g S P := by
  refine MT.mk (own := RX3) (by decide) rfl hG (Nat.le_of_ble_eq_true rfl) ?_
  intro p e s m below meth c args Q hargs hQ C _
  refine J.loca (L2 := [(0, .ref (g 0)), (1, .int x1)]) rfl ?_
  unfold F_mleave at hF
  refine j_aload_n C dX3_leave_0 rfl 0 rfl ?_
  refine jm_callv (As := []) (rest := []) C (M_mbegins G l hG h g hg S _ hF) q1952 cal_mbegins rfl rfl (Nat.le_of_ble_eq_true rfl) ⟨Nat.le_of_ble_eq_true rfl, Nat.le_of_ble_eq_true rfl⟩ dX3_leave_1 (fun S_1 hF => ?_)
  refine j_aload_n C dX3_leave_4 rfl 0 rfl ?_
  refine j_aload_n C dX3_leave_5 rfl 0 rfl ?_
  refine j_iload_n C dX3_leave_6 rfl 1 rfl ?_
  refine jm_calli (As := [.int x1]) (rest := [.ref (g 0)]) C (M_mleaves G l hG h g hg S_1 x1 _ hF) q2100 cal_mleaves rfl rfl (Nat.le_of_ble_eq_true rfl) ⟨Nat.le_of_ble_eq_true rfl, Nat.le_of_ble_eq_true rfl⟩ dX3_leave_7 (fun r_3 S_2 hF => ?_)
  refine j_iconst (v := 1) C dX3_leave_10 rfl ?_
  refine jm_calli (As := [.int r_3, .int 1]) (rest := []) C (M_mends G l hG h g hg S_2 r_3 1 _ hF) q1972 cal_mends rfl rfl (Nat.le_of_ble_eq_true rfl) ⟨Nat.le_of_ble_eq_true rfl, Nat.le_of_ble_eq_true rfl⟩ dX3_leave_11 (fun r_5 S_4 hF => ?_)
  rw [hQ]
  exact j_iret C rfl ⟨_, _, rfl, rfl, hF⟩ dX3_leave_14
theorem cal_mlikedBy : CalV yX3_likedBy RX3 cX3_likedBy 4 (some .int) 1 := ⟨q2150, qs78, q101, q2151, by decide +kernel⟩
def L_mlikedBy_4 (P : Int32 → MS → Prop) (f1 : Int32) : Nat → MS → Int32 → Int32 → Prop
  | 0, _, _, _ => False
  | n + 1, S, z2, z3 => (vp_in 0 1152) ∧ (((S 1 (Int32.toNatClampNeg (0))) ≤ z3 → P z2 S) ∧ (¬ (S 1 (Int32.toNatClampNeg (0))) ≤ z3 → F_mlikes S z3 (fun r_3 S_2 => (r_3 = f1 → L_mlikedBy_4 P f1 n S_2 (z2 + 1) (z3 + 1)) ∧ (¬ r_3 = f1 → L_mlikedBy_4 P f1 n S_2 (z2 + 0) (z3 + 1)))))
def F_mlikedBy (S : MS) (x1 : Int32) (P : Int32 → MS → Prop) : Prop := L_mlikedBy_4  P x1 NF S 0 0
set_option maxHeartbeats 4000000 in
theorem WL_mlikedBy_4 {G : GT} {p : Program} {l : Launch} {e : Env} {s : State} {m : MethodId} {args : Array Value} {below : List Frame} {meth : Method} {c : Code} {h : AH} {g : Nat → Nat} {Q : State → Prop} (C : Cx G p s m args meth c cX3_likedBy RX3 4 (some .int)) (hG : GOK G) (hg : Mg G g) {P : Int32 → MS → Prop} (hQ : Q = MQ below (SQ G (fun v h' => ∃ (r : Int32) (S' : MS), v = some (.int r) ∧ h' = (MH G.2.2.1 h g S') ∧ P r S')) args s (({ frames := 3, cells := 0, slots := 0, locals := 67 } : Room) : Room).cells (({ frames := 3, cells := 0, slots := 0, locals := 67 } : Room) : Room).slots (fun q => G.1 ≤ q)) {f1 : Int32} :
    ∀ (n : Nat) (S : MS) (z2 : Int32) (z3 : Int32), L_mlikedBy_4 P f1 n S z2 z3 → J G p l e ({ frames := 3, cells := 0, slots := 0, locals := 67 } : Room) s m args below meth c 4 Q 0 0 (MH G.2.2.1 h g S) 4 [(0, .ref (g 0)), (1, .int f1), (2, .int z2), (3, .int z3)] [] := by
  intro n
  induction n with
  | zero => intro S z2 z3 hF; exact hF.elim
  | succ n ih =>
    intro S z2 z3 hF
    unfold L_mlikedBy_4 at hF
    refine j_iload_n C dX3_likedBy_4 rfl 3 rfl ?_
    refine j_aload_n C dX3_likedBy_5 rfl 0 rfl ?_
    refine jmG1 C dX3_likedBy_6 ?_
    refine j_iconst (v := 0) C dX3_likedBy_9 rfl ?_
    obtain ⟨hgd, hF⟩ := hF
    refine jmL1 C hg hgd dX3_likedBy_10 ?_
    refine j_icmp_ge (tgt := 37) C dX3_likedBy_11 (by decide) (fun hc_1 => ?_) (fun hc_1 => ?_)
    · replace hF := hF.1 hc_1
      refine j_iload_n C dX3_likedBy_37 rfl 2 rfl ?_
      rw [hQ]
      exact j_iret C rfl ⟨_, _, rfl, rfl, hF⟩ dX3_likedBy_38
    · replace hF := hF.2 hc_1
      refine j_iload_n C dX3_likedBy_14 rfl 2 rfl ?_
      refine j_aload_n C dX3_likedBy_15 rfl 0 rfl ?_
      refine j_iload_n C dX3_likedBy_16 rfl 3 rfl ?_
      refine jm_calli (As := [.int z3]) (rest := [.int z2]) C (M_mlikes G l hG h g hg S z3 _ hF) q2035 cal_mlikes rfl rfl (Nat.le_of_ble_eq_true rfl) ⟨Nat.le_of_ble_eq_true rfl, Nat.le_of_ble_eq_true rfl⟩ dX3_likedBy_17 (fun r_3 S_2 hF => ?_)
      refine j_iload_n C dX3_likedBy_20 rfl 1 rfl ?_
      refine j_icmp_ne (tgt := 28) C dX3_likedBy_21 (by decide) (fun hc_4 => ?_) (fun hc_4 => ?_)
      · replace hF := hF.2 hc_4
        refine j_iconst (v := 0) C dX3_likedBy_28 rfl ?_
        refine j_iadd C dX3_likedBy_29 ?_
        refine j_istore_n (L2 := [(2, .int (z2 + 0)), (0, .ref (g 0)), (1, .int f1), (3, .int z3)]) C dX3_likedBy_30 rfl (by decide) rfl ?_
        refine j_iinc (q := 3) (v := z3 + 1) (L2 := [(3, .int (z3 + 1)), (2, .int (z2 + 0)), (0, .ref (g 0)), (1, .int f1)]) C dX3_likedBy_31 rfl rfl (by decide) rfl ?_
        refine j_goto (tgt := 4) C dX3_likedBy_34 (by decide) ?_
        exact J.locals [2, 3, 1, 0] (ih _ _ _ hF) rfl
      · replace hF := hF.1 hc_4
        refine j_iconst (v := 1) C dX3_likedBy_24 rfl ?_
        refine j_goto (tgt := 29) C dX3_likedBy_25 (by decide) ?_
        refine j_iadd C dX3_likedBy_29 ?_
        refine j_istore_n (L2 := [(2, .int (z2 + 1)), (0, .ref (g 0)), (1, .int f1), (3, .int z3)]) C dX3_likedBy_30 rfl (by decide) rfl ?_
        refine j_iinc (q := 3) (v := z3 + 1) (L2 := [(3, .int (z3 + 1)), (2, .int (z2 + 1)), (0, .ref (g 0)), (1, .int f1)]) C dX3_likedBy_31 rfl rfl (by decide) rfl ?_
        refine j_goto (tgt := 4) C dX3_likedBy_34 (by decide) ?_
        exact J.locals [2, 3, 1, 0] (ih _ _ _ hF) rfl
set_option maxHeartbeats 4000000 in
theorem M_mlikedBy (G : GT) (l : Launch) (hG : GOK G) (h : AH) (g : Nat → Nat) (hg : Mg G g) (S : MS) (x1 : Int32) (P : Int32 → MS → Prop) (hF : F_mlikedBy S x1 P) : MMi G l yX3_likedBy cX3_likedBy 4 .int 3 67 [.ref (g 0), .int x1] h g S P := by
  refine MT.mk (own := RX3) (by decide) rfl hG (Nat.le_of_ble_eq_true rfl) ?_
  intro p e s m below meth c args Q hargs hQ C _
  refine J.loca (L2 := [(0, .ref (g 0)), (1, .int x1)]) rfl ?_
  unfold F_mlikedBy at hF
  refine j_iconst (v := 0) C dX3_likedBy_0 rfl ?_
  refine j_istore_n (L2 := [(2, .int 0), (0, .ref (g 0)), (1, .int x1)]) C dX3_likedBy_1 rfl (by decide) rfl ?_
  refine j_iconst (v := 0) C dX3_likedBy_2 rfl ?_
  refine j_istore_n (L2 := [(3, .int 0), (2, .int 0), (0, .ref (g 0)), (1, .int x1)]) C dX3_likedBy_3 rfl (by decide) rfl ?_
  refine J.locals [2, 3, 1, 0] (WL_mlikedBy_4 C hG hg hQ NF _ _ _ hF) rfl
theorem cal_mlikedShare : CalV yX3_likedShare RX3 cX3_likedShare 4 (some .float) 0 := ⟨q2263, q2264, q101, q2265, by decide +kernel⟩
def L_mlikedShare_29 (P : UInt32 → MS → Prop) (f1 : Int32) : Nat → MS → Int32 → Int32 → Prop
  | 0, _, _, _ => False
  | n + 1, S, z2, z3 => (f1 ≤ z3 → (vf_n32 (FP.fdiv (FP.i2f z2) (FP.i2f f1))) ∧ (P (FP.fdiv (FP.i2f z2) (FP.i2f f1)) S)) ∧ (¬ f1 ≤ z3 → (vp_in (84 + z3) 1152) ∧ (jn (α := MS → Prop) (fun S_9 => L_mlikedShare_29 P f1 n S_9 (z2 + 0) (z3 + 1)) (fun K_8 => ((S 1 (Int32.toNatClampNeg (84 + z3))) = (-1) → K_8 S) ∧ (¬ (S 1 (Int32.toNatClampNeg (84 + z3))) = (-1) → (vp_in (84 + z3) 1152) ∧ (F_mlikes S z3 (fun r_12 S_11 => ((S 1 (Int32.toNatClampNeg (84 + z3))) = r_12 → L_mlikedShare_29 P f1 n S_11 (z2 + 1) (z3 + 1)) ∧ (¬ (S 1 (Int32.toNatClampNeg (84 + z3))) = r_12 → K_8 S_11)))))))
def F_mlikedShare (S : MS) (P : UInt32 → MS → Prop) : Prop := (vp_in 0 1152) ∧ (jn (α := MS → Int32 → Prop) (fun S_2 t_3 => F_misThere S_2 t_3 (fun r_5 S_4 => (r_5 = 0 → P FP.fconst0 S_4) ∧ (¬ r_5 = 0 → L_mlikedShare_29  P (S 1 (Int32.toNatClampNeg (0))) NF S_4 0 0))) (fun K_1 => ((S 1 (Int32.toNatClampNeg (0))) ≤ 0 → K_1 S 0) ∧ (¬ (S 1 (Int32.toNatClampNeg (0))) ≤ 0 → K_1 S 1)))
set_option maxHeartbeats 4000000 in
theorem WL_mlikedShare_29 {G : GT} {p : Program} {l : Launch} {e : Env} {s : State} {m : MethodId} {args : Array Value} {below : List Frame} {meth : Method} {c : Code} {h : AH} {g : Nat → Nat} {Q : State → Prop} (C : Cx G p s m args meth c cX3_likedShare RX3 4 (some .float)) (hG : GOK G) (hg : Mg G g) {P : UInt32 → MS → Prop} (hQ : Q = MQ below (SQ G (fun v h' => ∃ (r : UInt32) (S' : MS), v = some (.float r) ∧ h' = (MH G.2.2.1 h g S') ∧ P r S')) args s (({ frames := 3, cells := 0, slots := 0, locals := 67 } : Room) : Room).cells (({ frames := 3, cells := 0, slots := 0, locals := 67 } : Room) : Room).slots (fun q => G.1 ≤ q)) {f1 : Int32} :
    ∀ (n : Nat) (S : MS) (z2 : Int32) (z3 : Int32), L_mlikedShare_29 P f1 n S z2 z3 → J G p l e ({ frames := 3, cells := 0, slots := 0, locals := 67 } : Room) s m args below meth c 4 Q 0 0 (MH G.2.2.1 h g S) 29 [(0, .ref (g 0)), (1, .int f1), (2, .int z2), (3, .int z3)] [] := by
  intro n
  induction n with
  | zero => intro S z2 z3 hF; exact hF.elim
  | succ n ih =>
    intro S z2 z3 hF
    unfold L_mlikedShare_29 at hF
    refine j_iload_n C dX3_likedShare_29 rfl 3 rfl ?_
    refine j_iload_n C dX3_likedShare_30 rfl 1 rfl ?_
    refine j_icmp_ge (tgt := 78) C dX3_likedShare_31 (by decide) (fun hc_7 => ?_) (fun hc_7 => ?_)
    · replace hF := hF.1 hc_7
      refine j_iload_n C dX3_likedShare_78 rfl 2 rfl ?_
      refine j_i2f C dX3_likedShare_79 ?_
      refine j_iload_n C dX3_likedShare_80 rfl 1 rfl ?_
      refine j_i2f C dX3_likedShare_81 ?_
      obtain ⟨hgd, hF⟩ := hF
      refine j_fdiv C dX3_likedShare_82 hgd ?_
      rw [hQ]
      exact j_fret C ⟨_, _, rfl, rfl, hF⟩ dX3_likedShare_83
    · replace hF := hF.2 hc_7
      refine j_iload_n C dX3_likedShare_34 rfl 2 rfl ?_
      refine j_aload_n C dX3_likedShare_35 rfl 0 rfl ?_
      refine jmG1 C dX3_likedShare_36 ?_
      refine j_bipush (v := 84) C dX3_likedShare_39 rfl ?_
      refine j_iload_n C dX3_likedShare_41 rfl 3 rfl ?_
      refine j_iadd C dX3_likedShare_42 ?_
      obtain ⟨hgd, hF⟩ := hF
      refine jmL1 C hg hgd dX3_likedShare_43 ?_
      refine j_iconst (v := (-1)) C dX3_likedShare_44 rfl ?_
      obtain ⟨K_8, hK_8, hF⟩ := jn_intro (M := fun (K : MS → Prop) => ∀ (S_9 : MS), K S_9 → J G p l e ({ frames := 3, cells := 0, slots := 0, locals := 67 } : Room) s m args below meth c 4 Q 0 0 (MH G.2.2.1 h g S_9) 69 [(0, .ref (g 0)), (1, .int f1), (3, .int z3)] [.int z2]) (hk := by
          intro S_9 hF
          refine j_iconst (v := 0) C dX3_likedShare_69 rfl ?_
          refine j_iadd C dX3_likedShare_70 ?_
          refine j_istore_n (L2 := [(2, .int (z2 + 0)), (0, .ref (g 0)), (1, .int f1), (3, .int z3)]) C dX3_likedShare_71 rfl (by decide) rfl ?_
          refine j_iinc (q := 3) (v := z3 + 1) (L2 := [(3, .int (z3 + 1)), (2, .int (z2 + 0)), (0, .ref (g 0)), (1, .int f1)]) C dX3_likedShare_72 rfl rfl (by decide) rfl ?_
          refine j_goto (tgt := 29) C dX3_likedShare_75 (by decide) ?_
          exact J.locals [2, 3, 1, 0] (ih _ _ _ hF) rfl) hF
      refine j_icmp_eq (tgt := 69) C dX3_likedShare_45 (by decide) (fun hc_10 => ?_) (fun hc_10 => ?_)
      · replace hF := hF.1 hc_10
        exact J.locals [0, 1, 3] (hK_8 _ hF) rfl
      · replace hF := hF.2 hc_10
        refine j_aload_n C dX3_likedShare_48 rfl 0 rfl ?_
        refine jmG1 C dX3_likedShare_49 ?_
        refine j_bipush (v := 84) C dX3_likedShare_52 rfl ?_
        refine j_iload_n C dX3_likedShare_54 rfl 3 rfl ?_
        refine j_iadd C dX3_likedShare_55 ?_
        obtain ⟨hgd, hF⟩ := hF
        refine jmL1 C hg hgd dX3_likedShare_56 ?_
        refine j_aload_n C dX3_likedShare_57 rfl 0 rfl ?_
        refine j_iload_n C dX3_likedShare_58 rfl 3 rfl ?_
        refine jm_calli (As := [.int z3]) (rest := [.int (S 1 (Int32.toNatClampNeg (84 + z3))), .int z2]) C (M_mlikes G l hG h g hg S z3 _ hF) q2035 cal_mlikes rfl rfl (Nat.le_of_ble_eq_true rfl) ⟨Nat.le_of_ble_eq_true rfl, Nat.le_of_ble_eq_true rfl⟩ dX3_likedShare_59 (fun r_12 S_11 hF => ?_)
        refine j_icmp_ne (tgt := 69) C dX3_likedShare_62 (by decide) (fun hc_13 => ?_) (fun hc_13 => ?_)
        · replace hF := hF.2 hc_13
          exact J.locals [0, 1, 3] (hK_8 _ hF) rfl
        · replace hF := hF.1 hc_13
          refine j_iconst (v := 1) C dX3_likedShare_65 rfl ?_
          refine j_goto (tgt := 70) C dX3_likedShare_66 (by decide) ?_
          refine j_iadd C dX3_likedShare_70 ?_
          refine j_istore_n (L2 := [(2, .int (z2 + 1)), (0, .ref (g 0)), (1, .int f1), (3, .int z3)]) C dX3_likedShare_71 rfl (by decide) rfl ?_
          refine j_iinc (q := 3) (v := z3 + 1) (L2 := [(3, .int (z3 + 1)), (2, .int (z2 + 1)), (0, .ref (g 0)), (1, .int f1)]) C dX3_likedShare_72 rfl rfl (by decide) rfl ?_
          refine j_goto (tgt := 29) C dX3_likedShare_75 (by decide) ?_
          exact J.locals [2, 3, 1, 0] (ih _ _ _ hF) rfl
set_option maxHeartbeats 4000000 in
theorem M_mlikedShare (G : GT) (l : Launch) (hG : GOK G) (h : AH) (g : Nat → Nat) (hg : Mg G g) (S : MS) (P : UInt32 → MS → Prop) (hF : F_mlikedShare S P) : MMf G l yX3_likedShare cX3_likedShare 4 3 67 [.ref (g 0)] h g S P := by
  refine MT.mk (own := RX3) (by decide) rfl hG (Nat.le_of_ble_eq_true rfl) ?_
  intro p e s m below meth c args Q hargs hQ C _
  refine J.loca (L2 := [(0, .ref (g 0))]) rfl ?_
  unfold F_mlikedShare at hF
  refine j_aload_n C dX3_likedShare_0 rfl 0 rfl ?_
  refine jmG1 C dX3_likedShare_1 ?_
  refine j_iconst (v := 0) C dX3_likedShare_4 rfl ?_
  obtain ⟨hgd, hF⟩ := hF
  refine jmL1 C hg hgd dX3_likedShare_5 ?_
  refine j_istore_n (L2 := [(1, .int (S 1 (Int32.toNatClampNeg (0)))), (0, .ref (g 0))]) C dX3_likedShare_6 rfl (by decide) rfl ?_
  refine j_aload_n C dX3_likedShare_7 rfl 1 rfl ?_
  refine j_iload_n C dX3_likedShare_8 rfl 0 rfl ?_
  obtain ⟨K_1, hK_1, hF⟩ := jn_intro (M := fun (K : MS → Int32 → Prop) => ∀ (S_2 : MS) (t_3 : Int32), K S_2 t_3 → J G p l e ({ frames := 3, cells := 0, slots := 0, locals := 67 } : Room) s m args below meth c 4 Q 0 0 (MH G.2.2.1 h g S_2) 17 [(0, .ref (g 0)), (1, .int (S 1 (Int32.toNatClampNeg (0))))] [.int t_3, .ref (g 0)]) (hk := by
      intro S_2 t_3 hF
      refine jm_calli (As := [.int t_3]) (rest := []) C (M_misThere G l hG h g hg S_2 t_3 _ hF) q1944 cal_misThere rfl rfl (Nat.le_of_ble_eq_true rfl) ⟨Nat.le_of_ble_eq_true rfl, Nat.le_of_ble_eq_true rfl⟩ dX3_likedShare_17 (fun r_5 S_4 hF => ?_)
      refine j_if_ne (tgt := 25) C dX3_likedShare_20 (by decide) (fun hc_6 => ?_) (fun hc_6 => ?_)
      · replace hF := hF.2 hc_6
        refine j_iconst (v := 0) C dX3_likedShare_25 rfl ?_
        refine j_istore_n (L2 := [(2, .int 0), (0, .ref (g 0)), (1, .int (S 1 (Int32.toNatClampNeg (0))))]) C dX3_likedShare_26 rfl (by decide) rfl ?_
        refine j_iconst (v := 0) C dX3_likedShare_27 rfl ?_
        refine j_istore_n (L2 := [(3, .int 0), (2, .int 0), (0, .ref (g 0)), (1, .int (S 1 (Int32.toNatClampNeg (0))))]) C dX3_likedShare_28 rfl (by decide) rfl ?_
        refine J.locals [2, 3, 1, 0] (WL_mlikedShare_29 C hG hg hQ NF _ _ _ hF) rfl
      · replace hF := hF.1 hc_6
        refine j_fconst0 C dX3_likedShare_23 ?_
        rw [hQ]
        exact j_fret C ⟨_, _, rfl, rfl, hF⟩ dX3_likedShare_24) hF
  refine j_if_le (tgt := 16) C dX3_likedShare_9 (by decide) (fun hc_14 => ?_) (fun hc_14 => ?_)
  · replace hF := hF.1 hc_14
    refine j_iconst (v := 0) C dX3_likedShare_16 rfl ?_
    exact J.locals [1, 0] (hK_1 _ _ hF) rfl
  · replace hF := hF.2 hc_14
    refine j_iconst (v := 1) C dX3_likedShare_12 rfl ?_
    refine j_goto (tgt := 17) C dX3_likedShare_13 (by decide) ?_
    exact J.locals [1, 0] (hK_1 _ _ hF) rfl
theorem cal_mwrites : CalV yX3_writes RX3 cX3_writes 2 none 1 := ⟨q2248, qs89, q101, q2249, by decide +kernel⟩
def F_mwrites (S : MS) (x1 : Int32) (P : MS → Prop) : Prop := (vp_in (S 0 22) 60) ∧ (nm (sput S 6 (Int32.toNatClampNeg (S 0 22)) (vp_nar .char ((x1.toUInt32 % 65536).toInt32))) (fun S_1 => nm (sput S_1 0 22 ((S_1 0 22) + 1)) (fun S_2 => P S_2)))
set_option maxHeartbeats 4000000 in
theorem M_mwrites (G : GT) (l : Launch) (hG : GOK G) (h : AH) (g : Nat → Nat) (hg : Mg G g) (S : MS) (x1 : Int32) (P : MS → Prop) (hF : F_mwrites S x1 P) : MMv G l yX3_writes cX3_writes 2 0 0 [.ref (g 0), .int x1] h g S P := by
  refine MT.mk (own := RX3) (by decide) rfl hG (Nat.le_of_ble_eq_true rfl) ?_
  intro p e s m below meth c args Q hargs hQ C _
  refine J.loca (L2 := [(0, .ref (g 0)), (1, .int x1)]) rfl ?_
  unfold F_mwrites at hF
  refine j_aload_n C dX3_writes_0 rfl 0 rfl ?_
  refine jmG21 C dX3_writes_1 ?_
  refine j_aload_n C dX3_writes_4 rfl 0 rfl ?_
  refine jmG22 C dX3_writes_5 ?_
  refine j_iload_n C dX3_writes_8 rfl 1 rfl ?_
  refine j_i2c C dX3_writes_9 ?_
  obtain ⟨hgd, hF⟩ := hF
  refine jmS6 C hg hgd dX3_writes_10 ?_
  obtain ⟨S_1, eS_1, hF⟩ := nm_intro hF
  refine m_J eS_1 ?_
  refine j_aload_n C dX3_writes_11 rfl 0 rfl ?_
  refine j_dup C dX3_writes_12 rfl ?_
  refine jmG22 C dX3_writes_13 ?_
  refine j_iconst (v := 1) C dX3_writes_16 rfl ?_
  refine j_iadd C dX3_writes_17 ?_
  refine jmP22 C hg dX3_writes_18 ?_
  obtain ⟨S_2, eS_2, hF⟩ := nm_intro hF
  refine m_J eS_2 ?_
  rw [hQ]
  exact j_vret C ⟨_, rfl, rfl, hF⟩ dX3_writes_21
theorem cal_mwritesNumber : CalV yX3_writesNumber RX3 cX3_writesNumber 2 none 1 := ⟨q2244, qs88, q101, q2245, by decide +kernel⟩
def F_mwritesNumber : Nat → MS → Int32 → (MS → Prop) → Prop
  | 0, _, _, _ => False
  | d + 1, S, x1, P => jn (α := MS → Prop) (fun S_2 => F_mwrites S_2 (48 + (x1 - x1 / 10 * 10)) (fun S_3 => P S_3)) (fun K_1 => (x1 ≤ 9 → K_1 S) ∧ (¬ x1 ≤ 9 → (F_mwritesNumber d) S (x1 / 10) (fun S_5 => K_1 S_5)))
set_option maxHeartbeats 4000000 in
theorem M_mwritesNumber (G : GT) (l : Launch) (hG : GOK G) : ∀ (d : Nat) (h : AH) (g : Nat → Nat) (hg : Mg G g) (S : MS) (x1 : Int32) (P : MS → Prop) (hF : F_mwritesNumber d S x1 P), MMv G l yX3_writesNumber cX3_writesNumber 2 (1 + d) (21 + 21 * d) [.ref (g 0), .int x1] h g S P := by
  intro d
  induction d with
  | zero => intro h g hg S x1 P hF; exact hF.elim
  | succ d ihd =>
    intro h g hg S x1 P hF
    have hrec : ∀ (S0 : MS) (x1 : Int32) (P0 : MS → Prop), F_mwritesNumber d S0 x1 P0 → MMv G l yX3_writesNumber cX3_writesNumber 2 (1 + d) (21 + 21 * d) [.ref (g 0), .int x1] h g S0 P0 := fun S0 x1 P0 h0 => ihd h g hg S0 x1 P0 h0
    refine MT.mk (own := RX3) (by decide) rfl hG (Nat.le_of_ble_eq_true rfl) ?_
    intro p e s m below meth c args Q hargs hQ C _
    refine J.loca (L2 := [(0, .ref (g 0)), (1, .int x1)]) rfl ?_
    unfold F_mwritesNumber at hF
    refine j_iload_n C dX3_writesNumber_0 rfl 1 rfl ?_
    refine j_bipush (v := 9) C dX3_writesNumber_1 rfl ?_
    obtain ⟨K_1, hK_1, hF⟩ := jn_intro (M := fun (K : MS → Prop) => ∀ (S_2 : MS), K S_2 → J G p l e ({ frames := 1 + (d + 1), cells := 0, slots := 0, locals := 21 + 21 * (d + 1) } : Room) s m args below meth c 2 Q 0 0 (MH G.2.2.1 h g S_2) 14 [(0, .ref (g 0)), (1, .int x1)] []) (hk := by
        intro S_2 hF
        refine j_aload_n C dX3_writesNumber_14 rfl 0 rfl ?_
        refine j_bipush (v := 48) C dX3_writesNumber_15 rfl ?_
        refine j_iload_n C dX3_writesNumber_17 rfl 1 rfl ?_
        refine j_bipush (v := 10) C dX3_writesNumber_18 rfl ?_
        refine j_irem C dX3_writesNumber_20 (by decide) ?_
        refine j_iadd C dX3_writesNumber_21 ?_
        refine jm_callv (As := [.int (48 + (x1 - x1 / 10 * 10))]) (rest := []) C (M_mwrites G l hG h g hg S_2 (48 + (x1 - x1 / 10 * 10)) _ hF) q2246 cal_mwrites rfl rfl (Nat.le_of_ble_eq_true rfl) ⟨by dsimp only; omega, by dsimp only; omega⟩ dX3_writesNumber_22 (fun S_3 hF => ?_)
        rw [hQ]
        exact j_vret C ⟨_, rfl, rfl, hF⟩ dX3_writesNumber_25) hF
    refine j_icmp_le (tgt := 14) C dX3_writesNumber_3 (by decide) (fun hc_4 => ?_) (fun hc_4 => ?_)
    · replace hF := hF.1 hc_4
      exact J.locals [0, 1] (hK_1 _ hF) rfl
    · replace hF := hF.2 hc_4
      refine j_aload_n C dX3_writesNumber_6 rfl 0 rfl ?_
      refine j_iload_n C dX3_writesNumber_7 rfl 1 rfl ?_
      refine j_bipush (v := 10) C dX3_writesNumber_8 rfl ?_
      refine j_idiv C dX3_writesNumber_10 (by decide) ?_
      refine jm_callv (As := [.int (x1 / 10)]) (rest := []) C (hrec S (x1 / 10) _ hF) q2242 cal_mwritesNumber rfl rfl (Nat.le_of_ble_eq_true rfl) ⟨by dsimp only; omega, by dsimp only; omega⟩ dX3_writesNumber_11 (fun S_5 hF => ?_)
      exact J.locals [0, 1] (hK_1 _ hF) rfl
theorem cal_mline : CalV yX3_line RX3 cX3_line 3 (some .int) 1 := ⟨q2239, q2240, q101, q2241, by decide +kernel⟩
def L_mline_32 (P : Int32 → MS → Prop) (f1 : Int32) : Nat → MS → Int32 → Prop
  | 0, _, _ => False
  | n + 1, S, z2 => (vp_in 1 1152) ∧ (((S 1 (Int32.toNatClampNeg (1))) ≤ z2 → P (S 0 22) S) ∧ (¬ (S 1 (Int32.toNatClampNeg (1))) ≤ z2 → jn (α := MS → Prop) (fun S_11 => F_misBarred S_11 f1 z2 (fun r_13 S_12 => jn (α := MS → Prop) (fun S_15 => (vp_in (84 + f1) 1152) ∧ (((S_15 1 (Int32.toNatClampNeg (84 + f1))) = z2 → F_mwrites S_15 42 (fun S_17 => L_mline_32 P f1 n S_17 (z2 + 1))) ∧ (¬ (S_15 1 (Int32.toNatClampNeg (84 + f1))) = z2 → L_mline_32 P f1 n S_15 (z2 + 1)))) (fun K_14 => (r_13 = 0 → F_mc S_12 f1 z2 (fun r_20 S_19 => F_mwritesNumber 5 S_19 r_20 (fun S_21 => K_14 S_21))) ∧ (¬ r_13 = 0 → F_mwrites S_12 45 (fun S_22 => K_14 S_22))))) (fun K_10 => (z2 ≤ 0 → K_10 S) ∧ (¬ z2 ≤ 0 → F_mwrites S 32 (fun S_24 => K_10 S_24)))))
def F_mline (S : MS) (x1 : Int32) (P : Int32 → MS → Prop) : Prop := F_misApprentice S x1 (fun r_2 S_1 => F_misThere S_1 r_2 (fun r_4 S_3 => (r_4 = 0 → P 0 S_3) ∧ (¬ r_4 = 0 → nm (sput S_3 0 22 0) (fun S_6 => F_mwritesNumber 5 S_6 x1 (fun S_7 => F_mwrites S_7 58 (fun S_8 => L_mline_32  P x1 NF S_8 0))))))
set_option maxHeartbeats 4000000 in
theorem WL_mline_32 {G : GT} {p : Program} {l : Launch} {e : Env} {s : State} {m : MethodId} {args : Array Value} {below : List Frame} {meth : Method} {c : Code} {h : AH} {g : Nat → Nat} {Q : State → Prop} (C : Cx G p s m args meth c cX3_line RX3 3 (some .int)) (hG : GOK G) (hg : Mg G g) {P : Int32 → MS → Prop} (hQ : Q = MQ below (SQ G (fun v h' => ∃ (r : Int32) (S' : MS), v = some (.int r) ∧ h' = (MH G.2.2.1 h g S') ∧ P r S')) args s (({ frames := 7, cells := 0, slots := 0, locals := 147 } : Room) : Room).cells (({ frames := 7, cells := 0, slots := 0, locals := 147 } : Room) : Room).slots (fun q => G.1 ≤ q)) {f1 : Int32} :
    ∀ (n : Nat) (S : MS) (z2 : Int32), L_mline_32 P f1 n S z2 → J G p l e ({ frames := 7, cells := 0, slots := 0, locals := 147 } : Room) s m args below meth c 3 Q 0 0 (MH G.2.2.1 h g S) 32 [(0, .ref (g 0)), (1, .int f1), (2, .int z2)] [] := by
  intro n
  induction n with
  | zero => intro S z2 hF; exact hF.elim
  | succ n ih =>
    intro S z2 hF
    unfold L_mline_32 at hF
    refine j_iload_n C dX3_line_32 rfl 2 rfl ?_
    refine j_aload_n C dX3_line_33 rfl 0 rfl ?_
    refine jmG1 C dX3_line_34 ?_
    refine j_iconst (v := 1) C dX3_line_37 rfl ?_
    obtain ⟨hgd, hF⟩ := hF
    refine jmL1 C hg hgd dX3_line_38 ?_
    refine j_icmp_ge (tgt := 105) C dX3_line_39 (by decide) (fun hc_9 => ?_) (fun hc_9 => ?_)
    · replace hF := hF.1 hc_9
      refine j_aload_n C dX3_line_105 rfl 0 rfl ?_
      refine jmG22 C dX3_line_106 ?_
      rw [hQ]
      exact j_iret C rfl ⟨_, _, rfl, rfl, hF⟩ dX3_line_109
    · replace hF := hF.2 hc_9
      refine j_iload_n C dX3_line_42 rfl 2 rfl ?_
      obtain ⟨K_10, hK_10, hF⟩ := jn_intro (M := fun (K : MS → Prop) => ∀ (S_11 : MS), K S_11 → J G p l e ({ frames := 7, cells := 0, slots := 0, locals := 147 } : Room) s m args below meth c 3 Q 0 0 (MH G.2.2.1 h g S_11) 52 [(0, .ref (g 0)), (1, .int f1), (2, .int z2)] []) (hk := by
          intro S_11 hF
          refine j_aload_n C dX3_line_52 rfl 0 rfl ?_
          refine j_iload_n C dX3_line_53 rfl 1 rfl ?_
          refine j_iload_n C dX3_line_54 rfl 2 rfl ?_
          refine jm_calli (As := [.int f1, .int z2]) (rest := []) C (M_misBarred G l hG h g hg S_11 f1 z2 _ hF) q2015 cal_misBarred rfl rfl (Nat.le_of_ble_eq_true rfl) ⟨Nat.le_of_ble_eq_true rfl, Nat.le_of_ble_eq_true rfl⟩ dX3_line_55 (fun r_13 S_12 hF => ?_)
          obtain ⟨K_14, hK_14, hF⟩ := jn_intro (M := fun (K : MS → Prop) => ∀ (S_15 : MS), K S_15 → J G p l e ({ frames := 7, cells := 0, slots := 0, locals := 147 } : Room) s m args below meth c 3 Q 0 0 (MH G.2.2.1 h g S_15) 80 [(0, .ref (g 0)), (1, .int f1), (2, .int z2)] []) (hk := by
              intro S_15 hF
              refine j_aload_n C dX3_line_80 rfl 0 rfl ?_
              refine jmG1 C dX3_line_81 ?_
              refine j_bipush (v := 84) C dX3_line_84 rfl ?_
              refine j_iload_n C dX3_line_86 rfl 1 rfl ?_
              refine j_iadd C dX3_line_87 ?_
              obtain ⟨hgd, hF⟩ := hF
              refine jmL1 C hg hgd dX3_line_88 ?_
              refine j_iload_n C dX3_line_89 rfl 2 rfl ?_
              refine j_icmp_ne (tgt := 99) C dX3_line_90 (by decide) (fun hc_16 => ?_) (fun hc_16 => ?_)
              · replace hF := hF.2 hc_16
                refine j_iinc (q := 2) (v := z2 + 1) (L2 := [(2, .int (z2 + 1)), (0, .ref (g 0)), (1, .int f1)]) C dX3_line_99 rfl rfl (by decide) rfl ?_
                refine j_goto (tgt := 32) C dX3_line_102 (by decide) ?_
                exact J.locals [1, 2, 0] (ih _ _ hF) rfl
              · replace hF := hF.1 hc_16
                refine j_aload_n C dX3_line_93 rfl 0 rfl ?_
                refine j_bipush (v := 42) C dX3_line_94 rfl ?_
                refine jm_callv (As := [.int 42]) (rest := []) C (M_mwrites G l hG h g hg S_15 42 _ hF) q2246 cal_mwrites rfl rfl (Nat.le_of_ble_eq_true rfl) ⟨Nat.le_of_ble_eq_true rfl, Nat.le_of_ble_eq_true rfl⟩ dX3_line_96 (fun S_17 hF => ?_)
                refine j_iinc (q := 2) (v := z2 + 1) (L2 := [(2, .int (z2 + 1)), (0, .ref (g 0)), (1, .int f1)]) C dX3_line_99 rfl rfl (by decide) rfl ?_
                refine j_goto (tgt := 32) C dX3_line_102 (by decide) ?_
                exact J.locals [1, 2, 0] (ih _ _ hF) rfl) hF
          refine j_if_eq (tgt := 70) C dX3_line_58 (by decide) (fun hc_18 => ?_) (fun hc_18 => ?_)
          · replace hF := hF.1 hc_18
            refine j_aload_n C dX3_line_70 rfl 0 rfl ?_
            refine j_aload_n C dX3_line_71 rfl 0 rfl ?_
            refine j_iload_n C dX3_line_72 rfl 1 rfl ?_
            refine j_iload_n C dX3_line_73 rfl 2 rfl ?_
            refine jm_calli (As := [.int f1, .int z2]) (rest := [.ref (g 0)]) C (M_mc G l hG h g hg S_12 f1 z2 _ hF) q2003 cal_mc rfl rfl (Nat.le_of_ble_eq_true rfl) ⟨Nat.le_of_ble_eq_true rfl, Nat.le_of_ble_eq_true rfl⟩ dX3_line_74 (fun r_20 S_19 hF => ?_)
            refine jm_callv (As := [.int r_20]) (rest := []) C (M_mwritesNumber G l hG 5 h g hg S_19 r_20 _ hF) q2242 cal_mwritesNumber rfl rfl (Nat.le_of_ble_eq_true rfl) ⟨Nat.le_of_ble_eq_true rfl, Nat.le_of_ble_eq_true rfl⟩ dX3_line_77 (fun S_21 hF => ?_)
            exact J.locals [0, 1, 2] (hK_14 _ hF) rfl
          · replace hF := hF.2 hc_18
            refine j_aload_n C dX3_line_61 rfl 0 rfl ?_
            refine j_bipush (v := 45) C dX3_line_62 rfl ?_
            refine jm_callv (As := [.int 45]) (rest := []) C (M_mwrites G l hG h g hg S_12 45 _ hF) q2246 cal_mwrites rfl rfl (Nat.le_of_ble_eq_true rfl) ⟨Nat.le_of_ble_eq_true rfl, Nat.le_of_ble_eq_true rfl⟩ dX3_line_64 (fun S_22 hF => ?_)
            refine j_goto (tgt := 80) C dX3_line_67 (by decide) ?_
            exact J.locals [0, 1, 2] (hK_14 _ hF) rfl) hF
      refine j_if_le (tgt := 52) C dX3_line_43 (by decide) (fun hc_23 => ?_) (fun hc_23 => ?_)
      · replace hF := hF.1 hc_23
        exact J.locals [0, 1, 2] (hK_10 _ hF) rfl
      · replace hF := hF.2 hc_23
        refine j_aload_n C dX3_line_46 rfl 0 rfl ?_
        refine j_bipush (v := 32) C dX3_line_47 rfl ?_
        refine jm_callv (As := [.int 32]) (rest := []) C (M_mwrites G l hG h g hg S 32 _ hF) q2246 cal_mwrites rfl rfl (Nat.le_of_ble_eq_true rfl) ⟨Nat.le_of_ble_eq_true rfl, Nat.le_of_ble_eq_true rfl⟩ dX3_line_49 (fun S_24 hF => ?_)
        exact J.locals [0, 1, 2] (hK_10 _ hF) rfl
set_option maxHeartbeats 4000000 in
theorem M_mline (G : GT) (l : Launch) (hG : GOK G) (h : AH) (g : Nat → Nat) (hg : Mg G g) (S : MS) (x1 : Int32) (P : Int32 → MS → Prop) (hF : F_mline S x1 P) : MMi G l yX3_line cX3_line 3 .int 7 147 [.ref (g 0), .int x1] h g S P := by
  refine MT.mk (own := RX3) (by decide) rfl hG (Nat.le_of_ble_eq_true rfl) ?_
  intro p e s m below meth c args Q hargs hQ C _
  refine J.loca (L2 := [(0, .ref (g 0)), (1, .int x1)]) rfl ?_
  unfold F_mline at hF
  refine j_aload_n C dX3_line_0 rfl 0 rfl ?_
  refine j_aload_n C dX3_line_1 rfl 0 rfl ?_
  refine j_iload_n C dX3_line_2 rfl 1 rfl ?_
  refine jm_calli (As := [.int x1]) (rest := [.ref (g 0)]) C (M_misApprentice G l hG h g hg S x1 _ hF) q1992 cal_misApprentice rfl rfl (Nat.le_of_ble_eq_true rfl) ⟨Nat.le_of_ble_eq_true rfl, Nat.le_of_ble_eq_true rfl⟩ dX3_line_3 (fun r_2 S_1 hF => ?_)
  refine jm_calli (As := [.int r_2]) (rest := []) C (M_misThere G l hG h g hg S_1 r_2 _ hF) q1944 cal_misThere rfl rfl (Nat.le_of_ble_eq_true rfl) ⟨Nat.le_of_ble_eq_true rfl, Nat.le_of_ble_eq_true rfl⟩ dX3_line_6 (fun r_4 S_3 hF => ?_)
  refine j_if_ne (tgt := 14) C dX3_line_9 (by decide) (fun hc_5 => ?_) (fun hc_5 => ?_)
  · replace hF := hF.2 hc_5
    refine j_aload_n C dX3_line_14 rfl 0 rfl ?_
    refine j_iconst (v := 0) C dX3_line_15 rfl ?_
    refine jmP22 C hg dX3_line_16 ?_
    obtain ⟨S_6, eS_6, hF⟩ := nm_intro hF
    refine m_J eS_6 ?_
    refine j_aload_n C dX3_line_19 rfl 0 rfl ?_
    refine j_iload_n C dX3_line_20 rfl 1 rfl ?_
    refine jm_callv (As := [.int x1]) (rest := []) C (M_mwritesNumber G l hG 5 h g hg S_6 x1 _ hF) q2242 cal_mwritesNumber rfl rfl (Nat.le_of_ble_eq_true rfl) ⟨Nat.le_of_ble_eq_true rfl, Nat.le_of_ble_eq_true rfl⟩ dX3_line_21 (fun S_7 hF => ?_)
    refine j_aload_n C dX3_line_24 rfl 0 rfl ?_
    refine j_bipush (v := 58) C dX3_line_25 rfl ?_
    refine jm_callv (As := [.int 58]) (rest := []) C (M_mwrites G l hG h g hg S_7 58 _ hF) q2246 cal_mwrites rfl rfl (Nat.le_of_ble_eq_true rfl) ⟨Nat.le_of_ble_eq_true rfl, Nat.le_of_ble_eq_true rfl⟩ dX3_line_27 (fun S_8 hF => ?_)
    refine j_iconst (v := 0) C dX3_line_30 rfl ?_
    refine j_istore_n (L2 := [(2, .int 0), (0, .ref (g 0)), (1, .int x1)]) C dX3_line_31 rfl (by decide) rfl ?_
    refine J.locals [1, 2, 0] (WL_mline_32 C hG hg hQ NF _ _ hF) rfl
  · replace hF := hF.1 hc_5
    refine j_iconst (v := 0) C dX3_line_12 rfl ?_
    rw [hQ]
    exact j_iret C rfl ⟨_, _, rfl, rfl, hF⟩ dX3_line_13
theorem cal_mmaster : CalV yX3_master RX3 cX3_master 1 (some .int) 0 := ⟨q1977, q1978, q101, q1979, by decide +kernel⟩
def F_mmaster (S : MS) (P : Int32 → MS → Prop) : Prop := F_mbegins S (fun S_1 => F_mcomes S_1 1 (fun r_3 S_2 => F_mends S_2 r_3 1 (fun r_5 S_4 => P r_5 S_4)))
set_option maxHeartbeats 4000000 in
theorem M_mmaster (G : GT) (l : Launch) (hG : GOK G) (h : AH) (g : Nat → Nat) (hg : Mg G g) (S : MS) (P : Int32 → MS → Prop) (hF : F_mmaster S P) : MMi G l yX3_master cX3_master 1 .int 2 46 [.ref (g 0)] h g S P := by
  refine MT.mk (own := RX3) (by decide) rfl hG (Nat.le_of_ble_eq_true rfl) ?_
  intro p e s m below meth c args Q hargs hQ C _
  refine J.loca (L2 := [(0, .ref (g 0))]) rfl ?_
  unfold F_mmaster at hF
  refine j_aload_n C dX3_master_0 rfl 0 rfl ?_
  refine jm_callv (As := []) (rest := []) C (M_mbegins G l hG h g hg S _ hF) q1952 cal_mbegins rfl rfl (Nat.le_of_ble_eq_true rfl) ⟨Nat.le_of_ble_eq_true rfl, Nat.le_of_ble_eq_true rfl⟩ dX3_master_1 (fun S_1 hF => ?_)
  refine j_aload_n C dX3_master_4 rfl 0 rfl ?_
  refine j_aload_n C dX3_master_5 rfl 0 rfl ?_
  refine j_iconst (v := 1) C dX3_master_6 rfl ?_
  refine jm_calli (As := [.int 1]) (rest := [.ref (g 0)]) C (M_mcomes G l hG h g hg S_1 1 _ hF) q1960 cal_mcomes rfl rfl (Nat.le_of_ble_eq_true rfl) ⟨Nat.le_of_ble_eq_true rfl, Nat.le_of_ble_eq_true rfl⟩ dX3_master_7 (fun r_3 S_2 hF => ?_)
  refine j_iconst (v := 1) C dX3_master_10 rfl ?_
  refine jm_calli (As := [.int r_3, .int 1]) (rest := []) C (M_mends G l hG h g hg S_2 r_3 1 _ hF) q1972 cal_mends rfl rfl (Nat.le_of_ble_eq_true rfl) ⟨Nat.le_of_ble_eq_true rfl, Nat.le_of_ble_eq_true rfl⟩ dX3_master_11 (fun r_5 S_4 hF => ?_)
  rw [hQ]
  exact j_iret C rfl ⟨_, _, rfl, rfl, hF⟩ dX3_master_14
theorem cal_mmasterOf : CalV yX3_masterOf RX3 cX3_masterOf 3 (some .int) 2 := ⟨q2145, q2146, q101, q2147, by decide +kernel⟩
def F_mmasterOf (S : MS) (x1 : Int32) (x2 : Int32) (P : Int32 → MS → Prop) : Prop := F_misMaster S x1 (fun r_2 S_1 => jn (α := MS → Int32 → Prop) (fun S_4 t_5 => nm (sput S_4 0 0 t_5) (fun S_6 => ((S_6 0 0) = 0 → (x2 = 0 → (vp_in (78 + x1) 1152) ∧ (P (S_6 1 (Int32.toNatClampNeg (78 + x1))) S_6)) ∧ (¬ x2 = 0 → (x2 = 1 → F_mheldBy S_6 x1 (fun r_11 S_10 => P r_11 S_10)) ∧ (¬ x2 = 1 → (x2 = 2 → (vp_in (90 + x1) 1152) ∧ (P (S_6 1 (Int32.toNatClampNeg (90 + x1))) S_6)) ∧ (¬ x2 = 2 → (x2 = 3 → F_msumServed S_6 x1 0 (fun r_15 S_14 => P r_15 S_14)) ∧ (¬ x2 = 3 → F_mlikedBy S_6 x1 (fun r_17 S_16 => P r_17 S_16)))))) ∧ (¬ (S_6 0 0) = 0 → P 0 S_6))) (fun K_3 => (r_2 = 0 → K_3 S_1 1) ∧ (¬ r_2 = 0 → F_min S_1 x2 0 4 (fun r_20 S_19 => (r_20 = 0 → K_3 S_19 2) ∧ (¬ r_20 = 0 → K_3 S_19 0)))))
set_option maxHeartbeats 4000000 in
theorem M_mmasterOf (G : GT) (l : Launch) (hG : GOK G) (h : AH) (g : Nat → Nat) (hg : Mg G g) (S : MS) (x1 : Int32) (x2 : Int32) (P : Int32 → MS → Prop) (hF : F_mmasterOf S x1 x2 P) : MMi G l yX3_masterOf cX3_masterOf 3 .int 4 90 [.ref (g 0), .int x1, .int x2] h g S P := by
  refine MT.mk (own := RX3) (by decide) rfl hG (Nat.le_of_ble_eq_true rfl) ?_
  intro p e s m below meth c args Q hargs hQ C _
  refine J.loca (L2 := [(0, .ref (g 0)), (1, .int x1), (2, .int x2)]) rfl ?_
  unfold F_mmasterOf at hF
  refine j_aload_n C dX3_masterOf_0 rfl 0 rfl ?_
  refine j_aload_n C dX3_masterOf_1 rfl 0 rfl ?_
  refine j_iload_n C dX3_masterOf_2 rfl 1 rfl ?_
  refine jm_calli (As := [.int x1]) (rest := [.ref (g 0)]) C (M_misMaster G l hG h g hg S x1 _ hF) q1999 cal_misMaster rfl rfl (Nat.le_of_ble_eq_true rfl) ⟨Nat.le_of_ble_eq_true rfl, Nat.le_of_ble_eq_true rfl⟩ dX3_masterOf_3 (fun r_2 S_1 hF => ?_)
  obtain ⟨K_3, hK_3, hF⟩ := jn_intro (M := fun (K : MS → Int32 → Prop) => ∀ (S_4 : MS) (t_5 : Int32), K S_4 t_5 → J G p l e ({ frames := 4, cells := 0, slots := 0, locals := 90 } : Room) s m args below meth c 3 Q 0 0 (MH G.2.2.1 h g S_4) 27 [(0, .ref (g 0)), (1, .int x1), (2, .int x2)] [.int t_5, .ref (g 0)]) (hk := by
      intro S_4 t_5 hF
      refine jmP0 C hg dX3_masterOf_27 ?_
      obtain ⟨S_6, eS_6, hF⟩ := nm_intro hF
      refine m_J eS_6 ?_
      refine j_aload_n C dX3_masterOf_30 rfl 0 rfl ?_
      refine jmG0 C dX3_masterOf_31 ?_
      refine j_if_eq (tgt := 39) C dX3_masterOf_34 (by decide) (fun hc_7 => ?_) (fun hc_7 => ?_)
      · replace hF := hF.1 hc_7
        refine j_iload_n C dX3_masterOf_39 rfl 2 rfl ?_
        by_cases hc_8 : x2 = 0
        · replace hF := hF.1 hc_8
          refine j_tableIn (tgt := 72) C dX3_masterOf_40 (by rw [hc_8]; decide) (by rw [hc_8]; decide) (by rw [hc_8]; rfl) (by decide) ?_
          refine j_aload_n C dX3_masterOf_72 rfl 0 rfl ?_
          refine jmG1 C dX3_masterOf_73 ?_
          refine j_bipush (v := 78) C dX3_masterOf_76 rfl ?_
          refine j_iload_n C dX3_masterOf_78 rfl 1 rfl ?_
          refine j_iadd C dX3_masterOf_79 ?_
          obtain ⟨hgd, hF⟩ := hF
          refine jmL1 C hg hgd dX3_masterOf_80 ?_
          rw [hQ]
          exact j_iret C rfl ⟨_, _, rfl, rfl, hF⟩ dX3_masterOf_81
        replace hF := hF.2 hc_8
        by_cases hc_9 : x2 = 1
        · replace hF := hF.1 hc_9
          refine j_tableIn (tgt := 82) C dX3_masterOf_40 (by rw [hc_9]; decide) (by rw [hc_9]; decide) (by rw [hc_9]; rfl) (by decide) ?_
          refine j_aload_n C dX3_masterOf_82 rfl 0 rfl ?_
          refine j_iload_n C dX3_masterOf_83 rfl 1 rfl ?_
          refine jm_calli (As := [.int x1]) (rest := []) C (M_mheldBy G l hG h g hg S_6 x1 _ hF) q2052 cal_mheldBy rfl rfl (Nat.le_of_ble_eq_true rfl) ⟨Nat.le_of_ble_eq_true rfl, Nat.le_of_ble_eq_true rfl⟩ dX3_masterOf_84 (fun r_11 S_10 hF => ?_)
          rw [hQ]
          exact j_iret C rfl ⟨_, _, rfl, rfl, hF⟩ dX3_masterOf_87
        replace hF := hF.2 hc_9
        by_cases hc_12 : x2 = 2
        · replace hF := hF.1 hc_12
          refine j_tableIn (tgt := 88) C dX3_masterOf_40 (by rw [hc_12]; decide) (by rw [hc_12]; decide) (by rw [hc_12]; rfl) (by decide) ?_
          refine j_aload_n C dX3_masterOf_88 rfl 0 rfl ?_
          refine jmG1 C dX3_masterOf_89 ?_
          refine j_bipush (v := 90) C dX3_masterOf_92 rfl ?_
          refine j_iload_n C dX3_masterOf_94 rfl 1 rfl ?_
          refine j_iadd C dX3_masterOf_95 ?_
          obtain ⟨hgd, hF⟩ := hF
          refine jmL1 C hg hgd dX3_masterOf_96 ?_
          rw [hQ]
          exact j_iret C rfl ⟨_, _, rfl, rfl, hF⟩ dX3_masterOf_97
        replace hF := hF.2 hc_12
        by_cases hc_13 : x2 = 3
        · replace hF := hF.1 hc_13
          refine j_tableIn (tgt := 98) C dX3_masterOf_40 (by rw [hc_13]; decide) (by rw [hc_13]; decide) (by rw [hc_13]; rfl) (by decide) ?_
          refine j_aload_n C dX3_masterOf_98 rfl 0 rfl ?_
          refine j_iload_n C dX3_masterOf_99 rfl 1 rfl ?_
          refine j_iconst (v := 0) C dX3_masterOf_100 rfl ?_
          refine jm_calli (As := [.int x1, .int 0]) (rest := []) C (M_msumServed G l hG h g hg S_6 x1 0 _ hF) q2132 cal_msumServed rfl rfl (Nat.le_of_ble_eq_true rfl) ⟨Nat.le_of_ble_eq_true rfl, Nat.le_of_ble_eq_true rfl⟩ dX3_masterOf_101 (fun r_15 S_14 hF => ?_)
          rw [hQ]
          exact j_iret C rfl ⟨_, _, rfl, rfl, hF⟩ dX3_masterOf_104
        replace hF := hF.2 hc_13
        refine j_tableOut (tgt := 105) C dX3_masterOf_40 (sw_out (by decide) (by decide) (fun k hk => by
            rcases (show k = 0 ∨ k = 1 ∨ k = 2 ∨ k = 3 by omega) with rfl | rfl | rfl | rfl
            · exact hc_8
            · exact hc_9
            · exact hc_12
            · exact hc_13)) (by decide) ?_
        refine j_aload_n C dX3_masterOf_105 rfl 0 rfl ?_
        refine j_iload_n C dX3_masterOf_106 rfl 1 rfl ?_
        refine jm_calli (As := [.int x1]) (rest := []) C (M_mlikedBy G l hG h g hg S_6 x1 _ hF) q2148 cal_mlikedBy rfl rfl (Nat.le_of_ble_eq_true rfl) ⟨Nat.le_of_ble_eq_true rfl, Nat.le_of_ble_eq_true rfl⟩ dX3_masterOf_107 (fun r_17 S_16 hF => ?_)
        rw [hQ]
        exact j_iret C rfl ⟨_, _, rfl, rfl, hF⟩ dX3_masterOf_110
      · replace hF := hF.2 hc_7
        refine j_iconst (v := 0) C dX3_masterOf_37 rfl ?_
        rw [hQ]
        exact j_iret C rfl ⟨_, _, rfl, rfl, hF⟩ dX3_masterOf_38) hF
  refine j_if_ne (tgt := 13) C dX3_masterOf_6 (by decide) (fun hc_18 => ?_) (fun hc_18 => ?_)
  · replace hF := hF.2 hc_18
    refine j_iload_n C dX3_masterOf_13 rfl 2 rfl ?_
    refine j_iconst (v := 0) C dX3_masterOf_14 rfl ?_
    refine j_iconst (v := 4) C dX3_masterOf_15 rfl ?_
    refine jm_callsi (As := [.int x2, .int 0, .int 4]) (rest := [.ref (g 0)]) C (M_min G l hG h g hg S_1 x2 0 4 _ hF) q1996 cal_min rfl rfl (Nat.le_of_ble_eq_true rfl) ⟨Nat.le_of_ble_eq_true rfl, Nat.le_of_ble_eq_true rfl⟩ dX3_masterOf_16 (fun r_20 S_19 hF => ?_)
    refine j_if_eq (tgt := 26) C dX3_masterOf_19 (by decide) (fun hc_21 => ?_) (fun hc_21 => ?_)
    · replace hF := hF.1 hc_21
      refine j_iconst (v := 2) C dX3_masterOf_26 rfl ?_
      exact J.locals [0, 1, 2] (hK_3 _ _ hF) rfl
    · replace hF := hF.2 hc_21
      refine j_iconst (v := 0) C dX3_masterOf_22 rfl ?_
      refine j_goto (tgt := 27) C dX3_masterOf_23 (by decide) ?_
      exact J.locals [0, 1, 2] (hK_3 _ _ hF) rfl
  · replace hF := hF.1 hc_18
    refine j_iconst (v := 1) C dX3_masterOf_9 rfl ?_
    refine j_goto (tgt := 27) C dX3_masterOf_10 (by decide) ?_
    exact J.locals [0, 1, 2] (hK_3 _ _ hF) rfl
theorem cal_mmeanPrice : CalV yX3_meanPrice RX3 cX3_meanPrice 4 (some .double) 0 := ⟨q2259, q2260, q101, q2261, by decide +kernel⟩
def L_mmeanPrice_29 (P : UInt64 → MS → Prop) (f1 : Int32) : Nat → MS → Int32 → Int32 → Prop
  | 0, _, _, _ => False
  | n + 1, S, z2, z3 => (f1 ≤ z3 → (vf_n64 (FP.ddiv (FP.i2d z2) (FP.i2d f1))) ∧ (P (FP.ddiv (FP.i2d z2) (FP.i2d f1)) S)) ∧ (¬ f1 ≤ z3 → (vp_in (78 + z3) 1152) ∧ (L_mmeanPrice_29 P f1 n S (z2 + (S 1 (Int32.toNatClampNeg (78 + z3)))) (z3 + 1)))
def F_mmeanPrice (S : MS) (P : UInt64 → MS → Prop) : Prop := (vp_in 1 1152) ∧ (jn (α := MS → Int32 → Prop) (fun S_2 t_3 => F_misThere S_2 t_3 (fun r_5 S_4 => (r_5 = 0 → P FP.dconst0 S_4) ∧ (¬ r_5 = 0 → L_mmeanPrice_29  P (S 1 (Int32.toNatClampNeg (1))) NF S_4 0 0))) (fun K_1 => ((S 1 (Int32.toNatClampNeg (1))) ≤ 0 → K_1 S 0) ∧ (¬ (S 1 (Int32.toNatClampNeg (1))) ≤ 0 → K_1 S 1)))
set_option maxHeartbeats 4000000 in
theorem WL_mmeanPrice_29 {G : GT} {p : Program} {l : Launch} {e : Env} {s : State} {m : MethodId} {args : Array Value} {below : List Frame} {meth : Method} {c : Code} {h : AH} {g : Nat → Nat} {Q : State → Prop} (C : Cx G p s m args meth c cX3_meanPrice RX3 4 (some .double)) (hG : GOK G) (hg : Mg G g) {P : UInt64 → MS → Prop} (hQ : Q = MQ below (SQ G (fun v h' => ∃ (r : UInt64) (S' : MS), v = some (.double r) ∧ h' = (MH G.2.2.1 h g S') ∧ P r S')) args s (({ frames := 1, cells := 0, slots := 0, locals := 21 } : Room) : Room).cells (({ frames := 1, cells := 0, slots := 0, locals := 21 } : Room) : Room).slots (fun q => G.1 ≤ q)) {f1 : Int32} :
    ∀ (n : Nat) (S : MS) (z2 : Int32) (z3 : Int32), L_mmeanPrice_29 P f1 n S z2 z3 → J G p l e ({ frames := 1, cells := 0, slots := 0, locals := 21 } : Room) s m args below meth c 4 Q 0 0 (MH G.2.2.1 h g S) 29 [(0, .ref (g 0)), (1, .int f1), (2, .int z2), (3, .int z3)] [] := by
  intro n
  induction n with
  | zero => intro S z2 z3 hF; exact hF.elim
  | succ n ih =>
    intro S z2 z3 hF
    unfold L_mmeanPrice_29 at hF
    refine j_iload_n C dX3_meanPrice_29 rfl 3 rfl ?_
    refine j_iload_n C dX3_meanPrice_30 rfl 1 rfl ?_
    refine j_icmp_ge (tgt := 52) C dX3_meanPrice_31 (by decide) (fun hc_7 => ?_) (fun hc_7 => ?_)
    · replace hF := hF.1 hc_7
      refine j_iload_n C dX3_meanPrice_52 rfl 2 rfl ?_
      refine j_i2d C dX3_meanPrice_53 ?_
      refine j_iload_n C dX3_meanPrice_54 rfl 1 rfl ?_
      refine j_i2d C dX3_meanPrice_55 ?_
      obtain ⟨hgd, hF⟩ := hF
      refine j_ddiv C dX3_meanPrice_56 hgd ?_
      rw [hQ]
      exact j_dret C ⟨_, _, rfl, rfl, hF⟩ dX3_meanPrice_57
    · replace hF := hF.2 hc_7
      refine j_iload_n C dX3_meanPrice_34 rfl 2 rfl ?_
      refine j_aload_n C dX3_meanPrice_35 rfl 0 rfl ?_
      refine jmG1 C dX3_meanPrice_36 ?_
      refine j_bipush (v := 78) C dX3_meanPrice_39 rfl ?_
      refine j_iload_n C dX3_meanPrice_41 rfl 3 rfl ?_
      refine j_iadd C dX3_meanPrice_42 ?_
      obtain ⟨hgd, hF⟩ := hF
      refine jmL1 C hg hgd dX3_meanPrice_43 ?_
      refine j_iadd C dX3_meanPrice_44 ?_
      refine j_istore_n (L2 := [(2, .int (z2 + (S 1 (Int32.toNatClampNeg (78 + z3))))), (0, .ref (g 0)), (1, .int f1), (3, .int z3)]) C dX3_meanPrice_45 rfl (by decide) rfl ?_
      refine j_iinc (q := 3) (v := z3 + 1) (L2 := [(3, .int (z3 + 1)), (2, .int (z2 + (S 1 (Int32.toNatClampNeg (78 + z3))))), (0, .ref (g 0)), (1, .int f1)]) C dX3_meanPrice_46 rfl rfl (by decide) rfl ?_
      refine j_goto (tgt := 29) C dX3_meanPrice_49 (by decide) ?_
      exact J.locals [2, 3, 1, 0] (ih _ _ _ hF) rfl
set_option maxHeartbeats 4000000 in
theorem M_mmeanPrice (G : GT) (l : Launch) (hG : GOK G) (h : AH) (g : Nat → Nat) (hg : Mg G g) (S : MS) (P : UInt64 → MS → Prop) (hF : F_mmeanPrice S P) : MMd G l yX3_meanPrice cX3_meanPrice 4 1 21 [.ref (g 0)] h g S P := by
  refine MT.mk (own := RX3) (by decide) rfl hG (Nat.le_of_ble_eq_true rfl) ?_
  intro p e s m below meth c args Q hargs hQ C _
  refine J.loca (L2 := [(0, .ref (g 0))]) rfl ?_
  unfold F_mmeanPrice at hF
  refine j_aload_n C dX3_meanPrice_0 rfl 0 rfl ?_
  refine jmG1 C dX3_meanPrice_1 ?_
  refine j_iconst (v := 1) C dX3_meanPrice_4 rfl ?_
  obtain ⟨hgd, hF⟩ := hF
  refine jmL1 C hg hgd dX3_meanPrice_5 ?_
  refine j_istore_n (L2 := [(1, .int (S 1 (Int32.toNatClampNeg (1)))), (0, .ref (g 0))]) C dX3_meanPrice_6 rfl (by decide) rfl ?_
  refine j_aload_n C dX3_meanPrice_7 rfl 1 rfl ?_
  refine j_iload_n C dX3_meanPrice_8 rfl 0 rfl ?_
  obtain ⟨K_1, hK_1, hF⟩ := jn_intro (M := fun (K : MS → Int32 → Prop) => ∀ (S_2 : MS) (t_3 : Int32), K S_2 t_3 → J G p l e ({ frames := 1, cells := 0, slots := 0, locals := 21 } : Room) s m args below meth c 4 Q 0 0 (MH G.2.2.1 h g S_2) 17 [(0, .ref (g 0)), (1, .int (S 1 (Int32.toNatClampNeg (1))))] [.int t_3, .ref (g 0)]) (hk := by
      intro S_2 t_3 hF
      refine jm_calli (As := [.int t_3]) (rest := []) C (M_misThere G l hG h g hg S_2 t_3 _ hF) q1944 cal_misThere rfl rfl (Nat.le_of_ble_eq_true rfl) ⟨Nat.le_of_ble_eq_true rfl, Nat.le_of_ble_eq_true rfl⟩ dX3_meanPrice_17 (fun r_5 S_4 hF => ?_)
      refine j_if_ne (tgt := 25) C dX3_meanPrice_20 (by decide) (fun hc_6 => ?_) (fun hc_6 => ?_)
      · replace hF := hF.2 hc_6
        refine j_iconst (v := 0) C dX3_meanPrice_25 rfl ?_
        refine j_istore_n (L2 := [(2, .int 0), (0, .ref (g 0)), (1, .int (S 1 (Int32.toNatClampNeg (1))))]) C dX3_meanPrice_26 rfl (by decide) rfl ?_
        refine j_iconst (v := 0) C dX3_meanPrice_27 rfl ?_
        refine j_istore_n (L2 := [(3, .int 0), (2, .int 0), (0, .ref (g 0)), (1, .int (S 1 (Int32.toNatClampNeg (1))))]) C dX3_meanPrice_28 rfl (by decide) rfl ?_
        refine J.locals [2, 3, 1, 0] (WL_mmeanPrice_29 C hG hg hQ NF _ _ _ hF) rfl
      · replace hF := hF.1 hc_6
        refine j_dconst0 C dX3_meanPrice_23 ?_
        rw [hQ]
        exact j_dret C ⟨_, _, rfl, rfl, hF⟩ dX3_meanPrice_24) hF
  refine j_if_le (tgt := 16) C dX3_meanPrice_9 (by decide) (fun hc_8 => ?_) (fun hc_8 => ?_)
  · replace hF := hF.1 hc_8
    refine j_iconst (v := 0) C dX3_meanPrice_16 rfl ?_
    exact J.locals [1, 0] (hK_1 _ _ hF) rfl
  · replace hF := hF.2 hc_8
    refine j_iconst (v := 1) C dX3_meanPrice_12 rfl ?_
    refine j_goto (tgt := 17) C dX3_meanPrice_13 (by decide) ?_
    exact J.locals [1, 0] (hK_1 _ _ hF) rfl
theorem cal_mmost : CalV yX3_most RX3 cX3_most 1 (some .int) 0 := ⟨q2174, q2175, q101, q2176, by decide +kernel⟩
def F_mmost (S : MS) (P : Int32 → MS → Prop) : Prop := nm (sput S 0 0 0) (fun S_1 => F_mmost0 S_1 (fun r_3 S_2 => P r_3 S_2))
set_option maxHeartbeats 4000000 in
theorem M_mmost (G : GT) (l : Launch) (hG : GOK G) (h : AH) (g : Nat → Nat) (hg : Mg G g) (S : MS) (P : Int32 → MS → Prop) (hF : F_mmost S P) : MMi G l yX3_most cX3_most 1 .int 12 289 [.ref (g 0)] h g S P := by
  refine MT.mk (own := RX3) (by decide) rfl hG (Nat.le_of_ble_eq_true rfl) ?_
  intro p e s m below meth c args Q hargs hQ C _
  refine J.loca (L2 := [(0, .ref (g 0))]) rfl ?_
  unfold F_mmost at hF
  refine j_aload_n C dX3_most_0 rfl 0 rfl ?_
  refine j_iconst (v := 0) C dX3_most_1 rfl ?_
  refine jmP0 C hg dX3_most_2 ?_
  obtain ⟨S_1, eS_1, hF⟩ := nm_intro hF
  refine m_J eS_1 ?_
  refine j_aload_n C dX3_most_5 rfl 0 rfl ?_
  refine jm_calli (As := []) (rest := []) C (M_mmost0 G l hG h g hg S_1 _ hF) q2084 cal_mmost0 rfl rfl (Nat.le_of_ble_eq_true rfl) ⟨Nat.le_of_ble_eq_true rfl, Nat.le_of_ble_eq_true rfl⟩ dX3_most_6 (fun r_3 S_2 hF => ?_)
  rw [hQ]
  exact j_iret C rfl ⟨_, _, rfl, rfl, hF⟩ dX3_most_9
theorem cal_msign : CalV yX3_sign RX3 cX3_sign 1 (some .int) 0 := ⟨q2212, qs82, q101, q2213, by decide +kernel⟩
def F_msign (S : MS) (P : Int32 → MS → Prop) : Prop := ((S 0 15) ≤ (S 0 16) → P (-1) S) ∧ (¬ (S 0 15) ≤ (S 0 16) → (vp_in (S 0 16) 60) ∧ (P (S 4 (Int32.toNatClampNeg (S 0 16))) S))
set_option maxHeartbeats 4000000 in
theorem M_msign (G : GT) (l : Launch) (hG : GOK G) (h : AH) (g : Nat → Nat) (hg : Mg G g) (S : MS) (P : Int32 → MS → Prop) (hF : F_msign S P) : MMi G l yX3_sign cX3_sign 1 .int 0 0 [.ref (g 0)] h g S P := by
  refine MT.mk (own := RX3) (by decide) rfl hG (Nat.le_of_ble_eq_true rfl) ?_
  intro p e s m below meth c args Q hargs hQ C _
  refine J.loca (L2 := [(0, .ref (g 0))]) rfl ?_
  unfold F_msign at hF
  refine j_aload_n C dX3_sign_0 rfl 0 rfl ?_
  refine jmG16 C dX3_sign_1 ?_
  refine j_aload_n C dX3_sign_4 rfl 0 rfl ?_
  refine jmG15 C dX3_sign_5 ?_
  refine j_icmp_ge (tgt := 23) C dX3_sign_8 (by decide) (fun hc_1 => ?_) (fun hc_1 => ?_)
  · replace hF := hF.1 hc_1
    refine j_iconst (v := (-1)) C dX3_sign_23 rfl ?_
    rw [hQ]
    exact j_iret C rfl ⟨_, _, rfl, rfl, hF⟩ dX3_sign_24
  · replace hF := hF.2 hc_1
    refine j_aload_n C dX3_sign_11 rfl 0 rfl ?_
    refine jmG14 C dX3_sign_12 ?_
    refine j_aload_n C dX3_sign_15 rfl 0 rfl ?_
    refine jmG16 C dX3_sign_16 ?_
    obtain ⟨hgd, hF⟩ := hF
    refine jmL4 C hg hgd dX3_sign_19 ?_
    refine j_goto (tgt := 24) C dX3_sign_20 (by decide) ?_
    rw [hQ]
    exact j_iret C rfl ⟨_, _, rfl, rfl, hF⟩ dX3_sign_24
theorem cal_mneeds : CalV yX3_needs RX3 cX3_needs 2 none 1 := ⟨q2224, qs85, q101, q2225, by decide +kernel⟩
def F_mneeds (S : MS) (x1 : Int32) (P : MS → Prop) : Prop := ((S 0 17) < 0 → F_msign S (fun r_3 S_2 => (r_3 = x1 → nm (sput S_2 0 16 ((S_2 0 16) + 1)) (fun S_5 => P S_5)) ∧ (¬ r_3 = x1 → nm (sput S_2 0 17 (S_2 0 16)) (fun S_6 => P S_6)))) ∧ (¬ (S 0 17) < 0 → P S)
set_option maxHeartbeats 4000000 in
theorem M_mneeds (G : GT) (l : Launch) (hG : GOK G) (h : AH) (g : Nat → Nat) (hg : Mg G g) (S : MS) (x1 : Int32) (P : MS → Prop) (hF : F_mneeds S x1 P) : MMv G l yX3_needs cX3_needs 2 1 20 [.ref (g 0), .int x1] h g S P := by
  refine MT.mk (own := RX3) (by decide) rfl hG (Nat.le_of_ble_eq_true rfl) ?_
  intro p e s m below meth c args Q hargs hQ C _
  refine J.loca (L2 := [(0, .ref (g 0)), (1, .int x1)]) rfl ?_
  unfold F_mneeds at hF
  refine j_aload_n C dX3_needs_0 rfl 0 rfl ?_
  refine jmG17 C dX3_needs_1 ?_
  refine j_if_lt (tgt := 8) C dX3_needs_4 (by decide) (fun hc_1 => ?_) (fun hc_1 => ?_)
  · replace hF := hF.1 hc_1
    refine j_aload_n C dX3_needs_8 rfl 0 rfl ?_
    refine jm_calli (As := []) (rest := []) C (M_msign G l hG h g hg S _ hF) q2210 cal_msign rfl rfl (Nat.le_of_ble_eq_true rfl) ⟨Nat.le_of_ble_eq_true rfl, Nat.le_of_ble_eq_true rfl⟩ dX3_needs_9 (fun r_3 S_2 hF => ?_)
    refine j_iload_n C dX3_needs_12 rfl 1 rfl ?_
    refine j_icmp_eq (tgt := 25) C dX3_needs_13 (by decide) (fun hc_4 => ?_) (fun hc_4 => ?_)
    · replace hF := hF.1 hc_4
      refine j_aload_n C dX3_needs_25 rfl 0 rfl ?_
      refine j_dup C dX3_needs_26 rfl ?_
      refine jmG16 C dX3_needs_27 ?_
      refine j_iconst (v := 1) C dX3_needs_30 rfl ?_
      refine j_iadd C dX3_needs_31 ?_
      refine jmP16 C hg dX3_needs_32 ?_
      obtain ⟨S_5, eS_5, hF⟩ := nm_intro hF
      refine m_J eS_5 ?_
      rw [hQ]
      exact j_vret C ⟨_, rfl, rfl, hF⟩ dX3_needs_35
    · replace hF := hF.2 hc_4
      refine j_aload_n C dX3_needs_16 rfl 0 rfl ?_
      refine j_aload_n C dX3_needs_17 rfl 0 rfl ?_
      refine jmG16 C dX3_needs_18 ?_
      refine jmP17 C hg dX3_needs_21 ?_
      obtain ⟨S_6, eS_6, hF⟩ := nm_intro hF
      refine m_J eS_6 ?_
      rw [hQ]
      exact j_vret C ⟨_, rfl, rfl, hF⟩ dX3_needs_24
  · replace hF := hF.2 hc_1
    rw [hQ]
    exact j_vret C ⟨_, rfl, rfl, hF⟩ dX3_needs_7
theorem cal_mnumber : CalV yX3_number RX3 cX3_number 4 (some .int) 1 := ⟨q2228, qs86, q101, q2229, by decide +kernel⟩
def L_mnumber_37 (P : Int32 → MS → Prop) (f1 : Int32) : Nat → MS → Int32 → Int32 → Prop
  | 0, _, _, _ => False
  | n + 1, S, z2, z3 => (f1 ≤ z3 → P z2 S) ∧ (¬ f1 ≤ z3 → F_msign S (fun r_9 S_8 => F_min S_8 r_9 48 57 (fun r_11 S_10 => (r_11 = 0 → P z2 S_10) ∧ (¬ r_11 = 0 → F_msign S_10 (fun r_14 S_13 => nm (sput S_13 0 16 ((S_13 0 16) + 1)) (fun S_15 => L_mnumber_37 P f1 n S_15 (((10 * z2) + r_14) - 48) (z3 + 1)))))))
def F_mnumber (S : MS) (x1 : Int32) (P : Int32 → MS → Prop) : Prop := ((S 0 17) < 0 → F_msign S (fun r_3 S_2 => F_min S_2 r_3 48 57 (fun r_5 S_4 => (r_5 = 0 → nm (sput S_4 0 17 (S_4 0 16)) (fun S_16 => P 0 S_16)) ∧ (¬ r_5 = 0 → L_mnumber_37  P x1 NF S_4 0 0)))) ∧ (¬ (S 0 17) < 0 → P 0 S)
set_option maxHeartbeats 4000000 in
theorem WL_mnumber_37 {G : GT} {p : Program} {l : Launch} {e : Env} {s : State} {m : MethodId} {args : Array Value} {below : List Frame} {meth : Method} {c : Code} {h : AH} {g : Nat → Nat} {Q : State → Prop} (C : Cx G p s m args meth c cX3_number RX3 4 (some .int)) (hG : GOK G) (hg : Mg G g) {P : Int32 → MS → Prop} (hQ : Q = MQ below (SQ G (fun v h' => ∃ (r : Int32) (S' : MS), v = some (.int r) ∧ h' = (MH G.2.2.1 h g S') ∧ P r S')) args s (({ frames := 1, cells := 0, slots := 0, locals := 22 } : Room) : Room).cells (({ frames := 1, cells := 0, slots := 0, locals := 22 } : Room) : Room).slots (fun q => G.1 ≤ q)) {f1 : Int32} :
    ∀ (n : Nat) (S : MS) (z2 : Int32) (z3 : Int32), L_mnumber_37 P f1 n S z2 z3 → J G p l e ({ frames := 1, cells := 0, slots := 0, locals := 22 } : Room) s m args below meth c 4 Q 0 0 (MH G.2.2.1 h g S) 37 [(0, .ref (g 0)), (1, .int f1), (2, .int z2), (3, .int z3)] [] := by
  intro n
  induction n with
  | zero => intro S z2 z3 hF; exact hF.elim
  | succ n ih =>
    intro S z2 z3 hF
    unfold L_mnumber_37 at hF
    refine j_iload_n C dX3_number_37 rfl 3 rfl ?_
    refine j_iload_n C dX3_number_38 rfl 1 rfl ?_
    refine j_icmp_ge (tgt := 85) C dX3_number_39 (by decide) (fun hc_7 => ?_) (fun hc_7 => ?_)
    · replace hF := hF.1 hc_7
      refine j_iload_n C dX3_number_85 rfl 2 rfl ?_
      rw [hQ]
      exact j_iret C rfl ⟨_, _, rfl, rfl, hF⟩ dX3_number_86
    · replace hF := hF.2 hc_7
      refine j_aload_n C dX3_number_42 rfl 0 rfl ?_
      refine jm_calli (As := []) (rest := []) C (M_msign G l hG h g hg S _ hF) q2210 cal_msign rfl rfl (Nat.le_of_ble_eq_true rfl) ⟨Nat.le_of_ble_eq_true rfl, Nat.le_of_ble_eq_true rfl⟩ dX3_number_43 (fun r_9 S_8 hF => ?_)
      refine j_bipush (v := 48) C dX3_number_46 rfl ?_
      refine j_bipush (v := 57) C dX3_number_48 rfl ?_
      refine jm_callsi (As := [.int r_9, .int 48, .int 57]) (rest := []) C (M_min G l hG h g hg S_8 r_9 48 57 _ hF) q1996 cal_min rfl rfl (Nat.le_of_ble_eq_true rfl) ⟨Nat.le_of_ble_eq_true rfl, Nat.le_of_ble_eq_true rfl⟩ dX3_number_50 (fun r_11 S_10 hF => ?_)
      refine j_if_eq (tgt := 85) C dX3_number_53 (by decide) (fun hc_12 => ?_) (fun hc_12 => ?_)
      · replace hF := hF.1 hc_12
        refine j_iload_n C dX3_number_85 rfl 2 rfl ?_
        rw [hQ]
        exact j_iret C rfl ⟨_, _, rfl, rfl, hF⟩ dX3_number_86
      · replace hF := hF.2 hc_12
        refine j_bipush (v := 10) C dX3_number_56 rfl ?_
        refine j_iload_n C dX3_number_58 rfl 2 rfl ?_
        refine j_imul C dX3_number_59 ?_
        refine j_aload_n C dX3_number_60 rfl 0 rfl ?_
        refine jm_calli (As := []) (rest := [.int (10 * z2)]) C (M_msign G l hG h g hg S_10 _ hF) q2210 cal_msign rfl rfl (Nat.le_of_ble_eq_true rfl) ⟨Nat.le_of_ble_eq_true rfl, Nat.le_of_ble_eq_true rfl⟩ dX3_number_61 (fun r_14 S_13 hF => ?_)
        refine j_iadd C dX3_number_64 ?_
        refine j_bipush (v := 48) C dX3_number_65 rfl ?_
        refine j_isub C dX3_number_67 ?_
        refine j_istore_n (L2 := [(2, .int (((10 * z2) + r_14) - 48)), (0, .ref (g 0)), (1, .int f1), (3, .int z3)]) C dX3_number_68 rfl (by decide) rfl ?_
        refine j_aload_n C dX3_number_69 rfl 1 rfl ?_
        refine j_dup C dX3_number_70 rfl ?_
        refine jmG16 C dX3_number_71 ?_
        refine j_iconst (v := 1) C dX3_number_74 rfl ?_
        refine j_iadd C dX3_number_75 ?_
        refine jmP16 C hg dX3_number_76 ?_
        obtain ⟨S_15, eS_15, hF⟩ := nm_intro hF
        refine m_J eS_15 ?_
        refine j_iinc (q := 3) (v := z3 + 1) (L2 := [(3, .int (z3 + 1)), (2, .int (((10 * z2) + r_14) - 48)), (0, .ref (g 0)), (1, .int f1)]) C dX3_number_79 rfl rfl (by decide) rfl ?_
        refine j_goto (tgt := 37) C dX3_number_82 (by decide) ?_
        exact J.locals [2, 3, 1, 0] (ih _ _ _ hF) rfl
set_option maxHeartbeats 4000000 in
theorem M_mnumber (G : GT) (l : Launch) (hG : GOK G) (h : AH) (g : Nat → Nat) (hg : Mg G g) (S : MS) (x1 : Int32) (P : Int32 → MS → Prop) (hF : F_mnumber S x1 P) : MMi G l yX3_number cX3_number 4 .int 1 22 [.ref (g 0), .int x1] h g S P := by
  refine MT.mk (own := RX3) (by decide) rfl hG (Nat.le_of_ble_eq_true rfl) ?_
  intro p e s m below meth c args Q hargs hQ C _
  refine J.loca (L2 := [(0, .ref (g 0)), (1, .int x1)]) rfl ?_
  unfold F_mnumber at hF
  refine j_aload_n C dX3_number_0 rfl 0 rfl ?_
  refine jmG17 C dX3_number_1 ?_
  refine j_if_lt (tgt := 9) C dX3_number_4 (by decide) (fun hc_1 => ?_) (fun hc_1 => ?_)
  · replace hF := hF.1 hc_1
    refine j_aload_n C dX3_number_9 rfl 0 rfl ?_
    refine jm_calli (As := []) (rest := []) C (M_msign G l hG h g hg S _ hF) q2210 cal_msign rfl rfl (Nat.le_of_ble_eq_true rfl) ⟨Nat.le_of_ble_eq_true rfl, Nat.le_of_ble_eq_true rfl⟩ dX3_number_10 (fun r_3 S_2 hF => ?_)
    refine j_bipush (v := 48) C dX3_number_13 rfl ?_
    refine j_bipush (v := 57) C dX3_number_15 rfl ?_
    refine jm_callsi (As := [.int r_3, .int 48, .int 57]) (rest := []) C (M_min G l hG h g hg S_2 r_3 48 57 _ hF) q1996 cal_min rfl rfl (Nat.le_of_ble_eq_true rfl) ⟨Nat.le_of_ble_eq_true rfl, Nat.le_of_ble_eq_true rfl⟩ dX3_number_17 (fun r_5 S_4 hF => ?_)
    refine j_if_ne (tgt := 33) C dX3_number_20 (by decide) (fun hc_6 => ?_) (fun hc_6 => ?_)
    · replace hF := hF.2 hc_6
      refine j_iconst (v := 0) C dX3_number_33 rfl ?_
      refine j_istore_n (L2 := [(2, .int 0), (0, .ref (g 0)), (1, .int x1)]) C dX3_number_34 rfl (by decide) rfl ?_
      refine j_iconst (v := 0) C dX3_number_35 rfl ?_
      refine j_istore_n (L2 := [(3, .int 0), (2, .int 0), (0, .ref (g 0)), (1, .int x1)]) C dX3_number_36 rfl (by decide) rfl ?_
      refine J.locals [2, 3, 1, 0] (WL_mnumber_37 C hG hg hQ NF _ _ _ hF) rfl
    · replace hF := hF.1 hc_6
      refine j_aload_n C dX3_number_23 rfl 0 rfl ?_
      refine j_aload_n C dX3_number_24 rfl 0 rfl ?_
      refine jmG16 C dX3_number_25 ?_
      refine jmP17 C hg dX3_number_28 ?_
      obtain ⟨S_16, eS_16, hF⟩ := nm_intro hF
      refine m_J eS_16 ?_
      refine j_iconst (v := 0) C dX3_number_31 rfl ?_
      rw [hQ]
      exact j_iret C rfl ⟨_, _, rfl, rfl, hF⟩ dX3_number_32
  · replace hF := hF.2 hc_1
    refine j_iconst (v := 0) C dX3_number_7 rfl ?_
    rw [hQ]
    exact j_iret C rfl ⟨_, _, rfl, rfl, hF⟩ dX3_number_8
theorem cal_msigns : CalV yX3_signs RX3 cX3_signs 4 none 3 := ⟨q2220, qs84, q101, q2221, by decide +kernel⟩
def F_msigns (S : MS) (x1 : Int32) (x2 : Int32) (x3 : Int32) (P : MS → Prop) : Prop := F_mneeds S x1 (fun S_1 => F_mneeds S_1 x2 (fun S_2 => (x3 = 0 → P S_2) ∧ (¬ x3 = 0 → F_mneeds S_2 x3 (fun S_4 => P S_4))))
set_option maxHeartbeats 4000000 in
theorem M_msigns (G : GT) (l : Launch) (hG : GOK G) (h : AH) (g : Nat → Nat) (hg : Mg G g) (S : MS) (x1 : Int32) (x2 : Int32) (x3 : Int32) (P : MS → Prop) (hF : F_msigns S x1 x2 x3 P) : MMv G l yX3_signs cX3_signs 4 2 41 [.ref (g 0), .int x1, .int x2, .int x3] h g S P := by
  refine MT.mk (own := RX3) (by decide) rfl hG (Nat.le_of_ble_eq_true rfl) ?_
  intro p e s m below meth c args Q hargs hQ C _
  refine J.loca (L2 := [(0, .ref (g 0)), (1, .int x1), (2, .int x2), (3, .int x3)]) rfl ?_
  unfold F_msigns at hF
  refine j_aload_n C dX3_signs_0 rfl 0 rfl ?_
  refine j_iload_n C dX3_signs_1 rfl 1 rfl ?_
  refine jm_callv (As := [.int x1]) (rest := []) C (M_mneeds G l hG h g hg S x1 _ hF) q2222 cal_mneeds rfl rfl (Nat.le_of_ble_eq_true rfl) ⟨Nat.le_of_ble_eq_true rfl, Nat.le_of_ble_eq_true rfl⟩ dX3_signs_2 (fun S_1 hF => ?_)
  refine j_aload_n C dX3_signs_5 rfl 0 rfl ?_
  refine j_iload_n C dX3_signs_6 rfl 2 rfl ?_
  refine jm_callv (As := [.int x2]) (rest := []) C (M_mneeds G l hG h g hg S_1 x2 _ hF) q2222 cal_mneeds rfl rfl (Nat.le_of_ble_eq_true rfl) ⟨Nat.le_of_ble_eq_true rfl, Nat.le_of_ble_eq_true rfl⟩ dX3_signs_7 (fun S_2 hF => ?_)
  refine j_iload_n C dX3_signs_10 rfl 3 rfl ?_
  refine j_if_eq (tgt := 19) C dX3_signs_11 (by decide) (fun hc_3 => ?_) (fun hc_3 => ?_)
  · replace hF := hF.1 hc_3
    rw [hQ]
    exact j_vret C ⟨_, rfl, rfl, hF⟩ dX3_signs_19
  · replace hF := hF.2 hc_3
    refine j_aload_n C dX3_signs_14 rfl 0 rfl ?_
    refine j_iload_n C dX3_signs_15 rfl 3 rfl ?_
    refine jm_callv (As := [.int x3]) (rest := []) C (M_mneeds G l hG h g hg S_2 x3 _ hF) q2222 cal_mneeds rfl rfl (Nat.le_of_ble_eq_true rfl) ⟨Nat.le_of_ble_eq_true rfl, Nat.le_of_ble_eq_true rfl⟩ dX3_signs_16 (fun S_4 hF => ?_)
    rw [hQ]
    exact j_vret C ⟨_, rfl, rfl, hF⟩ dX3_signs_19
theorem cal_mword : CalV yX3_word RX3 cX3_word 2 (some .int) 1 := ⟨q2216, qs83, q101, q2217, by decide +kernel⟩
def F_mword (S : MS) (x1 : Int32) (P : Int32 → MS → Prop) : Prop := (x1 = 97 → F_msigns S 112 112 114 (fun S_2 => F_msigns S_2 101 110 116 (fun S_3 => F_msigns S_3 105 99 101 (fun S_4 => P x1 S_4)))) ∧ (¬ x1 = 97 → (x1 = 99 → F_msigns S 111 115 116 (fun S_6 => P x1 S_6)) ∧ (¬ x1 = 99 → (x1 = 108 → F_msigns S 101 97 118 (fun S_8 => F_mneeds S_8 101 (fun S_9 => P x1 S_9))) ∧ (¬ x1 = 108 → (x1 = 109 → F_msigns S 97 115 116 (fun S_11 => F_msigns S_11 101 114 0 (fun S_12 => P x1 S_12))) ∧ (¬ x1 = 109 → (x1 = 115 → F_msigns S 101 116 116 (fun S_14 => F_msigns S_14 108 101 0 (fun S_15 => P x1 S_15))) ∧ (¬ x1 = 115 → (x1 = 121 → F_msigns S 101 97 114 (fun S_17 => P x1 S_17)) ∧ (¬ x1 = 121 → F_msign S (fun r_19 S_18 => (r_19 = 105 → F_msigns S_18 105 100 0 (fun S_22 => P 105 S_22)) ∧ (¬ r_19 = 105 → F_msigns S_18 97 114 0 (fun S_21 => P x1 S_21)))))))))
set_option maxHeartbeats 4000000 in
theorem M_mword (G : GT) (l : Launch) (hG : GOK G) (h : AH) (g : Nat → Nat) (hg : Mg G g) (S : MS) (x1 : Int32) (P : Int32 → MS → Prop) (hF : F_mword S x1 P) : MMi G l yX3_word cX3_word 2 .int 3 64 [.ref (g 0), .int x1] h g S P := by
  refine MT.mk (own := RX3) (by decide) rfl hG (Nat.le_of_ble_eq_true rfl) ?_
  intro p e s m below meth c args Q hargs hQ C _
  refine J.loca (L2 := [(0, .ref (g 0)), (1, .int x1)]) rfl ?_
  unfold F_mword at hF
  refine j_iload_n C dX3_word_0 rfl 1 rfl ?_
  by_cases hc_1 : x1 = 97
  · replace hF := hF.1 hc_1
    refine j_lookup (tgt := 60) C dX3_word_1 (by decide) (by rw [hc_1]) (by decide) ?_
    refine j_aload_n C dX3_word_60 rfl 0 rfl ?_
    refine j_bipush (v := 112) C dX3_word_61 rfl ?_
    refine j_bipush (v := 112) C dX3_word_63 rfl ?_
    refine j_bipush (v := 114) C dX3_word_65 rfl ?_
    refine jm_callv (As := [.int 112, .int 112, .int 114]) (rest := []) C (M_msigns G l hG h g hg S 112 112 114 _ hF) q2218 cal_msigns rfl rfl (Nat.le_of_ble_eq_true rfl) ⟨Nat.le_of_ble_eq_true rfl, Nat.le_of_ble_eq_true rfl⟩ dX3_word_67 (fun S_2 hF => ?_)
    refine j_aload_n C dX3_word_70 rfl 0 rfl ?_
    refine j_bipush (v := 101) C dX3_word_71 rfl ?_
    refine j_bipush (v := 110) C dX3_word_73 rfl ?_
    refine j_bipush (v := 116) C dX3_word_75 rfl ?_
    refine jm_callv (As := [.int 101, .int 110, .int 116]) (rest := []) C (M_msigns G l hG h g hg S_2 101 110 116 _ hF) q2218 cal_msigns rfl rfl (Nat.le_of_ble_eq_true rfl) ⟨Nat.le_of_ble_eq_true rfl, Nat.le_of_ble_eq_true rfl⟩ dX3_word_77 (fun S_3 hF => ?_)
    refine j_aload_n C dX3_word_80 rfl 0 rfl ?_
    refine j_bipush (v := 105) C dX3_word_81 rfl ?_
    refine j_bipush (v := 99) C dX3_word_83 rfl ?_
    refine j_bipush (v := 101) C dX3_word_85 rfl ?_
    refine jm_callv (As := [.int 105, .int 99, .int 101]) (rest := []) C (M_msigns G l hG h g hg S_3 105 99 101 _ hF) q2218 cal_msigns rfl rfl (Nat.le_of_ble_eq_true rfl) ⟨Nat.le_of_ble_eq_true rfl, Nat.le_of_ble_eq_true rfl⟩ dX3_word_87 (fun S_4 hF => ?_)
    refine j_iload_n C dX3_word_90 rfl 1 rfl ?_
    rw [hQ]
    exact j_iret C rfl ⟨_, _, rfl, rfl, hF⟩ dX3_word_91
  replace hF := hF.2 hc_1
  by_cases hc_5 : x1 = 99
  · replace hF := hF.1 hc_5
    refine j_lookup (tgt := 113) C dX3_word_1 (by decide) (by rw [hc_5]) (by decide) ?_
    refine j_aload_n C dX3_word_113 rfl 0 rfl ?_
    refine j_bipush (v := 111) C dX3_word_114 rfl ?_
    refine j_bipush (v := 115) C dX3_word_116 rfl ?_
    refine j_bipush (v := 116) C dX3_word_118 rfl ?_
    refine jm_callv (As := [.int 111, .int 115, .int 116]) (rest := []) C (M_msigns G l hG h g hg S 111 115 116 _ hF) q2218 cal_msigns rfl rfl (Nat.le_of_ble_eq_true rfl) ⟨Nat.le_of_ble_eq_true rfl, Nat.le_of_ble_eq_true rfl⟩ dX3_word_120 (fun S_6 hF => ?_)
    refine j_iload_n C dX3_word_123 rfl 1 rfl ?_
    rw [hQ]
    exact j_iret C rfl ⟨_, _, rfl, rfl, hF⟩ dX3_word_124
  replace hF := hF.2 hc_5
  by_cases hc_7 : x1 = 108
  · replace hF := hF.1 hc_7
    refine j_lookup (tgt := 146) C dX3_word_1 (by decide) (by rw [hc_7]) (by decide) ?_
    refine j_aload_n C dX3_word_146 rfl 0 rfl ?_
    refine j_bipush (v := 101) C dX3_word_147 rfl ?_
    refine j_bipush (v := 97) C dX3_word_149 rfl ?_
    refine j_bipush (v := 118) C dX3_word_151 rfl ?_
    refine jm_callv (As := [.int 101, .int 97, .int 118]) (rest := []) C (M_msigns G l hG h g hg S 101 97 118 _ hF) q2218 cal_msigns rfl rfl (Nat.le_of_ble_eq_true rfl) ⟨Nat.le_of_ble_eq_true rfl, Nat.le_of_ble_eq_true rfl⟩ dX3_word_153 (fun S_8 hF => ?_)
    refine j_aload_n C dX3_word_156 rfl 0 rfl ?_
    refine j_bipush (v := 101) C dX3_word_157 rfl ?_
    refine jm_callv (As := [.int 101]) (rest := []) C (M_mneeds G l hG h g hg S_8 101 _ hF) q2222 cal_mneeds rfl rfl (Nat.le_of_ble_eq_true rfl) ⟨Nat.le_of_ble_eq_true rfl, Nat.le_of_ble_eq_true rfl⟩ dX3_word_159 (fun S_9 hF => ?_)
    refine j_iload_n C dX3_word_162 rfl 1 rfl ?_
    rw [hQ]
    exact j_iret C rfl ⟨_, _, rfl, rfl, hF⟩ dX3_word_163
  replace hF := hF.2 hc_7
  by_cases hc_10 : x1 = 109
  · replace hF := hF.1 hc_10
    refine j_lookup (tgt := 92) C dX3_word_1 (by decide) (by rw [hc_10]) (by decide) ?_
    refine j_aload_n C dX3_word_92 rfl 0 rfl ?_
    refine j_bipush (v := 97) C dX3_word_93 rfl ?_
    refine j_bipush (v := 115) C dX3_word_95 rfl ?_
    refine j_bipush (v := 116) C dX3_word_97 rfl ?_
    refine jm_callv (As := [.int 97, .int 115, .int 116]) (rest := []) C (M_msigns G l hG h g hg S 97 115 116 _ hF) q2218 cal_msigns rfl rfl (Nat.le_of_ble_eq_true rfl) ⟨Nat.le_of_ble_eq_true rfl, Nat.le_of_ble_eq_true rfl⟩ dX3_word_99 (fun S_11 hF => ?_)
    refine j_aload_n C dX3_word_102 rfl 0 rfl ?_
    refine j_bipush (v := 101) C dX3_word_103 rfl ?_
    refine j_bipush (v := 114) C dX3_word_105 rfl ?_
    refine j_iconst (v := 0) C dX3_word_107 rfl ?_
    refine jm_callv (As := [.int 101, .int 114, .int 0]) (rest := []) C (M_msigns G l hG h g hg S_11 101 114 0 _ hF) q2218 cal_msigns rfl rfl (Nat.le_of_ble_eq_true rfl) ⟨Nat.le_of_ble_eq_true rfl, Nat.le_of_ble_eq_true rfl⟩ dX3_word_108 (fun S_12 hF => ?_)
    refine j_iload_n C dX3_word_111 rfl 1 rfl ?_
    rw [hQ]
    exact j_iret C rfl ⟨_, _, rfl, rfl, hF⟩ dX3_word_112
  replace hF := hF.2 hc_10
  by_cases hc_13 : x1 = 115
  · replace hF := hF.1 hc_13
    refine j_lookup (tgt := 125) C dX3_word_1 (by decide) (by rw [hc_13]) (by decide) ?_
    refine j_aload_n C dX3_word_125 rfl 0 rfl ?_
    refine j_bipush (v := 101) C dX3_word_126 rfl ?_
    refine j_bipush (v := 116) C dX3_word_128 rfl ?_
    refine j_bipush (v := 116) C dX3_word_130 rfl ?_
    refine jm_callv (As := [.int 101, .int 116, .int 116]) (rest := []) C (M_msigns G l hG h g hg S 101 116 116 _ hF) q2218 cal_msigns rfl rfl (Nat.le_of_ble_eq_true rfl) ⟨Nat.le_of_ble_eq_true rfl, Nat.le_of_ble_eq_true rfl⟩ dX3_word_132 (fun S_14 hF => ?_)
    refine j_aload_n C dX3_word_135 rfl 0 rfl ?_
    refine j_bipush (v := 108) C dX3_word_136 rfl ?_
    refine j_bipush (v := 101) C dX3_word_138 rfl ?_
    refine j_iconst (v := 0) C dX3_word_140 rfl ?_
    refine jm_callv (As := [.int 108, .int 101, .int 0]) (rest := []) C (M_msigns G l hG h g hg S_14 108 101 0 _ hF) q2218 cal_msigns rfl rfl (Nat.le_of_ble_eq_true rfl) ⟨Nat.le_of_ble_eq_true rfl, Nat.le_of_ble_eq_true rfl⟩ dX3_word_141 (fun S_15 hF => ?_)
    refine j_iload_n C dX3_word_144 rfl 1 rfl ?_
    rw [hQ]
    exact j_iret C rfl ⟨_, _, rfl, rfl, hF⟩ dX3_word_145
  replace hF := hF.2 hc_13
  by_cases hc_16 : x1 = 121
  · replace hF := hF.1 hc_16
    refine j_lookup (tgt := 164) C dX3_word_1 (by decide) (by rw [hc_16]) (by decide) ?_
    refine j_aload_n C dX3_word_164 rfl 0 rfl ?_
    refine j_bipush (v := 101) C dX3_word_165 rfl ?_
    refine j_bipush (v := 97) C dX3_word_167 rfl ?_
    refine j_bipush (v := 114) C dX3_word_169 rfl ?_
    refine jm_callv (As := [.int 101, .int 97, .int 114]) (rest := []) C (M_msigns G l hG h g hg S 101 97 114 _ hF) q2218 cal_msigns rfl rfl (Nat.le_of_ble_eq_true rfl) ⟨Nat.le_of_ble_eq_true rfl, Nat.le_of_ble_eq_true rfl⟩ dX3_word_171 (fun S_17 hF => ?_)
    refine j_iload_n C dX3_word_174 rfl 1 rfl ?_
    rw [hQ]
    exact j_iret C rfl ⟨_, _, rfl, rfl, hF⟩ dX3_word_175
  replace hF := hF.2 hc_16
  refine j_lookup (tgt := 176) (off := 175) C dX3_word_1 (by decide) (by show Op.lookupswitch.offset [(97, 59), (99, 112), (108, 145), (109, 91), (115, 124), (121, 163)] _ _ = _; rw [lv_osw hc_1 (by decide), lv_osw hc_5 (by decide), lv_osw hc_7 (by decide), lv_osw hc_10 (by decide), lv_osw hc_13 (by decide), lv_osw hc_16 (by decide)]; rfl) (by decide) ?_
  refine j_aload_n C dX3_word_176 rfl 0 rfl ?_
  refine jm_calli (As := []) (rest := []) C (M_msign G l hG h g hg S _ hF) q2210 cal_msign rfl rfl (Nat.le_of_ble_eq_true rfl) ⟨Nat.le_of_ble_eq_true rfl, Nat.le_of_ble_eq_true rfl⟩ dX3_word_177 (fun r_19 S_18 hF => ?_)
  refine j_bipush (v := 105) C dX3_word_180 rfl ?_
  refine j_icmp_ne (tgt := 197) C dX3_word_182 (by decide) (fun hc_20 => ?_) (fun hc_20 => ?_)
  · replace hF := hF.2 hc_20
    refine j_aload_n C dX3_word_197 rfl 0 rfl ?_
    refine j_bipush (v := 97) C dX3_word_198 rfl ?_
    refine j_bipush (v := 114) C dX3_word_200 rfl ?_
    refine j_iconst (v := 0) C dX3_word_202 rfl ?_
    refine jm_callv (As := [.int 97, .int 114, .int 0]) (rest := []) C (M_msigns G l hG h g hg S_18 97 114 0 _ hF) q2218 cal_msigns rfl rfl (Nat.le_of_ble_eq_true rfl) ⟨Nat.le_of_ble_eq_true rfl, Nat.le_of_ble_eq_true rfl⟩ dX3_word_203 (fun S_21 hF => ?_)
    refine j_iload_n C dX3_word_206 rfl 1 rfl ?_
    rw [hQ]
    exact j_iret C rfl ⟨_, _, rfl, rfl, hF⟩ dX3_word_207
  · replace hF := hF.1 hc_20
    refine j_aload_n C dX3_word_185 rfl 0 rfl ?_
    refine j_bipush (v := 105) C dX3_word_186 rfl ?_
    refine j_bipush (v := 100) C dX3_word_188 rfl ?_
    refine j_iconst (v := 0) C dX3_word_190 rfl ?_
    refine jm_callv (As := [.int 105, .int 100, .int 0]) (rest := []) C (M_msigns G l hG h g hg S_18 105 100 0 _ hF) q2218 cal_msigns rfl rfl (Nat.le_of_ble_eq_true rfl) ⟨Nat.le_of_ble_eq_true rfl, Nat.le_of_ble_eq_true rfl⟩ dX3_word_191 (fun S_22 hF => ?_)
    refine j_bipush (v := 105) C dX3_word_194 rfl ?_
    rw [hQ]
    exact j_iret C rfl ⟨_, _, rfl, rfl, hF⟩ dX3_word_196
theorem cal_morder : CalV yX3_order RX3 cX3_order 4 none 0 := ⟨q2208, qs81, q101, q2209, by decide +kernel⟩
def L_morder_24 (K44 : MS → Prop) (P : MS → Prop) (f1 : Int32) (f2 : Int32) : Nat → MS → Int32 → Prop
  | 0, _, _ => False
  | n + 1, S, z3 => (4 ≤ z3 → K44 S) ∧ (¬ 4 ≤ z3 → (vp_in (f1 + z3) 244) ∧ (nm (sput S 5 (Int32.toNatClampNeg (f1 + z3)) 0) (fun S_5 => L_morder_24 K44 P f1 f2 n S_5 (z3 + 1))))
def F_morder (S : MS) (P : MS → Prop) : Prop := nm (sput S 0 20 ((S 0 20) + 1)) (fun S_1 => F_msign S_1 (fun r_3 S_2 => L_morder_24 (fun S_6 => jn (α := MS → Prop) (fun S_8 => nm (sput S_8 0 16 ((S_8 0 16) + 1)) (fun S_9 => F_mword S_9 r_3 (fun r_11 S_10 => (vp_in (4 * (S 0 20)) 244) ∧ (nm (sput S_10 5 (Int32.toNatClampNeg (4 * (S 0 20))) r_11) (fun S_12 => (r_11 = 97 → P S_12) ∧ (¬ r_11 = 97 → (r_11 = 109 → P S_12) ∧ (¬ r_11 = 109 → (r_11 = 105 → P S_12) ∧ (¬ r_11 = 105 → (r_11 = 115 → P S_12) ∧ (¬ r_11 = 115 → (r_11 = 121 → P S_12) ∧ (¬ r_11 = 121 → F_mneeds S_12 32 (fun S_18 => F_mnumber S_18 1 (fun r_20 S_19 => (vp_in ((4 * (S 0 20)) + 1) 244) ∧ (nm (sput S_19 5 (Int32.toNatClampNeg ((4 * (S 0 20)) + 1)) r_20) (fun S_21 => (r_11 = 108 → P S_21) ∧ (¬ r_11 = 108 → F_mnumber S_21 1 (fun r_24 S_23 => (vp_in ((4 * (S 0 20)) + 2) 244) ∧ (nm (sput S_23 5 (Int32.toNatClampNeg ((4 * (S 0 20)) + 2)) r_24) (fun S_25 => (r_11 = 99 → F_mneeds S_25 61 (fun S_27 => F_mnumber S_27 2 (fun r_29 S_28 => (vp_in ((4 * (S 0 20)) + 3) 244) ∧ (nm (sput S_28 5 (Int32.toNatClampNeg ((4 * (S 0 20)) + 3)) r_29) (fun S_30 => P S_30))))) ∧ (¬ r_11 = 99 → P S_25))))))))))))))))))) (fun K_7 => (r_3 = 97 → K_7 S_6) ∧ (¬ r_3 = 97 → (r_3 = 109 → K_7 S_6) ∧ (¬ r_3 = 109 → (r_3 = 99 → K_7 S_6) ∧ (¬ r_3 = 99 → (r_3 = 98 → K_7 S_6) ∧ (¬ r_3 = 98 → (r_3 = 115 → K_7 S_6) ∧ (¬ r_3 = 115 → (r_3 = 108 → K_7 S_6) ∧ (¬ r_3 = 108 → (r_3 = 121 → K_7 S_6) ∧ (¬ r_3 = 121 → nm (sput S_6 0 17 (S_6 0 16)) (fun S_38 => P S_38)))))))))) P (4 * (S 0 20)) r_3 NF S_2 0))
set_option maxHeartbeats 4000000 in
theorem WL_morder_24 {G : GT} {p : Program} {l : Launch} {e : Env} {s : State} {m : MethodId} {args : Array Value} {below : List Frame} {meth : Method} {c : Code} {h : AH} {g : Nat → Nat} {Q : State → Prop} (C : Cx G p s m args meth c cX3_order RX3 4 none) (hG : GOK G) (hg : Mg G g) {P : MS → Prop} (hQ : Q = MQ below (SQ G (fun v h' => ∃ (S' : MS), v = none ∧ h' = (MH G.2.2.1 h g S') ∧ P S')) args s (({ frames := 4, cells := 0, slots := 0, locals := 85 } : Room) : Room).cells (({ frames := 4, cells := 0, slots := 0, locals := 85 } : Room) : Room).slots (fun q => G.1 ≤ q)) {K44 : MS → Prop} {f1 : Int32} {f2 : Int32} (hK44 : ∀ (S0 : MS), K44 S0 → J G p l e ({ frames := 4, cells := 0, slots := 0, locals := 85 } : Room) s m args below meth c 4 Q 0 0 (MH G.2.2.1 h g S0) 44 [(0, .ref (g 0)), (1, .int f1), (2, .int f2)] []) :
    ∀ (n : Nat) (S : MS) (z3 : Int32), L_morder_24 K44 P f1 f2 n S z3 → J G p l e ({ frames := 4, cells := 0, slots := 0, locals := 85 } : Room) s m args below meth c 4 Q 0 0 (MH G.2.2.1 h g S) 24 [(0, .ref (g 0)), (1, .int f1), (2, .int f2), (3, .int z3)] [] := by
  intro n
  induction n with
  | zero => intro S z3 hF; exact hF.elim
  | succ n ih =>
    intro S z3 hF
    unfold L_morder_24 at hF
    refine j_iload_n C dX3_order_24 rfl 3 rfl ?_
    refine j_iconst (v := 4) C dX3_order_25 rfl ?_
    refine j_icmp_ge (tgt := 44) C dX3_order_26 (by decide) (fun hc_4 => ?_) (fun hc_4 => ?_)
    · replace hF := hF.1 hc_4
      exact J.locals [0, 1, 2] (hK44 _ hF) rfl
    · replace hF := hF.2 hc_4
      refine j_aload_n C dX3_order_29 rfl 0 rfl ?_
      refine jmG19 C dX3_order_30 ?_
      refine j_iload_n C dX3_order_33 rfl 1 rfl ?_
      refine j_iload_n C dX3_order_34 rfl 3 rfl ?_
      refine j_iadd C dX3_order_35 ?_
      refine j_iconst (v := 0) C dX3_order_36 rfl ?_
      obtain ⟨hgd, hF⟩ := hF
      refine jmS5 C hg hgd dX3_order_37 ?_
      obtain ⟨S_5, eS_5, hF⟩ := nm_intro hF
      refine m_J eS_5 ?_
      refine j_iinc (q := 3) (v := z3 + 1) (L2 := [(3, .int (z3 + 1)), (0, .ref (g 0)), (1, .int f1), (2, .int f2)]) C dX3_order_38 rfl rfl (by decide) rfl ?_
      refine j_goto (tgt := 24) C dX3_order_41 (by decide) ?_
      exact J.locals [1, 2, 3, 0] (ih _ _ hF) rfl
set_option maxHeartbeats 4000000 in
theorem M_morder (G : GT) (l : Launch) (hG : GOK G) (h : AH) (g : Nat → Nat) (hg : Mg G g) (S : MS) (P : MS → Prop) (hF : F_morder S P) : MMv G l yX3_order cX3_order 4 4 85 [.ref (g 0)] h g S P := by
  refine MT.mk (own := RX3) (by decide) rfl hG (Nat.le_of_ble_eq_true rfl) ?_
  intro p e s m below meth c args Q hargs hQ C _
  refine J.loca (L2 := [(0, .ref (g 0))]) rfl ?_
  unfold F_morder at hF
  refine j_iconst (v := 4) C dX3_order_0 rfl ?_
  refine j_aload_n C dX3_order_1 rfl 0 rfl ?_
  refine jmG20 C dX3_order_2 ?_
  refine j_imul C dX3_order_5 ?_
  refine j_istore_n (L2 := [(1, .int (4 * (S 0 20))), (0, .ref (g 0))]) C dX3_order_6 rfl (by decide) rfl ?_
  refine j_aload_n C dX3_order_7 rfl 1 rfl ?_
  refine j_dup C dX3_order_8 rfl ?_
  refine jmG20 C dX3_order_9 ?_
  refine j_iconst (v := 1) C dX3_order_12 rfl ?_
  refine j_iadd C dX3_order_13 ?_
  refine jmP20 C hg dX3_order_14 ?_
  obtain ⟨S_1, eS_1, hF⟩ := nm_intro hF
  refine m_J eS_1 ?_
  refine j_aload_n C dX3_order_17 rfl 1 rfl ?_
  refine jm_calli (As := []) (rest := []) C (M_msign G l hG h g hg S_1 _ hF) q2210 cal_msign rfl rfl (Nat.le_of_ble_eq_true rfl) ⟨Nat.le_of_ble_eq_true rfl, Nat.le_of_ble_eq_true rfl⟩ dX3_order_18 (fun r_3 S_2 hF => ?_)
  refine j_istore_n (L2 := [(2, .int r_3), (1, .int (4 * (S 0 20))), (0, .ref (g 0))]) C dX3_order_21 rfl (by decide) rfl ?_
  refine j_iconst (v := 0) C dX3_order_22 rfl ?_
  refine j_istore_n (L2 := [(3, .int 0), (2, .int r_3), (1, .int (4 * (S 0 20))), (0, .ref (g 0))]) C dX3_order_23 rfl (by decide) rfl ?_
  refine J.locals [3, 2, 1, 0] (WL_morder_24 C hG hg hQ ?_ NF _ _ hF) rfl
  · intro S_6 hF
    refine j_iload_n C dX3_order_44 rfl 2 rfl ?_
    refine j_bipush (v := 97) C dX3_order_45 rfl ?_
    obtain ⟨K_7, hK_7, hF⟩ := jn_intro (M := fun (K : MS → Prop) => ∀ (S_8 : MS), K S_8 → J G p l e ({ frames := 4, cells := 0, slots := 0, locals := 85 } : Room) s m args below meth c 4 Q 0 0 (MH G.2.2.1 h g S_8) 95 [(0, .ref (g 0)), (1, .int (4 * (S 0 20))), (2, .int r_3)] []) (hk := by
        intro S_8 hF
        refine j_aload_n C dX3_order_95 rfl 0 rfl ?_
        refine j_dup C dX3_order_96 rfl ?_
        refine jmG16 C dX3_order_97 ?_
        refine j_iconst (v := 1) C dX3_order_100 rfl ?_
        refine j_iadd C dX3_order_101 ?_
        refine jmP16 C hg dX3_order_102 ?_
        obtain ⟨S_9, eS_9, hF⟩ := nm_intro hF
        refine m_J eS_9 ?_
        refine j_aload_n C dX3_order_105 rfl 0 rfl ?_
        refine j_iload_n C dX3_order_106 rfl 2 rfl ?_
        refine jm_calli (As := [.int r_3]) (rest := []) C (M_mword G l hG h g hg S_9 r_3 _ hF) q2214 cal_mword rfl rfl (Nat.le_of_ble_eq_true rfl) ⟨Nat.le_of_ble_eq_true rfl, Nat.le_of_ble_eq_true rfl⟩ dX3_order_107 (fun r_11 S_10 hF => ?_)
        refine j_istore_n (L2 := [(3, .int r_11), (0, .ref (g 0)), (1, .int (4 * (S 0 20))), (2, .int r_3)]) C dX3_order_110 rfl (by decide) rfl ?_
        refine j_aload_n C dX3_order_111 rfl 1 rfl ?_
        refine jmG19 C dX3_order_112 ?_
        refine j_iload_n C dX3_order_115 rfl 2 rfl ?_
        refine j_iload_n C dX3_order_116 rfl 0 rfl ?_
        obtain ⟨hgd, hF⟩ := hF
        refine jmS5 C hg hgd dX3_order_117 ?_
        obtain ⟨S_12, eS_12, hF⟩ := nm_intro hF
        refine m_J eS_12 ?_
        refine j_iload_n C dX3_order_118 rfl 0 rfl ?_
        refine j_bipush (v := 97) C dX3_order_119 rfl ?_
        refine j_icmp_eq (tgt := 148) C dX3_order_121 (by decide) (fun hc_13 => ?_) (fun hc_13 => ?_)
        · replace hF := hF.1 hc_13
          rw [hQ]
          exact j_vret C ⟨_, rfl, rfl, hF⟩ dX3_order_148
        · replace hF := hF.2 hc_13
          refine j_iload_n C dX3_order_124 rfl 0 rfl ?_
          refine j_bipush (v := 109) C dX3_order_125 rfl ?_
          refine j_icmp_eq (tgt := 148) C dX3_order_127 (by decide) (fun hc_14 => ?_) (fun hc_14 => ?_)
          · replace hF := hF.1 hc_14
            rw [hQ]
            exact j_vret C ⟨_, rfl, rfl, hF⟩ dX3_order_148
          · replace hF := hF.2 hc_14
            refine j_iload_n C dX3_order_130 rfl 0 rfl ?_
            refine j_bipush (v := 105) C dX3_order_131 rfl ?_
            refine j_icmp_eq (tgt := 148) C dX3_order_133 (by decide) (fun hc_15 => ?_) (fun hc_15 => ?_)
            · replace hF := hF.1 hc_15
              rw [hQ]
              exact j_vret C ⟨_, rfl, rfl, hF⟩ dX3_order_148
            · replace hF := hF.2 hc_15
              refine j_iload_n C dX3_order_136 rfl 0 rfl ?_
              refine j_bipush (v := 115) C dX3_order_137 rfl ?_
              refine j_icmp_eq (tgt := 148) C dX3_order_139 (by decide) (fun hc_16 => ?_) (fun hc_16 => ?_)
              · replace hF := hF.1 hc_16
                rw [hQ]
                exact j_vret C ⟨_, rfl, rfl, hF⟩ dX3_order_148
              · replace hF := hF.2 hc_16
                refine j_iload_n C dX3_order_142 rfl 0 rfl ?_
                refine j_bipush (v := 121) C dX3_order_143 rfl ?_
                refine j_icmp_ne (tgt := 149) C dX3_order_145 (by decide) (fun hc_17 => ?_) (fun hc_17 => ?_)
                · replace hF := hF.2 hc_17
                  refine j_aload_n C dX3_order_149 rfl 1 rfl ?_
                  refine j_bipush (v := 32) C dX3_order_150 rfl ?_
                  refine jm_callv (As := [.int 32]) (rest := []) C (M_mneeds G l hG h g hg S_12 32 _ hF) q2222 cal_mneeds rfl rfl (Nat.le_of_ble_eq_true rfl) ⟨Nat.le_of_ble_eq_true rfl, Nat.le_of_ble_eq_true rfl⟩ dX3_order_152 (fun S_18 hF => ?_)
                  refine j_aload_n C dX3_order_155 rfl 1 rfl ?_
                  refine jmG19 C dX3_order_156 ?_
                  refine j_iload_n C dX3_order_159 rfl 2 rfl ?_
                  refine j_iconst (v := 1) C dX3_order_160 rfl ?_
                  refine j_iadd C dX3_order_161 ?_
                  refine j_aload_n C dX3_order_162 rfl 1 rfl ?_
                  refine j_iconst (v := 1) C dX3_order_163 rfl ?_
                  refine jm_calli (As := [.int 1]) (rest := [.int ((4 * (S 0 20)) + 1), .ref (g 5)]) C (M_mnumber G l hG h g hg S_18 1 _ hF) q2226 cal_mnumber rfl rfl (Nat.le_of_ble_eq_true rfl) ⟨Nat.le_of_ble_eq_true rfl, Nat.le_of_ble_eq_true rfl⟩ dX3_order_164 (fun r_20 S_19 hF => ?_)
                  obtain ⟨hgd, hF⟩ := hF
                  refine jmS5 C hg hgd dX3_order_167 ?_
                  obtain ⟨S_21, eS_21, hF⟩ := nm_intro hF
                  refine m_J eS_21 ?_
                  refine j_iload_n C dX3_order_168 rfl 0 rfl ?_
                  refine j_bipush (v := 108) C dX3_order_169 rfl ?_
                  refine j_icmp_ne (tgt := 175) C dX3_order_171 (by decide) (fun hc_22 => ?_) (fun hc_22 => ?_)
                  · replace hF := hF.2 hc_22
                    refine j_aload_n C dX3_order_175 rfl 1 rfl ?_
                    refine jmG19 C dX3_order_176 ?_
                    refine j_iload_n C dX3_order_179 rfl 2 rfl ?_
                    refine j_iconst (v := 2) C dX3_order_180 rfl ?_
                    refine j_iadd C dX3_order_181 ?_
                    refine j_aload_n C dX3_order_182 rfl 1 rfl ?_
                    refine j_iconst (v := 1) C dX3_order_183 rfl ?_
                    refine jm_calli (As := [.int 1]) (rest := [.int ((4 * (S 0 20)) + 2), .ref (g 5)]) C (M_mnumber G l hG h g hg S_21 1 _ hF) q2226 cal_mnumber rfl rfl (Nat.le_of_ble_eq_true rfl) ⟨Nat.le_of_ble_eq_true rfl, Nat.le_of_ble_eq_true rfl⟩ dX3_order_184 (fun r_24 S_23 hF => ?_)
                    obtain ⟨hgd, hF⟩ := hF
                    refine jmS5 C hg hgd dX3_order_187 ?_
                    obtain ⟨S_25, eS_25, hF⟩ := nm_intro hF
                    refine m_J eS_25 ?_
                    refine j_iload_n C dX3_order_188 rfl 0 rfl ?_
                    refine j_bipush (v := 99) C dX3_order_189 rfl ?_
                    refine j_icmp_ne (tgt := 213) C dX3_order_191 (by decide) (fun hc_26 => ?_) (fun hc_26 => ?_)
                    · replace hF := hF.2 hc_26
                      rw [hQ]
                      exact j_vret C ⟨_, rfl, rfl, hF⟩ dX3_order_213
                    · replace hF := hF.1 hc_26
                      refine j_aload_n C dX3_order_194 rfl 1 rfl ?_
                      refine j_bipush (v := 61) C dX3_order_195 rfl ?_
                      refine jm_callv (As := [.int 61]) (rest := []) C (M_mneeds G l hG h g hg S_25 61 _ hF) q2222 cal_mneeds rfl rfl (Nat.le_of_ble_eq_true rfl) ⟨Nat.le_of_ble_eq_true rfl, Nat.le_of_ble_eq_true rfl⟩ dX3_order_197 (fun S_27 hF => ?_)
                      refine j_aload_n C dX3_order_200 rfl 1 rfl ?_
                      refine jmG19 C dX3_order_201 ?_
                      refine j_iload_n C dX3_order_204 rfl 2 rfl ?_
                      refine j_iconst (v := 3) C dX3_order_205 rfl ?_
                      refine j_iadd C dX3_order_206 ?_
                      refine j_aload_n C dX3_order_207 rfl 1 rfl ?_
                      refine j_iconst (v := 2) C dX3_order_208 rfl ?_
                      refine jm_calli (As := [.int 2]) (rest := [.int ((4 * (S 0 20)) + 3), .ref (g 5)]) C (M_mnumber G l hG h g hg S_27 2 _ hF) q2226 cal_mnumber rfl rfl (Nat.le_of_ble_eq_true rfl) ⟨Nat.le_of_ble_eq_true rfl, Nat.le_of_ble_eq_true rfl⟩ dX3_order_209 (fun r_29 S_28 hF => ?_)
                      obtain ⟨hgd, hF⟩ := hF
                      refine jmS5 C hg hgd dX3_order_212 ?_
                      obtain ⟨S_30, eS_30, hF⟩ := nm_intro hF
                      refine m_J eS_30 ?_
                      rw [hQ]
                      exact j_vret C ⟨_, rfl, rfl, hF⟩ dX3_order_213
                  · replace hF := hF.1 hc_22
                    rw [hQ]
                    exact j_vret C ⟨_, rfl, rfl, hF⟩ dX3_order_174
                · replace hF := hF.1 hc_17
                  rw [hQ]
                  exact j_vret C ⟨_, rfl, rfl, hF⟩ dX3_order_148) hF
    refine j_icmp_eq (tgt := 95) C dX3_order_47 (by decide) (fun hc_31 => ?_) (fun hc_31 => ?_)
    · replace hF := hF.1 hc_31
      exact J.locals [0, 1, 2] (hK_7 _ hF) rfl
    · replace hF := hF.2 hc_31
      refine j_iload_n C dX3_order_50 rfl 2 rfl ?_
      refine j_bipush (v := 109) C dX3_order_51 rfl ?_
      refine j_icmp_eq (tgt := 95) C dX3_order_53 (by decide) (fun hc_32 => ?_) (fun hc_32 => ?_)
      · replace hF := hF.1 hc_32
        exact J.locals [0, 1, 2] (hK_7 _ hF) rfl
      · replace hF := hF.2 hc_32
        refine j_iload_n C dX3_order_56 rfl 2 rfl ?_
        refine j_bipush (v := 99) C dX3_order_57 rfl ?_
        refine j_icmp_eq (tgt := 95) C dX3_order_59 (by decide) (fun hc_33 => ?_) (fun hc_33 => ?_)
        · replace hF := hF.1 hc_33
          exact J.locals [0, 1, 2] (hK_7 _ hF) rfl
        · replace hF := hF.2 hc_33
          refine j_iload_n C dX3_order_62 rfl 2 rfl ?_
          refine j_bipush (v := 98) C dX3_order_63 rfl ?_
          refine j_icmp_eq (tgt := 95) C dX3_order_65 (by decide) (fun hc_34 => ?_) (fun hc_34 => ?_)
          · replace hF := hF.1 hc_34
            exact J.locals [0, 1, 2] (hK_7 _ hF) rfl
          · replace hF := hF.2 hc_34
            refine j_iload_n C dX3_order_68 rfl 2 rfl ?_
            refine j_bipush (v := 115) C dX3_order_69 rfl ?_
            refine j_icmp_eq (tgt := 95) C dX3_order_71 (by decide) (fun hc_35 => ?_) (fun hc_35 => ?_)
            · replace hF := hF.1 hc_35
              exact J.locals [0, 1, 2] (hK_7 _ hF) rfl
            · replace hF := hF.2 hc_35
              refine j_iload_n C dX3_order_74 rfl 2 rfl ?_
              refine j_bipush (v := 108) C dX3_order_75 rfl ?_
              refine j_icmp_eq (tgt := 95) C dX3_order_77 (by decide) (fun hc_36 => ?_) (fun hc_36 => ?_)
              · replace hF := hF.1 hc_36
                exact J.locals [0, 1, 2] (hK_7 _ hF) rfl
              · replace hF := hF.2 hc_36
                refine j_iload_n C dX3_order_80 rfl 2 rfl ?_
                refine j_bipush (v := 121) C dX3_order_81 rfl ?_
                refine j_icmp_eq (tgt := 95) C dX3_order_83 (by decide) (fun hc_37 => ?_) (fun hc_37 => ?_)
                · replace hF := hF.1 hc_37
                  exact J.locals [0, 1, 2] (hK_7 _ hF) rfl
                · replace hF := hF.2 hc_37
                  refine j_aload_n C dX3_order_86 rfl 0 rfl ?_
                  refine j_aload_n C dX3_order_87 rfl 0 rfl ?_
                  refine jmG16 C dX3_order_88 ?_
                  refine jmP17 C hg dX3_order_91 ?_
                  obtain ⟨S_38, eS_38, hF⟩ := nm_intro hF
                  refine m_J eS_38 ?_
                  rw [hQ]
                  exact j_vret C ⟨_, rfl, rfl, hF⟩ dX3_order_94
theorem cal_mpairing : CalV yX3_pairing RX3 cX3_pairing 2 (some .int) 0 := ⟨q2251, q2252, q101, q2253, by decide +kernel⟩
def L_mpairing_34 (K70 : MS → Prop) (P : Int32 → MS → Prop) : Nat → MS → Int32 → Prop
  | 0, _, _ => False
  | n + 1, S, z1 => (vp_in 0 1152) ∧ (((S 1 (Int32.toNatClampNeg (0))) ≤ z1 → K70 S) ∧ (¬ (S 1 (Int32.toNatClampNeg (0))) ≤ z1 → jn (α := MS → Prop) (fun S_7 => (vp_in z1 6) ∧ (F_mwritesNumber 5 S_7 (S_7 3 (Int32.toNatClampNeg (z1))) (fun S_8 => L_mpairing_34 K70 P n S_8 (z1 + 1)))) (fun K_6 => (z1 ≤ 0 → K_6 S) ∧ (¬ z1 ≤ 0 → F_mwrites S 32 (fun S_10 => K_6 S_10)))))
def F_mpairing (S : MS) (P : Int32 → MS → Prop) : Prop := nm (sput S 0 0 0) (fun S_1 => F_mlooks S_1 (fun S_2 => nm (sput S_2 0 22 0) (fun S_3 => ((S_3 0 11) = 0 → F_mwrites S_3 46 (fun S_14 => P (S_14 0 22) S_14)) ∧ (¬ (S_3 0 11) = 0 → L_mpairing_34 (fun S_11 => F_mwrites S_11 61 (fun S_12 => F_mwritesNumber 5 S_12 (S_12 0 13) (fun S_13 => P (S_13 0 22) S_13))) P NF S_3 0))))
set_option maxHeartbeats 4000000 in
theorem WL_mpairing_34 {G : GT} {p : Program} {l : Launch} {e : Env} {s : State} {m : MethodId} {args : Array Value} {below : List Frame} {meth : Method} {c : Code} {h : AH} {g : Nat → Nat} {Q : State → Prop} (C : Cx G p s m args meth c cX3_pairing RX3 2 (some .int)) (hG : GOK G) (hg : Mg G g) {P : Int32 → MS → Prop} (hQ : Q = MQ below (SQ G (fun v h' => ∃ (r : Int32) (S' : MS), v = some (.int r) ∧ h' = (MH G.2.2.1 h g S') ∧ P r S')) args s (({ frames := 13, cells := 0, slots := 0, locals := 311 } : Room) : Room).cells (({ frames := 13, cells := 0, slots := 0, locals := 311 } : Room) : Room).slots (fun q => G.1 ≤ q)) {K70 : MS → Prop} (hK70 : ∀ (S0 : MS), K70 S0 → J G p l e ({ frames := 13, cells := 0, slots := 0, locals := 311 } : Room) s m args below meth c 2 Q 0 0 (MH G.2.2.1 h g S0) 70 [(0, .ref (g 0))] []) :
    ∀ (n : Nat) (S : MS) (z1 : Int32), L_mpairing_34 K70 P n S z1 → J G p l e ({ frames := 13, cells := 0, slots := 0, locals := 311 } : Room) s m args below meth c 2 Q 0 0 (MH G.2.2.1 h g S) 34 [(0, .ref (g 0)), (1, .int z1)] [] := by
  intro n
  induction n with
  | zero => intro S z1 hF; exact hF.elim
  | succ n ih =>
    intro S z1 hF
    unfold L_mpairing_34 at hF
    refine j_iload_n C dX3_pairing_34 rfl 1 rfl ?_
    refine j_aload_n C dX3_pairing_35 rfl 0 rfl ?_
    refine jmG1 C dX3_pairing_36 ?_
    refine j_iconst (v := 0) C dX3_pairing_39 rfl ?_
    obtain ⟨hgd, hF⟩ := hF
    refine jmL1 C hg hgd dX3_pairing_40 ?_
    refine j_icmp_ge (tgt := 70) C dX3_pairing_41 (by decide) (fun hc_5 => ?_) (fun hc_5 => ?_)
    · replace hF := hF.1 hc_5
      exact J.locals [0] (hK70 _ hF) rfl
    · replace hF := hF.2 hc_5
      refine j_iload_n C dX3_pairing_44 rfl 1 rfl ?_
      obtain ⟨K_6, hK_6, hF⟩ := jn_intro (M := fun (K : MS → Prop) => ∀ (S_7 : MS), K S_7 → J G p l e ({ frames := 13, cells := 0, slots := 0, locals := 311 } : Room) s m args below meth c 2 Q 0 0 (MH G.2.2.1 h g S_7) 54 [(0, .ref (g 0)), (1, .int z1)] []) (hk := by
          intro S_7 hF
          refine j_aload_n C dX3_pairing_54 rfl 0 rfl ?_
          refine j_aload_n C dX3_pairing_55 rfl 0 rfl ?_
          refine jmG10 C dX3_pairing_56 ?_
          refine j_iload_n C dX3_pairing_59 rfl 1 rfl ?_
          obtain ⟨hgd, hF⟩ := hF
          refine jmL3 C hg hgd dX3_pairing_60 ?_
          refine jm_callv (As := [.int (S_7 3 (Int32.toNatClampNeg (z1)))]) (rest := []) C (M_mwritesNumber G l hG 5 h g hg S_7 (S_7 3 (Int32.toNatClampNeg (z1))) _ hF) q2242 cal_mwritesNumber rfl rfl (Nat.le_of_ble_eq_true rfl) ⟨Nat.le_of_ble_eq_true rfl, Nat.le_of_ble_eq_true rfl⟩ dX3_pairing_61 (fun S_8 hF => ?_)
          refine j_iinc (q := 1) (v := z1 + 1) (L2 := [(1, .int (z1 + 1)), (0, .ref (g 0))]) C dX3_pairing_64 rfl rfl (by decide) rfl ?_
          refine j_goto (tgt := 34) C dX3_pairing_67 (by decide) ?_
          exact J.locals [1, 0] (ih _ _ hF) rfl) hF
      refine j_if_le (tgt := 54) C dX3_pairing_45 (by decide) (fun hc_9 => ?_) (fun hc_9 => ?_)
      · replace hF := hF.1 hc_9
        exact J.locals [0, 1] (hK_6 _ hF) rfl
      · replace hF := hF.2 hc_9
        refine j_aload_n C dX3_pairing_48 rfl 0 rfl ?_
        refine j_bipush (v := 32) C dX3_pairing_49 rfl ?_
        refine jm_callv (As := [.int 32]) (rest := []) C (M_mwrites G l hG h g hg S 32 _ hF) q2246 cal_mwrites rfl rfl (Nat.le_of_ble_eq_true rfl) ⟨Nat.le_of_ble_eq_true rfl, Nat.le_of_ble_eq_true rfl⟩ dX3_pairing_51 (fun S_10 hF => ?_)
        exact J.locals [0, 1] (hK_6 _ hF) rfl
set_option maxHeartbeats 4000000 in
theorem M_mpairing (G : GT) (l : Launch) (hG : GOK G) (h : AH) (g : Nat → Nat) (hg : Mg G g) (S : MS) (P : Int32 → MS → Prop) (hF : F_mpairing S P) : MMi G l yX3_pairing cX3_pairing 2 .int 13 311 [.ref (g 0)] h g S P := by
  refine MT.mk (own := RX3) (by decide) rfl hG (Nat.le_of_ble_eq_true rfl) ?_
  intro p e s m below meth c args Q hargs hQ C _
  refine J.loca (L2 := [(0, .ref (g 0))]) rfl ?_
  unfold F_mpairing at hF
  refine j_aload_n C dX3_pairing_0 rfl 0 rfl ?_
  refine j_iconst (v := 0) C dX3_pairing_1 rfl ?_
  refine jmP0 C hg dX3_pairing_2 ?_
  obtain ⟨S_1, eS_1, hF⟩ := nm_intro hF
  refine m_J eS_1 ?_
  refine j_aload_n C dX3_pairing_5 rfl 0 rfl ?_
  refine jm_callv (As := []) (rest := []) C (M_mlooks G l hG h g hg S_1 _ hF) q2064 cal_mlooks rfl rfl (Nat.le_of_ble_eq_true rfl) ⟨Nat.le_of_ble_eq_true rfl, Nat.le_of_ble_eq_true rfl⟩ dX3_pairing_6 (fun S_2 hF => ?_)
  refine j_aload_n C dX3_pairing_9 rfl 0 rfl ?_
  refine j_iconst (v := 0) C dX3_pairing_10 rfl ?_
  refine jmP22 C hg dX3_pairing_11 ?_
  obtain ⟨S_3, eS_3, hF⟩ := nm_intro hF
  refine m_J eS_3 ?_
  refine j_aload_n C dX3_pairing_14 rfl 0 rfl ?_
  refine jmG11 C dX3_pairing_15 ?_
  refine j_if_ne (tgt := 32) C dX3_pairing_18 (by decide) (fun hc_4 => ?_) (fun hc_4 => ?_)
  · replace hF := hF.2 hc_4
    refine j_iconst (v := 0) C dX3_pairing_32 rfl ?_
    refine j_istore_n (L2 := [(1, .int 0), (0, .ref (g 0))]) C dX3_pairing_33 rfl (by decide) rfl ?_
    refine J.locals [1, 0] (WL_mpairing_34 C hG hg hQ ?_ NF _ _ hF) rfl
    · intro S_11 hF
      refine j_aload_n C dX3_pairing_70 rfl 0 rfl ?_
      refine j_bipush (v := 61) C dX3_pairing_71 rfl ?_
      refine jm_callv (As := [.int 61]) (rest := []) C (M_mwrites G l hG h g hg S_11 61 _ hF) q2246 cal_mwrites rfl rfl (Nat.le_of_ble_eq_true rfl) ⟨Nat.le_of_ble_eq_true rfl, Nat.le_of_ble_eq_true rfl⟩ dX3_pairing_73 (fun S_12 hF => ?_)
      refine j_aload_n C dX3_pairing_76 rfl 0 rfl ?_
      refine j_aload_n C dX3_pairing_77 rfl 0 rfl ?_
      refine jmG13 C dX3_pairing_78 ?_
      refine jm_callv (As := [.int (S_12 0 13)]) (rest := []) C (M_mwritesNumber G l hG 5 h g hg S_12 (S_12 0 13) _ hF) q2242 cal_mwritesNumber rfl rfl (Nat.le_of_ble_eq_true rfl) ⟨Nat.le_of_ble_eq_true rfl, Nat.le_of_ble_eq_true rfl⟩ dX3_pairing_81 (fun S_13 hF => ?_)
      refine j_aload_n C dX3_pairing_84 rfl 0 rfl ?_
      refine jmG22 C dX3_pairing_85 ?_
      rw [hQ]
      exact j_iret C rfl ⟨_, _, rfl, rfl, hF⟩ dX3_pairing_88
  · replace hF := hF.1 hc_4
    refine j_aload_n C dX3_pairing_21 rfl 0 rfl ?_
    refine j_bipush (v := 46) C dX3_pairing_22 rfl ?_
    refine jm_callv (As := [.int 46]) (rest := []) C (M_mwrites G l hG h g hg S_3 46 _ hF) q2246 cal_mwrites rfl rfl (Nat.le_of_ble_eq_true rfl) ⟨Nat.le_of_ble_eq_true rfl, Nat.le_of_ble_eq_true rfl⟩ dX3_pairing_24 (fun S_14 hF => ?_)
    refine j_aload_n C dX3_pairing_27 rfl 0 rfl ?_
    refine jmG22 C dX3_pairing_28 ?_
    rw [hQ]
    exact j_iret C rfl ⟨_, _, rfl, rfl, hF⟩ dX3_pairing_31
theorem cal_mparse : CalV yX3_parse RX3 cX3_parse 1 none 0 := ⟨q2204, qs80, q101, q2205, by decide +kernel⟩
def L_mparse_19 (K52 : MS → Prop) (P : MS → Prop) : Nat → MS → Prop
  | 0, _ => False
  | n + 1, S => (0 ≤ (S 0 17) → K52 S) ∧ (¬ 0 ≤ (S 0 17) → F_msign S (fun r_7 S_6 => (r_7 = 59 → nm (sput S_6 0 16 ((S_6 0 16) + 1)) (fun S_9 => F_morder S_9 (fun S_10 => L_mparse_19 K52 P n S_10))) ∧ (¬ r_7 = 59 → K52 S_6)))
def F_mparse (S : MS) (P : MS → Prop) : Prop := nm (sput S 0 16 0) (fun S_1 => nm (sput S_1 0 17 (-1)) (fun S_2 => nm (sput S_2 0 20 0) (fun S_3 => F_morder S_3 (fun S_4 => L_mparse_19 (fun S_11 => (0 ≤ (S_11 0 17) → P S_11) ∧ (¬ 0 ≤ (S_11 0 17) → ((S_11 0 15) ≤ (S_11 0 16) → P S_11) ∧ (¬ (S_11 0 15) ≤ (S_11 0 16) → nm (sput S_11 0 17 (S_11 0 16)) (fun S_14 => P S_14)))) P NF S_4))))
set_option maxHeartbeats 4000000 in
theorem WL_mparse_19 {G : GT} {p : Program} {l : Launch} {e : Env} {s : State} {m : MethodId} {args : Array Value} {below : List Frame} {meth : Method} {c : Code} {h : AH} {g : Nat → Nat} {Q : State → Prop} (C : Cx G p s m args meth c cX3_parse RX3 1 none) (hG : GOK G) (hg : Mg G g) {P : MS → Prop} (hQ : Q = MQ below (SQ G (fun v h' => ∃ (S' : MS), v = none ∧ h' = (MH G.2.2.1 h g S') ∧ P S')) args s (({ frames := 5, cells := 0, slots := 0, locals := 108 } : Room) : Room).cells (({ frames := 5, cells := 0, slots := 0, locals := 108 } : Room) : Room).slots (fun q => G.1 ≤ q)) {K52 : MS → Prop} (hK52 : ∀ (S0 : MS), K52 S0 → J G p l e ({ frames := 5, cells := 0, slots := 0, locals := 108 } : Room) s m args below meth c 1 Q 0 0 (MH G.2.2.1 h g S0) 52 [(0, .ref (g 0))] []) :
    ∀ (n : Nat) (S : MS), L_mparse_19 K52 P n S → J G p l e ({ frames := 5, cells := 0, slots := 0, locals := 108 } : Room) s m args below meth c 1 Q 0 0 (MH G.2.2.1 h g S) 19 [(0, .ref (g 0))] [] := by
  intro n
  induction n with
  | zero => intro S hF; exact hF.elim
  | succ n ih =>
    intro S hF
    unfold L_mparse_19 at hF
    refine j_aload_n C dX3_parse_19 rfl 0 rfl ?_
    refine jmG17 C dX3_parse_20 ?_
    refine j_if_ge (tgt := 52) C dX3_parse_23 (by decide) (fun hc_5 => ?_) (fun hc_5 => ?_)
    · replace hF := hF.1 hc_5
      exact J.locals [0] (hK52 _ hF) rfl
    · replace hF := hF.2 hc_5
      refine j_aload_n C dX3_parse_26 rfl 0 rfl ?_
      refine jm_calli (As := []) (rest := []) C (M_msign G l hG h g hg S _ hF) q2210 cal_msign rfl rfl (Nat.le_of_ble_eq_true rfl) ⟨Nat.le_of_ble_eq_true rfl, Nat.le_of_ble_eq_true rfl⟩ dX3_parse_27 (fun r_7 S_6 hF => ?_)
      refine j_bipush (v := 59) C dX3_parse_30 rfl ?_
      refine j_icmp_ne (tgt := 52) C dX3_parse_32 (by decide) (fun hc_8 => ?_) (fun hc_8 => ?_)
      · replace hF := hF.2 hc_8
        exact J.locals [0] (hK52 _ hF) rfl
      · replace hF := hF.1 hc_8
        refine j_aload_n C dX3_parse_35 rfl 0 rfl ?_
        refine j_dup C dX3_parse_36 rfl ?_
        refine jmG16 C dX3_parse_37 ?_
        refine j_iconst (v := 1) C dX3_parse_40 rfl ?_
        refine j_iadd C dX3_parse_41 ?_
        refine jmP16 C hg dX3_parse_42 ?_
        obtain ⟨S_9, eS_9, hF⟩ := nm_intro hF
        refine m_J eS_9 ?_
        refine j_aload_n C dX3_parse_45 rfl 0 rfl ?_
        refine jm_callv (As := []) (rest := []) C (M_morder G l hG h g hg S_9 _ hF) q2206 cal_morder rfl rfl (Nat.le_of_ble_eq_true rfl) ⟨Nat.le_of_ble_eq_true rfl, Nat.le_of_ble_eq_true rfl⟩ dX3_parse_46 (fun S_10 hF => ?_)
        refine j_goto (tgt := 19) C dX3_parse_49 (by decide) ?_
        exact J.locals [0] (ih _ hF) rfl
set_option maxHeartbeats 4000000 in
theorem M_mparse (G : GT) (l : Launch) (hG : GOK G) (h : AH) (g : Nat → Nat) (hg : Mg G g) (S : MS) (P : MS → Prop) (hF : F_mparse S P) : MMv G l yX3_parse cX3_parse 1 5 108 [.ref (g 0)] h g S P := by
  refine MT.mk (own := RX3) (by decide) rfl hG (Nat.le_of_ble_eq_true rfl) ?_
  intro p e s m below meth c args Q hargs hQ C _
  refine J.loca (L2 := [(0, .ref (g 0))]) rfl ?_
  unfold F_mparse at hF
  refine j_aload_n C dX3_parse_0 rfl 0 rfl ?_
  refine j_iconst (v := 0) C dX3_parse_1 rfl ?_
  refine jmP16 C hg dX3_parse_2 ?_
  obtain ⟨S_1, eS_1, hF⟩ := nm_intro hF
  refine m_J eS_1 ?_
  refine j_aload_n C dX3_parse_5 rfl 0 rfl ?_
  refine j_iconst (v := (-1)) C dX3_parse_6 rfl ?_
  refine jmP17 C hg dX3_parse_7 ?_
  obtain ⟨S_2, eS_2, hF⟩ := nm_intro hF
  refine m_J eS_2 ?_
  refine j_aload_n C dX3_parse_10 rfl 0 rfl ?_
  refine j_iconst (v := 0) C dX3_parse_11 rfl ?_
  refine jmP20 C hg dX3_parse_12 ?_
  obtain ⟨S_3, eS_3, hF⟩ := nm_intro hF
  refine m_J eS_3 ?_
  refine j_aload_n C dX3_parse_15 rfl 0 rfl ?_
  refine jm_callv (As := []) (rest := []) C (M_morder G l hG h g hg S_3 _ hF) q2206 cal_morder rfl rfl (Nat.le_of_ble_eq_true rfl) ⟨Nat.le_of_ble_eq_true rfl, Nat.le_of_ble_eq_true rfl⟩ dX3_parse_16 (fun S_4 hF => ?_)
  refine J.locals [0] (WL_mparse_19 C hG hg hQ ?_ NF _ hF) rfl
  · intro S_11 hF
    refine j_aload_n C dX3_parse_52 rfl 0 rfl ?_
    refine jmG17 C dX3_parse_53 ?_
    refine j_if_ge (tgt := 78) C dX3_parse_56 (by decide) (fun hc_12 => ?_) (fun hc_12 => ?_)
    · replace hF := hF.1 hc_12
      rw [hQ]
      exact j_vret C ⟨_, rfl, rfl, hF⟩ dX3_parse_78
    · replace hF := hF.2 hc_12
      refine j_aload_n C dX3_parse_59 rfl 0 rfl ?_
      refine jmG16 C dX3_parse_60 ?_
      refine j_aload_n C dX3_parse_63 rfl 0 rfl ?_
      refine jmG15 C dX3_parse_64 ?_
      refine j_icmp_ge (tgt := 78) C dX3_parse_67 (by decide) (fun hc_13 => ?_) (fun hc_13 => ?_)
      · replace hF := hF.1 hc_13
        rw [hQ]
        exact j_vret C ⟨_, rfl, rfl, hF⟩ dX3_parse_78
      · replace hF := hF.2 hc_13
        refine j_aload_n C dX3_parse_70 rfl 0 rfl ?_
        refine j_aload_n C dX3_parse_71 rfl 0 rfl ?_
        refine jmG16 C dX3_parse_72 ?_
        refine jmP17 C hg dX3_parse_75 ?_
        obtain ⟨S_14, eS_14, hF⟩ := nm_intro hF
        refine m_J eS_14 ?_
        rw [hQ]
        exact j_vret C ⟨_, rfl, rfl, hF⟩ dX3_parse_78
theorem cal_mrankBy : CalV yX3_rankBy RX3 cX3_rankBy 4 (some .int) 2 := ⟨q2191, qs79, q101, q2192, by decide +kernel⟩
def F_mrankBy (S : MS) (x1 : Int32) (x2 : Int32) (P : Int32 → MS → Prop) : Prop := F_mheldBy S x2 (fun r_2 S_1 => (x1 = 0 → (vp_in (78 + x2) 1152) ∧ (P (S_1 1 (Int32.toNatClampNeg (78 + x2))) S_1)) ∧ (¬ x1 = 0 → (x1 = 1 → F_msumServed S_1 x2 0 (fun r_9 S_8 => P r_9 S_8)) ∧ (¬ x1 = 1 → (r_2 = (-1) → P (-1000000) S_1) ∧ (¬ r_2 = (-1) → F_mc S_1 r_2 x2 (fun r_7 S_6 => P (-r_7) S_6)))))
set_option maxHeartbeats 4000000 in
theorem M_mrankBy (G : GT) (l : Launch) (hG : GOK G) (h : AH) (g : Nat → Nat) (hg : Mg G g) (S : MS) (x1 : Int32) (x2 : Int32) (P : Int32 → MS → Prop) (hF : F_mrankBy S x1 x2 P) : MMi G l yX3_rankBy cX3_rankBy 4 .int 1 24 [.ref (g 0), .int x1, .int x2] h g S P := by
  refine MT.mk (own := RX3) (by decide) rfl hG (Nat.le_of_ble_eq_true rfl) ?_
  intro p e s m below meth c args Q hargs hQ C _
  refine J.loca (L2 := [(0, .ref (g 0)), (1, .int x1), (2, .int x2)]) rfl ?_
  unfold F_mrankBy at hF
  refine j_aload_n C dX3_rankBy_0 rfl 0 rfl ?_
  refine j_iload_n C dX3_rankBy_1 rfl 2 rfl ?_
  refine jm_calli (As := [.int x2]) (rest := []) C (M_mheldBy G l hG h g hg S x2 _ hF) q2052 cal_mheldBy rfl rfl (Nat.le_of_ble_eq_true rfl) ⟨Nat.le_of_ble_eq_true rfl, Nat.le_of_ble_eq_true rfl⟩ dX3_rankBy_2 (fun r_2 S_1 hF => ?_)
  refine j_istore_n (L2 := [(3, .int r_2), (0, .ref (g 0)), (1, .int x1), (2, .int x2)]) C dX3_rankBy_5 rfl (by decide) rfl ?_
  refine j_iload_n C dX3_rankBy_6 rfl 2 rfl ?_
  refine j_if_ne (tgt := 22) C dX3_rankBy_7 (by decide) (fun hc_3 => ?_) (fun hc_3 => ?_)
  · replace hF := hF.2 hc_3
    refine j_iload_n C dX3_rankBy_22 rfl 2 rfl ?_
    refine j_iconst (v := 1) C dX3_rankBy_23 rfl ?_
    refine j_icmp_ne (tgt := 36) C dX3_rankBy_24 (by decide) (fun hc_4 => ?_) (fun hc_4 => ?_)
    · replace hF := hF.2 hc_4
      refine j_iload_n C dX3_rankBy_36 rfl 0 rfl ?_
      refine j_iconst (v := (-1)) C dX3_rankBy_37 rfl ?_
      refine j_icmp_ne (tgt := 46) C dX3_rankBy_38 (by decide) (fun hc_5 => ?_) (fun hc_5 => ?_)
      · replace hF := hF.2 hc_5
        refine j_aload_n C dX3_rankBy_46 rfl 1 rfl ?_
        refine j_iload_n C dX3_rankBy_47 rfl 0 rfl ?_
        refine j_iload_n C dX3_rankBy_48 rfl 3 rfl ?_
        refine jm_calli (As := [.int r_2, .int x2]) (rest := []) C (M_mc G l hG h g hg S_1 r_2 x2 _ hF) q2003 cal_mc rfl rfl (Nat.le_of_ble_eq_true rfl) ⟨Nat.le_of_ble_eq_true rfl, Nat.le_of_ble_eq_true rfl⟩ dX3_rankBy_49 (fun r_7 S_6 hF => ?_)
        refine j_ineg C dX3_rankBy_52 ?_
        rw [hQ]
        exact j_iret C rfl ⟨_, _, rfl, rfl, hF⟩ dX3_rankBy_53
      · replace hF := hF.1 hc_5
        refine j_ldc C dX3_rankBy_41 q2193 ?_
        refine j_goto (tgt := 53) C dX3_rankBy_43 (by decide) ?_
        rw [hQ]
        exact j_iret C rfl ⟨_, _, rfl, rfl, hF⟩ dX3_rankBy_53
    · replace hF := hF.1 hc_4
      refine j_aload_n C dX3_rankBy_27 rfl 1 rfl ?_
      refine j_iload_n C dX3_rankBy_28 rfl 3 rfl ?_
      refine j_iconst (v := 0) C dX3_rankBy_29 rfl ?_
      refine jm_calli (As := [.int x2, .int 0]) (rest := []) C (M_msumServed G l hG h g hg S_1 x2 0 _ hF) q2132 cal_msumServed rfl rfl (Nat.le_of_ble_eq_true rfl) ⟨Nat.le_of_ble_eq_true rfl, Nat.le_of_ble_eq_true rfl⟩ dX3_rankBy_30 (fun r_9 S_8 hF => ?_)
      refine j_goto (tgt := 53) C dX3_rankBy_33 (by decide) ?_
      rw [hQ]
      exact j_iret C rfl ⟨_, _, rfl, rfl, hF⟩ dX3_rankBy_53
  · replace hF := hF.1 hc_3
    refine j_aload_n C dX3_rankBy_10 rfl 1 rfl ?_
    refine jmG1 C dX3_rankBy_11 ?_
    refine j_bipush (v := 78) C dX3_rankBy_14 rfl ?_
    refine j_iload_n C dX3_rankBy_16 rfl 3 rfl ?_
    refine j_iadd C dX3_rankBy_17 ?_
    obtain ⟨hgd, hF⟩ := hF
    refine jmL1 C hg hgd dX3_rankBy_18 ?_
    refine j_goto (tgt := 53) C dX3_rankBy_19 (by decide) ?_
    rw [hQ]
    exact j_iret C rfl ⟨_, _, rfl, rfl, hF⟩ dX3_rankBy_53
theorem cal_mranked : CalV yX3_ranked RX3 cX3_ranked 6 (some .int) 2 := ⟨q2186, q2187, q101, q2188, by decide +kernel⟩
def L_mranked_44 (K109 : MS → Int32 → Prop) (P : Int32 → MS → Prop) (f1 : Int32) (f2 : Int32) (f3 : Int32) : Nat → MS → Int32 → Int32 → Prop
  | 0, _, _, _ => False
  | n + 1, S, z4, z5 => (vp_in 1 1152) ∧ (((S 1 (Int32.toNatClampNeg (1))) ≤ z5 → K109 S z4) ∧ (¬ (S 1 (Int32.toNatClampNeg (1))) ≤ z5 → F_mrankBy S f1 z5 (fun r_11 S_10 => F_mrankBy S_10 f1 f3 (fun r_13 S_12 => jn (α := MS → Prop) (fun S_15 => L_mranked_44 K109 P f1 f2 f3 n S_15 (z4 + 1) (z5 + 1)) (fun K_14 => (r_13 < r_11 → K_14 S_12) ∧ (¬ r_13 < r_11 → F_mrankBy S_12 f1 z5 (fun r_18 S_17 => F_mrankBy S_17 f1 f3 (fun r_20 S_19 => jn (α := MS → Prop) (fun S_22 => L_mranked_44 K109 P f1 f2 f3 n S_22 (z4 + 0) (z5 + 1)) (fun K_21 => (r_18 = r_20 → (f3 ≤ z5 → K_21 S_19) ∧ (¬ f3 ≤ z5 → K_14 S_19)) ∧ (¬ r_18 = r_20 → K_21 S_19))))))))))
def L_mranked_20 (P : Int32 → MS → Prop) (f1 : Int32) (f2 : Int32) : Nat → MS → Int32 → Prop
  | 0, _, _ => False
  | n + 1, S, z3 => (vp_in 1 1152) ∧ (((S 1 (Int32.toNatClampNeg (1))) ≤ z3 → P 0 S) ∧ (¬ (S 1 (Int32.toNatClampNeg (1))) ≤ z3 → ((S 0 0) = 2 → L_mranked_44 (fun S_25 w4_26 => (w4_26 = f2 → nm (sput S_25 0 0 0) (fun S_28 => P z3 S_28)) ∧ (¬ w4_26 = f2 → L_mranked_20 P f1 f2 n S_25 (z3 + 1))) P f1 f2 z3 NF S 0 0) ∧ (¬ (S 0 0) = 2 → P 0 S)))
def F_mranked (S : MS) (x1 : Int32) (x2 : Int32) (P : Int32 → MS → Prop) : Prop := F_min S x1 0 2 (fun r_2 S_1 => jn (α := MS → Int32 → Prop) (fun S_4 t_5 => nm (sput S_4 0 0 t_5) (fun S_6 => L_mranked_20  P x1 x2 NF S_6 0)) (fun K_3 => (r_2 = 0 → K_3 S_1 1) ∧ (¬ r_2 = 0 → K_3 S_1 2)))
set_option maxHeartbeats 4000000 in
theorem WL_mranked_44 {G : GT} {p : Program} {l : Launch} {e : Env} {s : State} {m : MethodId} {args : Array Value} {below : List Frame} {meth : Method} {c : Code} {h : AH} {g : Nat → Nat} {Q : State → Prop} (C : Cx G p s m args meth c cX3_ranked RX3 6 (some .int)) (hG : GOK G) (hg : Mg G g) {P : Int32 → MS → Prop} (hQ : Q = MQ below (SQ G (fun v h' => ∃ (r : Int32) (S' : MS), v = some (.int r) ∧ h' = (MH G.2.2.1 h g S') ∧ P r S')) args s (({ frames := 2, cells := 0, slots := 0, locals := 47 } : Room) : Room).cells (({ frames := 2, cells := 0, slots := 0, locals := 47 } : Room) : Room).slots (fun q => G.1 ≤ q)) {K109 : MS → Int32 → Prop} {f1 : Int32} {f2 : Int32} {f3 : Int32} (hK109 : ∀ (S0 : MS) (w4 : Int32), K109 S0 w4 → J G p l e ({ frames := 2, cells := 0, slots := 0, locals := 47 } : Room) s m args below meth c 6 Q 0 0 (MH G.2.2.1 h g S0) 109 [(0, .ref (g 0)), (1, .int f1), (2, .int f2), (3, .int f3), (4, .int w4)] []) :
    ∀ (n : Nat) (S : MS) (z4 : Int32) (z5 : Int32), L_mranked_44 K109 P f1 f2 f3 n S z4 z5 → J G p l e ({ frames := 2, cells := 0, slots := 0, locals := 47 } : Room) s m args below meth c 6 Q 0 0 (MH G.2.2.1 h g S) 44 [(0, .ref (g 0)), (1, .int f1), (2, .int f2), (3, .int f3), (4, .int z4), (5, .int z5)] [] := by
  intro n
  induction n with
  | zero => intro S z4 z5 hF; exact hF.elim
  | succ n ih =>
    intro S z4 z5 hF
    unfold L_mranked_44 at hF
    refine j_iload C dX3_ranked_44 5 rfl ?_
    refine j_aload_n C dX3_ranked_46 rfl 0 rfl ?_
    refine jmG1 C dX3_ranked_47 ?_
    refine j_iconst (v := 1) C dX3_ranked_50 rfl ?_
    obtain ⟨hgd, hF⟩ := hF
    refine jmL1 C hg hgd dX3_ranked_51 ?_
    refine j_icmp_ge (tgt := 109) C dX3_ranked_52 (by decide) (fun hc_9 => ?_) (fun hc_9 => ?_)
    · replace hF := hF.1 hc_9
      exact J.locals [0, 1, 2, 3, 4] (hK109 _ _ hF) rfl
    · replace hF := hF.2 hc_9
      refine j_iload C dX3_ranked_55 4 rfl ?_
      refine j_aload_n C dX3_ranked_57 rfl 0 rfl ?_
      refine j_iload_n C dX3_ranked_58 rfl 1 rfl ?_
      refine j_iload C dX3_ranked_59 5 rfl ?_
      refine jm_calli (As := [.int f1, .int z5]) (rest := [.int z4]) C (M_mrankBy G l hG h g hg S f1 z5 _ hF) q2189 cal_mrankBy rfl rfl (Nat.le_of_ble_eq_true rfl) ⟨Nat.le_of_ble_eq_true rfl, Nat.le_of_ble_eq_true rfl⟩ dX3_ranked_61 (fun r_11 S_10 hF => ?_)
      refine j_aload_n C dX3_ranked_64 rfl 0 rfl ?_
      refine j_iload_n C dX3_ranked_65 rfl 1 rfl ?_
      refine j_iload_n C dX3_ranked_66 rfl 3 rfl ?_
      refine jm_calli (As := [.int f1, .int f3]) (rest := [.int r_11, .int z4]) C (M_mrankBy G l hG h g hg S_10 f1 f3 _ hF) q2189 cal_mrankBy rfl rfl (Nat.le_of_ble_eq_true rfl) ⟨Nat.le_of_ble_eq_true rfl, Nat.le_of_ble_eq_true rfl⟩ dX3_ranked_67 (fun r_13 S_12 hF => ?_)
      obtain ⟨K_14, hK_14, hF⟩ := jn_intro (M := fun (K : MS → Prop) => ∀ (S_15 : MS), K S_15 → J G p l e ({ frames := 2, cells := 0, slots := 0, locals := 47 } : Room) s m args below meth c 6 Q 0 0 (MH G.2.2.1 h g S_15) 95 [(0, .ref (g 0)), (1, .int f1), (2, .int f2), (3, .int f3), (5, .int z5)] [.int z4]) (hk := by
          intro S_15 hF
          refine j_iconst (v := 1) C dX3_ranked_95 rfl ?_
          refine j_goto (tgt := 100) C dX3_ranked_96 (by decide) ?_
          refine j_iadd C dX3_ranked_100 ?_
          refine j_istore (L2 := [(4, .int (z4 + 1)), (0, .ref (g 0)), (1, .int f1), (2, .int f2), (3, .int f3), (5, .int z5)]) C dX3_ranked_101 (by decide) rfl ?_
          refine j_iinc (q := 5) (v := z5 + 1) (L2 := [(5, .int (z5 + 1)), (4, .int (z4 + 1)), (0, .ref (g 0)), (1, .int f1), (2, .int f2), (3, .int f3)]) C dX3_ranked_103 rfl rfl (by decide) rfl ?_
          refine j_goto (tgt := 44) C dX3_ranked_106 (by decide) ?_
          exact J.locals [2, 3, 4, 5, 1, 0] (ih _ _ _ hF) rfl) hF
      refine j_icmp_gt (tgt := 95) C dX3_ranked_70 (by decide) (fun hc_16 => ?_) (fun hc_16 => ?_)
      · replace hF := hF.1 hc_16
        exact J.locals [0, 1, 2, 3, 5] (hK_14 _ hF) rfl
      · replace hF := hF.2 hc_16
        refine j_aload_n C dX3_ranked_73 rfl 0 rfl ?_
        refine j_iload_n C dX3_ranked_74 rfl 1 rfl ?_
        refine j_iload C dX3_ranked_75 5 rfl ?_
        refine jm_calli (As := [.int f1, .int z5]) (rest := [.int z4]) C (M_mrankBy G l hG h g hg S_12 f1 z5 _ hF) q2189 cal_mrankBy rfl rfl (Nat.le_of_ble_eq_true rfl) ⟨Nat.le_of_ble_eq_true rfl, Nat.le_of_ble_eq_true rfl⟩ dX3_ranked_77 (fun r_18 S_17 hF => ?_)
        refine j_aload_n C dX3_ranked_80 rfl 0 rfl ?_
        refine j_iload_n C dX3_ranked_81 rfl 1 rfl ?_
        refine j_iload_n C dX3_ranked_82 rfl 3 rfl ?_
        refine jm_calli (As := [.int f1, .int f3]) (rest := [.int r_18, .int z4]) C (M_mrankBy G l hG h g hg S_17 f1 f3 _ hF) q2189 cal_mrankBy rfl rfl (Nat.le_of_ble_eq_true rfl) ⟨Nat.le_of_ble_eq_true rfl, Nat.le_of_ble_eq_true rfl⟩ dX3_ranked_83 (fun r_20 S_19 hF => ?_)
        obtain ⟨K_21, hK_21, hF⟩ := jn_intro (M := fun (K : MS → Prop) => ∀ (S_22 : MS), K S_22 → J G p l e ({ frames := 2, cells := 0, slots := 0, locals := 47 } : Room) s m args below meth c 6 Q 0 0 (MH G.2.2.1 h g S_22) 99 [(0, .ref (g 0)), (1, .int f1), (2, .int f2), (3, .int f3), (5, .int z5)] [.int z4]) (hk := by
            intro S_22 hF
            refine j_iconst (v := 0) C dX3_ranked_99 rfl ?_
            refine j_iadd C dX3_ranked_100 ?_
            refine j_istore (L2 := [(4, .int (z4 + 0)), (0, .ref (g 0)), (1, .int f1), (2, .int f2), (3, .int f3), (5, .int z5)]) C dX3_ranked_101 (by decide) rfl ?_
            refine j_iinc (q := 5) (v := z5 + 1) (L2 := [(5, .int (z5 + 1)), (4, .int (z4 + 0)), (0, .ref (g 0)), (1, .int f1), (2, .int f2), (3, .int f3)]) C dX3_ranked_103 rfl rfl (by decide) rfl ?_
            refine j_goto (tgt := 44) C dX3_ranked_106 (by decide) ?_
            exact J.locals [2, 3, 4, 5, 1, 0] (ih _ _ _ hF) rfl) hF
        refine j_icmp_ne (tgt := 99) C dX3_ranked_86 (by decide) (fun hc_23 => ?_) (fun hc_23 => ?_)
        · replace hF := hF.2 hc_23
          exact J.locals [0, 1, 2, 3, 5] (hK_21 _ hF) rfl
        · replace hF := hF.1 hc_23
          refine j_iload C dX3_ranked_89 5 rfl ?_
          refine j_iload_n C dX3_ranked_91 rfl 3 rfl ?_
          refine j_icmp_ge (tgt := 99) C dX3_ranked_92 (by decide) (fun hc_24 => ?_) (fun hc_24 => ?_)
          · replace hF := hF.1 hc_24
            exact J.locals [0, 1, 2, 3, 5] (hK_21 _ hF) rfl
          · replace hF := hF.2 hc_24
            exact J.locals [0, 1, 2, 3, 5] (hK_14 _ hF) rfl
set_option maxHeartbeats 4000000 in
theorem WL_mranked_20 {G : GT} {p : Program} {l : Launch} {e : Env} {s : State} {m : MethodId} {args : Array Value} {below : List Frame} {meth : Method} {c : Code} {h : AH} {g : Nat → Nat} {Q : State → Prop} (C : Cx G p s m args meth c cX3_ranked RX3 6 (some .int)) (hG : GOK G) (hg : Mg G g) {P : Int32 → MS → Prop} (hQ : Q = MQ below (SQ G (fun v h' => ∃ (r : Int32) (S' : MS), v = some (.int r) ∧ h' = (MH G.2.2.1 h g S') ∧ P r S')) args s (({ frames := 2, cells := 0, slots := 0, locals := 47 } : Room) : Room).cells (({ frames := 2, cells := 0, slots := 0, locals := 47 } : Room) : Room).slots (fun q => G.1 ≤ q)) {f1 : Int32} {f2 : Int32} :
    ∀ (n : Nat) (S : MS) (z3 : Int32), L_mranked_20 P f1 f2 n S z3 → J G p l e ({ frames := 2, cells := 0, slots := 0, locals := 47 } : Room) s m args below meth c 6 Q 0 0 (MH G.2.2.1 h g S) 20 [(0, .ref (g 0)), (1, .int f1), (2, .int f2), (3, .int z3)] [] := by
  intro n
  induction n with
  | zero => intro S z3 hF; exact hF.elim
  | succ n ih =>
    intro S z3 hF
    unfold L_mranked_20 at hF
    refine j_iload_n C dX3_ranked_20 rfl 3 rfl ?_
    refine j_aload_n C dX3_ranked_21 rfl 0 rfl ?_
    refine jmG1 C dX3_ranked_22 ?_
    refine j_iconst (v := 1) C dX3_ranked_25 rfl ?_
    obtain ⟨hgd, hF⟩ := hF
    refine jmL1 C hg hgd dX3_ranked_26 ?_
    refine j_icmp_ge (tgt := 128) C dX3_ranked_27 (by decide) (fun hc_7 => ?_) (fun hc_7 => ?_)
    · replace hF := hF.1 hc_7
      refine j_iconst (v := 0) C dX3_ranked_128 rfl ?_
      rw [hQ]
      exact j_iret C rfl ⟨_, _, rfl, rfl, hF⟩ dX3_ranked_129
    · replace hF := hF.2 hc_7
      refine j_aload_n C dX3_ranked_30 rfl 0 rfl ?_
      refine jmG0 C dX3_ranked_31 ?_
      refine j_iconst (v := 2) C dX3_ranked_34 rfl ?_
      refine j_icmp_ne (tgt := 128) C dX3_ranked_35 (by decide) (fun hc_8 => ?_) (fun hc_8 => ?_)
      · replace hF := hF.2 hc_8
        refine j_iconst (v := 0) C dX3_ranked_128 rfl ?_
        rw [hQ]
        exact j_iret C rfl ⟨_, _, rfl, rfl, hF⟩ dX3_ranked_129
      · replace hF := hF.1 hc_8
        refine j_iconst (v := 0) C dX3_ranked_38 rfl ?_
        refine j_istore (L2 := [(4, .int 0), (0, .ref (g 0)), (1, .int f1), (2, .int f2), (3, .int z3)]) C dX3_ranked_39 (by decide) rfl ?_
        refine j_iconst (v := 0) C dX3_ranked_41 rfl ?_
        refine j_istore (L2 := [(5, .int 0), (4, .int 0), (0, .ref (g 0)), (1, .int f1), (2, .int f2), (3, .int z3)]) C dX3_ranked_42 (by decide) rfl ?_
        refine J.locals [2, 3, 4, 5, 1, 0] (WL_mranked_44 C hG hg hQ ?_ NF _ _ _ hF) rfl
        · intro S_25 w4_26 hF
          refine j_iload C dX3_ranked_109 4 rfl ?_
          refine j_iload_n C dX3_ranked_111 rfl 2 rfl ?_
          refine j_icmp_ne (tgt := 122) C dX3_ranked_112 (by decide) (fun hc_27 => ?_) (fun hc_27 => ?_)
          · replace hF := hF.2 hc_27
            refine j_iinc (q := 3) (v := z3 + 1) (L2 := [(3, .int (z3 + 1)), (0, .ref (g 0)), (1, .int f1), (2, .int f2), (4, .int w4_26)]) C dX3_ranked_122 rfl rfl (by decide) rfl ?_
            refine j_goto (tgt := 20) C dX3_ranked_125 (by decide) ?_
            exact J.locals [1, 2, 3, 0] (ih _ _ hF) rfl
          · replace hF := hF.1 hc_27
            refine j_aload_n C dX3_ranked_115 rfl 0 rfl ?_
            refine j_iconst (v := 0) C dX3_ranked_116 rfl ?_
            refine jmP0 C hg dX3_ranked_117 ?_
            obtain ⟨S_28, eS_28, hF⟩ := nm_intro hF
            refine m_J eS_28 ?_
            refine j_iload_n C dX3_ranked_120 rfl 3 rfl ?_
            rw [hQ]
            exact j_iret C rfl ⟨_, _, rfl, rfl, hF⟩ dX3_ranked_121
set_option maxHeartbeats 4000000 in
theorem M_mranked (G : GT) (l : Launch) (hG : GOK G) (h : AH) (g : Nat → Nat) (hg : Mg G g) (S : MS) (x1 : Int32) (x2 : Int32) (P : Int32 → MS → Prop) (hF : F_mranked S x1 x2 P) : MMi G l yX3_ranked cX3_ranked 6 .int 2 47 [.ref (g 0), .int x1, .int x2] h g S P := by
  refine MT.mk (own := RX3) (by decide) rfl hG (Nat.le_of_ble_eq_true rfl) ?_
  intro p e s m below meth c args Q hargs hQ C _
  refine J.loca (L2 := [(0, .ref (g 0)), (1, .int x1), (2, .int x2)]) rfl ?_
  unfold F_mranked at hF
  refine j_aload_n C dX3_ranked_0 rfl 0 rfl ?_
  refine j_iload_n C dX3_ranked_1 rfl 1 rfl ?_
  refine j_iconst (v := 0) C dX3_ranked_2 rfl ?_
  refine j_iconst (v := 2) C dX3_ranked_3 rfl ?_
  refine jm_callsi (As := [.int x1, .int 0, .int 2]) (rest := [.ref (g 0)]) C (M_min G l hG h g hg S x1 0 2 _ hF) q1996 cal_min rfl rfl (Nat.le_of_ble_eq_true rfl) ⟨Nat.le_of_ble_eq_true rfl, Nat.le_of_ble_eq_true rfl⟩ dX3_ranked_4 (fun r_2 S_1 hF => ?_)
  obtain ⟨K_3, hK_3, hF⟩ := jn_intro (M := fun (K : MS → Int32 → Prop) => ∀ (S_4 : MS) (t_5 : Int32), K S_4 t_5 → J G p l e ({ frames := 2, cells := 0, slots := 0, locals := 47 } : Room) s m args below meth c 6 Q 0 0 (MH G.2.2.1 h g S_4) 15 [(0, .ref (g 0)), (1, .int x1), (2, .int x2)] [.int t_5, .ref (g 0)]) (hk := by
      intro S_4 t_5 hF
      refine jmP0 C hg dX3_ranked_15 ?_
      obtain ⟨S_6, eS_6, hF⟩ := nm_intro hF
      refine m_J eS_6 ?_
      refine j_iconst (v := 0) C dX3_ranked_18 rfl ?_
      refine j_istore_n (L2 := [(3, .int 0), (0, .ref (g 0)), (1, .int x1), (2, .int x2)]) C dX3_ranked_19 rfl (by decide) rfl ?_
      refine J.locals [1, 2, 3, 0] (WL_mranked_20 C hG hg hQ NF _ _ hF) rfl) hF
  refine j_if_eq (tgt := 14) C dX3_ranked_7 (by decide) (fun hc_29 => ?_) (fun hc_29 => ?_)
  · replace hF := hF.1 hc_29
    refine j_iconst (v := 1) C dX3_ranked_14 rfl ?_
    exact J.locals [0, 1, 2] (hK_3 _ _ hF) rfl
  · replace hF := hF.2 hc_29
    refine j_iconst (v := 2) C dX3_ranked_10 rfl ?_
    refine j_goto (tgt := 15) C dX3_ranked_11 (by decide) ?_
    exact J.locals [0, 1, 2] (hK_3 _ _ hF) rfl
theorem cal_mreason : CalV yX3_reason RX3 cX3_reason 3 (some .int) 2 := ⟨q1941, q1942, q101, q1943, by decide +kernel⟩
def F_mreason (S : MS) (x1 : Int32) (x2 : Int32) (P : Int32 → MS → Prop) : Prop := jn (α := MS → Int32 → Prop) (fun S_2 t_3 => jn (α := MS → Int32 → Prop) (fun S_5 t_6 => F_misThere S_5 t_6 (fun r_8 S_7 => (r_8 = 0 → P 0 S_7) ∧ (¬ r_8 = 0 → (x1 = 0 → (x2 = 0 → P (S_7 0 5) S_7) ∧ (¬ x2 = 0 → P (S_7 0 6) S_7)) ∧ (¬ x1 = 0 → (x2 = 0 → P (S_7 0 7) S_7) ∧ (¬ x2 = 0 → P (S_7 0 8) S_7))))) (fun K_4 => (t_3 = 0 → K_4 S_2 0) ∧ (¬ t_3 = 0 → K_4 S_2 1))) (fun K_1 => (x1 = 0 → K_1 S (S 0 5)) ∧ (¬ x1 = 0 → K_1 S (S 0 7)))
set_option maxHeartbeats 4000000 in
theorem M_mreason (G : GT) (l : Launch) (hG : GOK G) (h : AH) (g : Nat → Nat) (hg : Mg G g) (S : MS) (x1 : Int32) (x2 : Int32) (P : Int32 → MS → Prop) (hF : F_mreason S x1 x2 P) : MMi G l yX3_reason cX3_reason 3 .int 1 21 [.ref (g 0), .int x1, .int x2] h g S P := by
  refine MT.mk (own := RX3) (by decide) rfl hG (Nat.le_of_ble_eq_true rfl) ?_
  intro p e s m below meth c args Q hargs hQ C _
  refine J.loca (L2 := [(0, .ref (g 0)), (1, .int x1), (2, .int x2)]) rfl ?_
  unfold F_mreason at hF
  refine j_aload_n C dX3_reason_0 rfl 0 rfl ?_
  refine j_iload_n C dX3_reason_1 rfl 1 rfl ?_
  obtain ⟨K_1, hK_1, hF⟩ := jn_intro (M := fun (K : MS → Int32 → Prop) => ∀ (S_2 : MS) (t_3 : Int32), K S_2 t_3 → J G p l e ({ frames := 1, cells := 0, slots := 0, locals := 21 } : Room) s m args below meth c 3 Q 0 0 (MH G.2.2.1 h g S_2) 16 [(0, .ref (g 0)), (1, .int x1), (2, .int x2)] [.int t_3, .ref (g 0)]) (hk := by
      intro S_2 t_3 hF
      obtain ⟨K_4, hK_4, hF⟩ := jn_intro (M := fun (K : MS → Int32 → Prop) => ∀ (S_5 : MS) (t_6 : Int32), K S_5 t_6 → J G p l e ({ frames := 1, cells := 0, slots := 0, locals := 21 } : Room) s m args below meth c 3 Q 0 0 (MH G.2.2.1 h g S_5) 24 [(0, .ref (g 0)), (1, .int x1), (2, .int x2)] [.int t_6, .ref (g 0)]) (hk := by
          intro S_5 t_6 hF
          refine jm_calli (As := [.int t_6]) (rest := []) C (M_misThere G l hG h g hg S_5 t_6 _ hF) q1944 cal_misThere rfl rfl (Nat.le_of_ble_eq_true rfl) ⟨Nat.le_of_ble_eq_true rfl, Nat.le_of_ble_eq_true rfl⟩ dX3_reason_24 (fun r_8 S_7 hF => ?_)
          refine j_if_ne (tgt := 32) C dX3_reason_27 (by decide) (fun hc_9 => ?_) (fun hc_9 => ?_)
          · replace hF := hF.2 hc_9
            refine j_iload_n C dX3_reason_32 rfl 1 rfl ?_
            refine j_if_eq (tgt := 54) C dX3_reason_33 (by decide) (fun hc_10 => ?_) (fun hc_10 => ?_)
            · replace hF := hF.1 hc_10
              refine j_iload_n C dX3_reason_54 rfl 2 rfl ?_
              refine j_if_eq (tgt := 65) C dX3_reason_55 (by decide) (fun hc_11 => ?_) (fun hc_11 => ?_)
              · replace hF := hF.1 hc_11
                refine j_aload_n C dX3_reason_65 rfl 0 rfl ?_
                refine jmG5 C dX3_reason_66 ?_
                rw [hQ]
                exact j_iret C rfl ⟨_, _, rfl, rfl, hF⟩ dX3_reason_69
              · replace hF := hF.2 hc_11
                refine j_aload_n C dX3_reason_58 rfl 0 rfl ?_
                refine jmG6 C dX3_reason_59 ?_
                refine j_goto (tgt := 69) C dX3_reason_62 (by decide) ?_
                rw [hQ]
                exact j_iret C rfl ⟨_, _, rfl, rfl, hF⟩ dX3_reason_69
            · replace hF := hF.2 hc_10
              refine j_iload_n C dX3_reason_36 rfl 2 rfl ?_
              refine j_if_eq (tgt := 47) C dX3_reason_37 (by decide) (fun hc_12 => ?_) (fun hc_12 => ?_)
              · replace hF := hF.1 hc_12
                refine j_aload_n C dX3_reason_47 rfl 0 rfl ?_
                refine jmG7 C dX3_reason_48 ?_
                refine j_goto (tgt := 69) C dX3_reason_51 (by decide) ?_
                rw [hQ]
                exact j_iret C rfl ⟨_, _, rfl, rfl, hF⟩ dX3_reason_69
              · replace hF := hF.2 hc_12
                refine j_aload_n C dX3_reason_40 rfl 0 rfl ?_
                refine jmG8 C dX3_reason_41 ?_
                refine j_goto (tgt := 69) C dX3_reason_44 (by decide) ?_
                rw [hQ]
                exact j_iret C rfl ⟨_, _, rfl, rfl, hF⟩ dX3_reason_69
          · replace hF := hF.1 hc_9
            refine j_iconst (v := 0) C dX3_reason_30 rfl ?_
            rw [hQ]
            exact j_iret C rfl ⟨_, _, rfl, rfl, hF⟩ dX3_reason_31) hF
      refine j_if_eq (tgt := 23) C dX3_reason_16 (by decide) (fun hc_13 => ?_) (fun hc_13 => ?_)
      · replace hF := hF.1 hc_13
        refine j_iconst (v := 0) C dX3_reason_23 rfl ?_
        exact J.locals [0, 1, 2] (hK_4 _ _ hF) rfl
      · replace hF := hF.2 hc_13
        refine j_iconst (v := 1) C dX3_reason_19 rfl ?_
        refine j_goto (tgt := 24) C dX3_reason_20 (by decide) ?_
        exact J.locals [0, 1, 2] (hK_4 _ _ hF) rfl) hF
  refine j_if_eq (tgt := 12) C dX3_reason_2 (by decide) (fun hc_14 => ?_) (fun hc_14 => ?_)
  · replace hF := hF.1 hc_14
    refine j_aload_n C dX3_reason_12 rfl 0 rfl ?_
    refine jmG5 C dX3_reason_13 ?_
    exact J.locals [0, 1, 2] (hK_1 _ _ hF) rfl
  · replace hF := hF.2 hc_14
    refine j_aload_n C dX3_reason_5 rfl 0 rfl ?_
    refine jmG7 C dX3_reason_6 ?_
    refine j_goto (tgt := 16) C dX3_reason_9 (by decide) ?_
    exact J.locals [0, 1, 2] (hK_1 _ _ hF) rfl
theorem cal_mrestore : CalV yX3_restore RX3 cX3_restore 1 (some .int) 0 := ⟨q2291, q2292, q101, q2293, by decide +kernel⟩
def F_mrestore (S : MS) (P : Int32 → MS → Prop) : Prop := F_misThere S (S 0 3) (fun r_2 S_1 => (r_2 = 0 → P 0 S_1) ∧ (¬ r_2 = 0 → F_mcopies S_1 9 0 (fun S_4 => nm (sput S_4 0 2 0) (fun S_5 => F_mpairs S_5 (fun r_7 S_6 => P r_7 S_6)))))
set_option maxHeartbeats 4000000 in
theorem M_mrestore (G : GT) (l : Launch) (hG : GOK G) (h : AH) (g : Nat → Nat) (hg : Mg G g) (S : MS) (P : Int32 → MS → Prop) (hF : F_mrestore S P) : MMi G l yX3_restore cX3_restore 1 .int 1 23 [.ref (g 0)] h g S P := by
  refine MT.mk (own := RX3) (by decide) rfl hG (Nat.le_of_ble_eq_true rfl) ?_
  intro p e s m below meth c args Q hargs hQ C _
  refine J.loca (L2 := [(0, .ref (g 0))]) rfl ?_
  unfold F_mrestore at hF
  refine j_aload_n C dX3_restore_0 rfl 0 rfl ?_
  refine j_aload_n C dX3_restore_1 rfl 0 rfl ?_
  refine jmG3 C dX3_restore_2 ?_
  refine jm_calli (As := [.int (S 0 3)]) (rest := []) C (M_misThere G l hG h g hg S (S 0 3) _ hF) q1944 cal_misThere rfl rfl (Nat.le_of_ble_eq_true rfl) ⟨Nat.le_of_ble_eq_true rfl, Nat.le_of_ble_eq_true rfl⟩ dX3_restore_5 (fun r_2 S_1 hF => ?_)
  refine j_if_ne (tgt := 13) C dX3_restore_8 (by decide) (fun hc_3 => ?_) (fun hc_3 => ?_)
  · replace hF := hF.2 hc_3
    refine j_aload_n C dX3_restore_13 rfl 0 rfl ?_
    refine j_bipush (v := 9) C dX3_restore_14 rfl ?_
    refine j_iconst (v := 0) C dX3_restore_16 rfl ?_
    refine jm_callv (As := [.int 9, .int 0]) (rest := []) C (M_mcopies G l hG h g hg S_1 9 0 _ hF) q1956 cal_mcopies rfl rfl (Nat.le_of_ble_eq_true rfl) ⟨Nat.le_of_ble_eq_true rfl, Nat.le_of_ble_eq_true rfl⟩ dX3_restore_17 (fun S_4 hF => ?_)
    refine j_aload_n C dX3_restore_20 rfl 0 rfl ?_
    refine j_iconst (v := 0) C dX3_restore_21 rfl ?_
    refine jmP2 C hg dX3_restore_22 ?_
    obtain ⟨S_5, eS_5, hF⟩ := nm_intro hF
    refine m_J eS_5 ?_
    refine j_aload_n C dX3_restore_25 rfl 0 rfl ?_
    refine jm_calli (As := []) (rest := []) C (M_mpairs G l hG h g hg S_5 _ hF) q2270 cal_mpairs rfl rfl (Nat.le_of_ble_eq_true rfl) ⟨Nat.le_of_ble_eq_true rfl, Nat.le_of_ble_eq_true rfl⟩ dX3_restore_26 (fun r_7 S_6 hF => ?_)
    rw [hQ]
    exact j_iret C rfl ⟨_, _, rfl, rfl, hF⟩ dX3_restore_29
  · replace hF := hF.1 hc_3
    refine j_iconst (v := 0) C dX3_restore_11 rfl ?_
    rw [hQ]
    exact j_iret C rfl ⟨_, _, rfl, rfl, hF⟩ dX3_restore_12
theorem cal_mrun : CalV yX3_run RX3 cX3_run 2 (some .int) 0 := ⟨q2199, q2200, q101, q2201, by decide +kernel⟩
def L_mrun_37 (K61 : MS → Int32 → Prop) (P : Int32 → MS → Prop) : Nat → MS → Int32 → Prop
  | 0, _, _ => False
  | n + 1, S, z1 => ((S 0 20) ≤ z1 → K61 S z1) ∧ (¬ (S 0 20) ≤ z1 → F_mdoes S (4 * z1) (fun r_7 S_6 => (r_7 = 0 → K61 S_6 z1) ∧ (¬ r_7 = 0 → L_mrun_37 K61 P n S_6 (z1 + 1))))
def F_mrun (S : MS) (P : Int32 → MS → Prop) : Prop := F_mparse S (fun S_1 => nm (sput S_1 0 15 0) (fun S_2 => ((S_2 0 17) < 0 → F_mbegins S_2 (fun S_4 => L_mrun_37 (fun S_9 w1_10 => jn (α := MS → Prop) (fun S_12 => nm (sput S_12 0 4 (S_12 0 20)) (fun S_13 => jn (α := MS → Int32 → Prop) (fun S_15 t_16 => F_mends S_15 t_16 2 (fun r_18 S_17 => P r_18 S_17)) (fun K_14 => (w1_10 = (S_13 0 20) → K_14 S_13 1) ∧ (¬ w1_10 = (S_13 0 20) → K_14 S_13 0)))) (fun K_11 => ((S_9 0 20) ≤ w1_10 → K_11 S_9) ∧ (¬ (S_9 0 20) ≤ w1_10 → nm (sput S_9 0 7 (S_9 0 5)) (fun S_21 => nm (sput S_21 0 8 (S_21 0 6)) (fun S_22 => nm (sput S_22 0 5 10) (fun S_23 => nm (sput S_23 0 6 w1_10) (fun S_24 => K_11 S_24))))))) P NF S_4 0)) ∧ (¬ (S_2 0 17) < 0 → nm (sput S_2 0 18 (S_2 0 17)) (fun S_25 => nm (sput S_25 0 0 1) (fun S_26 => P 0 S_26)))))
set_option maxHeartbeats 4000000 in
theorem WL_mrun_37 {G : GT} {p : Program} {l : Launch} {e : Env} {s : State} {m : MethodId} {args : Array Value} {below : List Frame} {meth : Method} {c : Code} {h : AH} {g : Nat → Nat} {Q : State → Prop} (C : Cx G p s m args meth c cX3_run RX3 2 (some .int)) (hG : GOK G) (hg : Mg G g) {P : Int32 → MS → Prop} (hQ : Q = MQ below (SQ G (fun v h' => ∃ (r : Int32) (S' : MS), v = some (.int r) ∧ h' = (MH G.2.2.1 h g S') ∧ P r S')) args s (({ frames := 15, cells := 0, slots := 0, locals := 354 } : Room) : Room).cells (({ frames := 15, cells := 0, slots := 0, locals := 354 } : Room) : Room).slots (fun q => G.1 ≤ q)) {K61 : MS → Int32 → Prop} (hK61 : ∀ (S0 : MS) (w1 : Int32), K61 S0 w1 → J G p l e ({ frames := 15, cells := 0, slots := 0, locals := 354 } : Room) s m args below meth c 2 Q 0 0 (MH G.2.2.1 h g S0) 61 [(0, .ref (g 0)), (1, .int w1)] []) :
    ∀ (n : Nat) (S : MS) (z1 : Int32), L_mrun_37 K61 P n S z1 → J G p l e ({ frames := 15, cells := 0, slots := 0, locals := 354 } : Room) s m args below meth c 2 Q 0 0 (MH G.2.2.1 h g S) 37 [(0, .ref (g 0)), (1, .int z1)] [] := by
  intro n
  induction n with
  | zero => intro S z1 hF; exact hF.elim
  | succ n ih =>
    intro S z1 hF
    unfold L_mrun_37 at hF
    refine j_iload_n C dX3_run_37 rfl 1 rfl ?_
    refine j_aload_n C dX3_run_38 rfl 0 rfl ?_
    refine jmG20 C dX3_run_39 ?_
    refine j_icmp_ge (tgt := 61) C dX3_run_42 (by decide) (fun hc_5 => ?_) (fun hc_5 => ?_)
    · replace hF := hF.1 hc_5
      exact J.locals [0, 1] (hK61 _ _ hF) rfl
    · replace hF := hF.2 hc_5
      refine j_aload_n C dX3_run_45 rfl 0 rfl ?_
      refine j_iconst (v := 4) C dX3_run_46 rfl ?_
      refine j_iload_n C dX3_run_47 rfl 1 rfl ?_
      refine j_imul C dX3_run_48 ?_
      refine jm_calli (As := [.int (4 * z1)]) (rest := []) C (M_mdoes G l hG h g hg S (4 * z1) _ hF) q2230 cal_mdoes rfl rfl (Nat.le_of_ble_eq_true rfl) ⟨Nat.le_of_ble_eq_true rfl, Nat.le_of_ble_eq_true rfl⟩ dX3_run_49 (fun r_7 S_6 hF => ?_)
      refine j_if_eq (tgt := 61) C dX3_run_52 (by decide) (fun hc_8 => ?_) (fun hc_8 => ?_)
      · replace hF := hF.1 hc_8
        exact J.locals [0, 1] (hK61 _ _ hF) rfl
      · replace hF := hF.2 hc_8
        refine j_iinc (q := 1) (v := z1 + 1) (L2 := [(1, .int (z1 + 1)), (0, .ref (g 0))]) C dX3_run_55 rfl rfl (by decide) rfl ?_
        refine j_goto (tgt := 37) C dX3_run_58 (by decide) ?_
        exact J.locals [1, 0] (ih _ _ hF) rfl
set_option maxHeartbeats 4000000 in
theorem M_mrun (G : GT) (l : Launch) (hG : GOK G) (h : AH) (g : Nat → Nat) (hg : Mg G g) (S : MS) (P : Int32 → MS → Prop) (hF : F_mrun S P) : MMi G l yX3_run cX3_run 2 .int 15 354 [.ref (g 0)] h g S P := by
  refine MT.mk (own := RX3) (by decide) rfl hG (Nat.le_of_ble_eq_true rfl) ?_
  intro p e s m below meth c args Q hargs hQ C _
  refine J.loca (L2 := [(0, .ref (g 0))]) rfl ?_
  unfold F_mrun at hF
  refine j_aload_n C dX3_run_0 rfl 0 rfl ?_
  refine jm_callv (As := []) (rest := []) C (M_mparse G l hG h g hg S _ hF) q2202 cal_mparse rfl rfl (Nat.le_of_ble_eq_true rfl) ⟨Nat.le_of_ble_eq_true rfl, Nat.le_of_ble_eq_true rfl⟩ dX3_run_1 (fun S_1 hF => ?_)
  refine j_aload_n C dX3_run_4 rfl 0 rfl ?_
  refine j_iconst (v := 0) C dX3_run_5 rfl ?_
  refine jmP15 C hg dX3_run_6 ?_
  obtain ⟨S_2, eS_2, hF⟩ := nm_intro hF
  refine m_J eS_2 ?_
  refine j_aload_n C dX3_run_9 rfl 0 rfl ?_
  refine jmG17 C dX3_run_10 ?_
  refine j_if_lt (tgt := 31) C dX3_run_13 (by decide) (fun hc_3 => ?_) (fun hc_3 => ?_)
  · replace hF := hF.1 hc_3
    refine j_aload_n C dX3_run_31 rfl 0 rfl ?_
    refine jm_callv (As := []) (rest := []) C (M_mbegins G l hG h g hg S_2 _ hF) q1952 cal_mbegins rfl rfl (Nat.le_of_ble_eq_true rfl) ⟨Nat.le_of_ble_eq_true rfl, Nat.le_of_ble_eq_true rfl⟩ dX3_run_32 (fun S_4 hF => ?_)
    refine j_iconst (v := 0) C dX3_run_35 rfl ?_
    refine j_istore_n (L2 := [(1, .int 0), (0, .ref (g 0))]) C dX3_run_36 rfl (by decide) rfl ?_
    refine J.locals [1, 0] (WL_mrun_37 C hG hg hQ ?_ NF _ _ hF) rfl
    · intro S_9 w1_10 hF
      refine j_iload_n C dX3_run_61 rfl 1 rfl ?_
      refine j_aload_n C dX3_run_62 rfl 0 rfl ?_
      refine jmG20 C dX3_run_63 ?_
      obtain ⟨K_11, hK_11, hF⟩ := jn_intro (M := fun (K : MS → Prop) => ∀ (S_12 : MS), K S_12 → J G p l e ({ frames := 15, cells := 0, slots := 0, locals := 354 } : Room) s m args below meth c 2 Q 0 0 (MH G.2.2.1 h g S_12) 96 [(0, .ref (g 0)), (1, .int w1_10)] []) (hk := by
          intro S_12 hF
          refine j_aload_n C dX3_run_96 rfl 0 rfl ?_
          refine j_aload_n C dX3_run_97 rfl 0 rfl ?_
          refine jmG20 C dX3_run_98 ?_
          refine jmP4 C hg dX3_run_101 ?_
          obtain ⟨S_13, eS_13, hF⟩ := nm_intro hF
          refine m_J eS_13 ?_
          refine j_aload_n C dX3_run_104 rfl 0 rfl ?_
          refine j_iload_n C dX3_run_105 rfl 1 rfl ?_
          refine j_aload_n C dX3_run_106 rfl 0 rfl ?_
          refine jmG20 C dX3_run_107 ?_
          obtain ⟨K_14, hK_14, hF⟩ := jn_intro (M := fun (K : MS → Int32 → Prop) => ∀ (S_15 : MS) (t_16 : Int32), K S_15 t_16 → J G p l e ({ frames := 15, cells := 0, slots := 0, locals := 354 } : Room) s m args below meth c 2 Q 0 0 (MH G.2.2.1 h g S_15) 118 [] [.int t_16, .ref (g 0)]) (hk := by
              intro S_15 t_16 hF
              refine j_iconst (v := 2) C dX3_run_118 rfl ?_
              refine jm_calli (As := [.int t_16, .int 2]) (rest := []) C (M_mends G l hG h g hg S_15 t_16 2 _ hF) q1972 cal_mends rfl rfl (Nat.le_of_ble_eq_true rfl) ⟨Nat.le_of_ble_eq_true rfl, Nat.le_of_ble_eq_true rfl⟩ dX3_run_119 (fun r_18 S_17 hF => ?_)
              rw [hQ]
              exact j_iret C rfl ⟨_, _, rfl, rfl, hF⟩ dX3_run_122) hF
          refine j_icmp_ne (tgt := 117) C dX3_run_110 (by decide) (fun hc_19 => ?_) (fun hc_19 => ?_)
          · replace hF := hF.2 hc_19
            refine j_iconst (v := 0) C dX3_run_117 rfl ?_
            exact J.locals [] (hK_14 _ _ hF) rfl
          · replace hF := hF.1 hc_19
            refine j_iconst (v := 1) C dX3_run_113 rfl ?_
            refine j_goto (tgt := 118) C dX3_run_114 (by decide) ?_
            exact J.locals [] (hK_14 _ _ hF) rfl) hF
      refine j_icmp_ge (tgt := 96) C dX3_run_66 (by decide) (fun hc_20 => ?_) (fun hc_20 => ?_)
      · replace hF := hF.1 hc_20
        exact J.locals [0, 1] (hK_11 _ hF) rfl
      · replace hF := hF.2 hc_20
        refine j_aload_n C dX3_run_69 rfl 0 rfl ?_
        refine j_aload_n C dX3_run_70 rfl 0 rfl ?_
        refine jmG5 C dX3_run_71 ?_
        refine jmP7 C hg dX3_run_74 ?_
        obtain ⟨S_21, eS_21, hF⟩ := nm_intro hF
        refine m_J eS_21 ?_
        refine j_aload_n C dX3_run_77 rfl 0 rfl ?_
        refine j_aload_n C dX3_run_78 rfl 0 rfl ?_
        refine jmG6 C dX3_run_79 ?_
        refine jmP8 C hg dX3_run_82 ?_
        obtain ⟨S_22, eS_22, hF⟩ := nm_intro hF
        refine m_J eS_22 ?_
        refine j_aload_n C dX3_run_85 rfl 0 rfl ?_
        refine j_bipush (v := 10) C dX3_run_86 rfl ?_
        refine jmP5 C hg dX3_run_88 ?_
        obtain ⟨S_23, eS_23, hF⟩ := nm_intro hF
        refine m_J eS_23 ?_
        refine j_aload_n C dX3_run_91 rfl 0 rfl ?_
        refine j_iload_n C dX3_run_92 rfl 1 rfl ?_
        refine jmP6 C hg dX3_run_93 ?_
        obtain ⟨S_24, eS_24, hF⟩ := nm_intro hF
        refine m_J eS_24 ?_
        exact J.locals [0, 1] (hK_11 _ hF) rfl
  · replace hF := hF.2 hc_3
    refine j_aload_n C dX3_run_16 rfl 0 rfl ?_
    refine j_aload_n C dX3_run_17 rfl 0 rfl ?_
    refine jmG17 C dX3_run_18 ?_
    refine jmP18 C hg dX3_run_21 ?_
    obtain ⟨S_25, eS_25, hF⟩ := nm_intro hF
    refine m_J eS_25 ?_
    refine j_aload_n C dX3_run_24 rfl 0 rfl ?_
    refine j_iconst (v := 1) C dX3_run_25 rfl ?_
    refine jmP0 C hg dX3_run_26 ?_
    obtain ⟨S_26, eS_26, hF⟩ := nm_intro hF
    refine m_J eS_26 ?_
    refine j_iconst (v := 0) C dX3_run_29 rfl ?_
    rw [hQ]
    exact j_iret C rfl ⟨_, _, rfl, rfl, hF⟩ dX3_run_30
theorem cal_msave : CalV yX3_save RX3 cX3_save 1 (some .int) 0 := ⟨q2287, q2288, q101, q2289, by decide +kernel⟩
def F_msave (S : MS) (P : Int32 → MS → Prop) : Prop := nm (sput S 0 0 0) (fun S_1 => nm (sput S_1 0 3 1) (fun S_2 => F_mcopies S_2 0 9 (fun S_3 => F_mpairs S_3 (fun r_5 S_4 => P r_5 S_4))))
set_option maxHeartbeats 4000000 in
theorem M_msave (G : GT) (l : Launch) (hG : GOK G) (h : AH) (g : Nat → Nat) (hg : Mg G g) (S : MS) (P : Int32 → MS → Prop) (hF : F_msave S P) : MMi G l yX3_save cX3_save 1 .int 1 23 [.ref (g 0)] h g S P := by
  refine MT.mk (own := RX3) (by decide) rfl hG (Nat.le_of_ble_eq_true rfl) ?_
  intro p e s m below meth c args Q hargs hQ C _
  refine J.loca (L2 := [(0, .ref (g 0))]) rfl ?_
  unfold F_msave at hF
  refine j_aload_n C dX3_save_0 rfl 0 rfl ?_
  refine j_iconst (v := 0) C dX3_save_1 rfl ?_
  refine jmP0 C hg dX3_save_2 ?_
  obtain ⟨S_1, eS_1, hF⟩ := nm_intro hF
  refine m_J eS_1 ?_
  refine j_aload_n C dX3_save_5 rfl 0 rfl ?_
  refine j_iconst (v := 1) C dX3_save_6 rfl ?_
  refine jmP3 C hg ⟨rfl, rfl⟩ dX3_save_7 ?_
  obtain ⟨S_2, eS_2, hF⟩ := nm_intro hF
  refine m_J eS_2 ?_
  refine j_aload_n C dX3_save_10 rfl 0 rfl ?_
  refine j_iconst (v := 0) C dX3_save_11 rfl ?_
  refine j_bipush (v := 9) C dX3_save_12 rfl ?_
  refine jm_callv (As := [.int 0, .int 9]) (rest := []) C (M_mcopies G l hG h g hg S_2 0 9 _ hF) q1956 cal_mcopies rfl rfl (Nat.le_of_ble_eq_true rfl) ⟨Nat.le_of_ble_eq_true rfl, Nat.le_of_ble_eq_true rfl⟩ dX3_save_14 (fun S_3 hF => ?_)
  refine j_aload_n C dX3_save_17 rfl 0 rfl ?_
  refine jm_calli (As := []) (rest := []) C (M_mpairs G l hG h g hg S_3 _ hF) q2270 cal_mpairs rfl rfl (Nat.le_of_ble_eq_true rfl) ⟨Nat.le_of_ble_eq_true rfl, Nat.le_of_ble_eq_true rfl⟩ dX3_save_18 (fun r_5 S_4 hF => ?_)
  rw [hQ]
  exact j_iret C rfl ⟨_, _, rfl, rfl, hF⟩ dX3_save_21
theorem cal_mserved : CalV yX3_served RX3 cX3_served 3 (some .int) 2 := ⟨q2153, q2154, q101, q2155, by decide +kernel⟩
def F_mserved (S : MS) (x1 : Int32) (x2 : Int32) (P : Int32 → MS → Prop) : Prop := F_mareThere S x1 x2 (fun r_2 S_1 => (r_2 = 0 → P 0 S_1) ∧ (¬ r_2 = 0 → (vp_in ((42 + (6 * x1)) + x2) 1152) ∧ (P (S_1 1 (Int32.toNatClampNeg ((42 + (6 * x1)) + x2))) S_1)))
set_option maxHeartbeats 4000000 in
theorem M_mserved (G : GT) (l : Launch) (hG : GOK G) (h : AH) (g : Nat → Nat) (hg : Mg G g) (S : MS) (x1 : Int32) (x2 : Int32) (P : Int32 → MS → Prop) (hF : F_mserved S x1 x2 P) : MMi G l yX3_served cX3_served 3 .int 3 65 [.ref (g 0), .int x1, .int x2] h g S P := by
  refine MT.mk (own := RX3) (by decide) rfl hG (Nat.le_of_ble_eq_true rfl) ?_
  intro p e s m below meth c args Q hargs hQ C _
  refine J.loca (L2 := [(0, .ref (g 0)), (1, .int x1), (2, .int x2)]) rfl ?_
  unfold F_mserved at hF
  refine j_aload_n C dX3_served_0 rfl 0 rfl ?_
  refine j_iload_n C dX3_served_1 rfl 1 rfl ?_
  refine j_iload_n C dX3_served_2 rfl 2 rfl ?_
  refine jm_calli (As := [.int x1, .int x2]) (rest := []) C (M_mareThere G l hG h g hg S x1 x2 _ hF) q2120 cal_mareThere rfl rfl (Nat.le_of_ble_eq_true rfl) ⟨Nat.le_of_ble_eq_true rfl, Nat.le_of_ble_eq_true rfl⟩ dX3_served_3 (fun r_2 S_1 hF => ?_)
  refine j_if_eq (tgt := 26) C dX3_served_6 (by decide) (fun hc_3 => ?_) (fun hc_3 => ?_)
  · replace hF := hF.1 hc_3
    refine j_iconst (v := 0) C dX3_served_26 rfl ?_
    rw [hQ]
    exact j_iret C rfl ⟨_, _, rfl, rfl, hF⟩ dX3_served_27
  · replace hF := hF.2 hc_3
    refine j_aload_n C dX3_served_9 rfl 0 rfl ?_
    refine jmG1 C dX3_served_10 ?_
    refine j_bipush (v := 42) C dX3_served_13 rfl ?_
    refine j_bipush (v := 6) C dX3_served_15 rfl ?_
    refine j_iload_n C dX3_served_17 rfl 1 rfl ?_
    refine j_imul C dX3_served_18 ?_
    refine j_iadd C dX3_served_19 ?_
    refine j_iload_n C dX3_served_20 rfl 2 rfl ?_
    refine j_iadd C dX3_served_21 ?_
    obtain ⟨hgd, hF⟩ := hF
    refine jmL1 C hg hgd dX3_served_22 ?_
    refine j_goto (tgt := 27) C dX3_served_23 (by decide) ?_
    rw [hQ]
    exact j_iret C rfl ⟨_, _, rfl, rfl, hF⟩ dX3_served_27
theorem cal_msettle : CalV yX3_settle RX3 cX3_settle 1 (some .int) 0 := ⟨q2057, q2058, q101, q2059, by decide +kernel⟩
def F_msettle (S : MS) (P : Int32 → MS → Prop) : Prop := F_mbegins S (fun S_1 => F_msettlesNow S_1 (fun r_3 S_2 => F_mends S_2 r_3 1 (fun r_5 S_4 => P r_5 S_4)))
set_option maxHeartbeats 4000000 in
theorem M_msettle (G : GT) (l : Launch) (hG : GOK G) (h : AH) (g : Nat → Nat) (hg : Mg G g) (S : MS) (P : Int32 → MS → Prop) (hF : F_msettle S P) : MMi G l yX3_settle cX3_settle 1 .int 14 331 [.ref (g 0)] h g S P := by
  refine MT.mk (own := RX3) (by decide) rfl hG (Nat.le_of_ble_eq_true rfl) ?_
  intro p e s m below meth c args Q hargs hQ C _
  refine J.loca (L2 := [(0, .ref (g 0))]) rfl ?_
  unfold F_msettle at hF
  refine j_aload_n C dX3_settle_0 rfl 0 rfl ?_
  refine jm_callv (As := []) (rest := []) C (M_mbegins G l hG h g hg S _ hF) q1952 cal_mbegins rfl rfl (Nat.le_of_ble_eq_true rfl) ⟨Nat.le_of_ble_eq_true rfl, Nat.le_of_ble_eq_true rfl⟩ dX3_settle_1 (fun S_1 hF => ?_)
  refine j_aload_n C dX3_settle_4 rfl 0 rfl ?_
  refine j_aload_n C dX3_settle_5 rfl 0 rfl ?_
  refine jm_calli (As := []) (rest := [.ref (g 0)]) C (M_msettlesNow G l hG h g hg S_1 _ hF) q2060 cal_msettlesNow rfl rfl (Nat.le_of_ble_eq_true rfl) ⟨Nat.le_of_ble_eq_true rfl, Nat.le_of_ble_eq_true rfl⟩ dX3_settle_6 (fun r_3 S_2 hF => ?_)
  refine j_iconst (v := 1) C dX3_settle_9 rfl ?_
  refine jm_calli (As := [.int r_3, .int 1]) (rest := []) C (M_mends G l hG h g hg S_2 r_3 1 _ hF) q1972 cal_mends rfl rfl (Nat.le_of_ble_eq_true rfl) ⟨Nat.le_of_ble_eq_true rfl, Nat.le_of_ble_eq_true rfl⟩ dX3_settle_10 (fun r_5 S_4 hF => ?_)
  rw [hQ]
  exact j_iret C rfl ⟨_, _, rfl, rfl, hF⟩ dX3_settle_13
theorem cal_mthrown : CalV yX3_thrown RX3 cX3_thrown 1 (some .int) 0 := ⟨q1937, q1938, q101, q1939, by decide +kernel⟩
def F_mthrown (S : MS) (P : Int32 → MS → Prop) : Prop := P (S 0 0) S
set_option maxHeartbeats 4000000 in
theorem M_mthrown (G : GT) (l : Launch) (hG : GOK G) (h : AH) (g : Nat → Nat) (hg : Mg G g) (S : MS) (P : Int32 → MS → Prop) (hF : F_mthrown S P) : MMi G l yX3_thrown cX3_thrown 1 .int 0 0 [.ref (g 0)] h g S P := by
  refine MT.mk (own := RX3) (by decide) rfl hG (Nat.le_of_ble_eq_true rfl) ?_
  intro p e s m below meth c args Q hargs hQ C _
  refine J.loca (L2 := [(0, .ref (g 0))]) rfl ?_
  unfold F_mthrown at hF
  refine j_aload_n C dX3_thrown_0 rfl 0 rfl ?_
  refine jmG0 C dX3_thrown_1 ?_
  rw [hQ]
  exact j_iret C rfl ⟨_, _, rfl, rfl, hF⟩ dX3_thrown_4
theorem cal_mundo : CalV yX3_undo RX3 cX3_undo 1 (some .int) 0 := ⟨q2283, q2284, q101, q2285, by decide +kernel⟩
def F_mundo (S : MS) (P : Int32 → MS → Prop) : Prop := jn (α := MS → Int32 → Prop) (fun S_2 t_3 => F_misThere S_2 t_3 (fun r_5 S_4 => (r_5 = 0 → P 0 S_4) ∧ (¬ r_5 = 0 → F_mcopies S_4 (S_4 0 2) 0 (fun S_7 => nm (sput S_7 0 2 ((S_7 0 2) - 1)) (fun S_8 => P (S_8 0 2) S_8))))) (fun K_1 => ((S 0 2) ≤ 0 → K_1 S 0) ∧ (¬ (S 0 2) ≤ 0 → K_1 S 1))
set_option maxHeartbeats 4000000 in
theorem M_mundo (G : GT) (l : Launch) (hG : GOK G) (h : AH) (g : Nat → Nat) (hg : Mg G g) (S : MS) (P : Int32 → MS → Prop) (hF : F_mundo S P) : MMi G l yX3_undo cX3_undo 1 .int 1 23 [.ref (g 0)] h g S P := by
  refine MT.mk (own := RX3) (by decide) rfl hG (Nat.le_of_ble_eq_true rfl) ?_
  intro p e s m below meth c args Q hargs hQ C _
  refine J.loca (L2 := [(0, .ref (g 0))]) rfl ?_
  unfold F_mundo at hF
  refine j_aload_n C dX3_undo_0 rfl 0 rfl ?_
  refine j_aload_n C dX3_undo_1 rfl 0 rfl ?_
  refine jmG2 C dX3_undo_2 ?_
  obtain ⟨K_1, hK_1, hF⟩ := jn_intro (M := fun (K : MS → Int32 → Prop) => ∀ (S_2 : MS) (t_3 : Int32), K S_2 t_3 → J G p l e ({ frames := 1, cells := 0, slots := 0, locals := 23 } : Room) s m args below meth c 1 Q 0 0 (MH G.2.2.1 h g S_2) 13 [(0, .ref (g 0))] [.int t_3, .ref (g 0)]) (hk := by
      intro S_2 t_3 hF
      refine jm_calli (As := [.int t_3]) (rest := []) C (M_misThere G l hG h g hg S_2 t_3 _ hF) q1944 cal_misThere rfl rfl (Nat.le_of_ble_eq_true rfl) ⟨Nat.le_of_ble_eq_true rfl, Nat.le_of_ble_eq_true rfl⟩ dX3_undo_13 (fun r_5 S_4 hF => ?_)
      refine j_if_ne (tgt := 21) C dX3_undo_16 (by decide) (fun hc_6 => ?_) (fun hc_6 => ?_)
      · replace hF := hF.2 hc_6
        refine j_aload_n C dX3_undo_21 rfl 0 rfl ?_
        refine j_aload_n C dX3_undo_22 rfl 0 rfl ?_
        refine jmG2 C dX3_undo_23 ?_
        refine j_iconst (v := 0) C dX3_undo_26 rfl ?_
        refine jm_callv (As := [.int (S_4 0 2), .int 0]) (rest := []) C (M_mcopies G l hG h g hg S_4 (S_4 0 2) 0 _ hF) q1956 cal_mcopies rfl rfl (Nat.le_of_ble_eq_true rfl) ⟨Nat.le_of_ble_eq_true rfl, Nat.le_of_ble_eq_true rfl⟩ dX3_undo_27 (fun S_7 hF => ?_)
        refine j_aload_n C dX3_undo_30 rfl 0 rfl ?_
        refine j_dup C dX3_undo_31 rfl ?_
        refine jmG2 C dX3_undo_32 ?_
        refine j_iconst (v := 1) C dX3_undo_35 rfl ?_
        refine j_isub C dX3_undo_36 ?_
        refine jmP2 C hg dX3_undo_37 ?_
        obtain ⟨S_8, eS_8, hF⟩ := nm_intro hF
        refine m_J eS_8 ?_
        refine j_aload_n C dX3_undo_40 rfl 0 rfl ?_
        refine jmG2 C dX3_undo_41 ?_
        rw [hQ]
        exact j_iret C rfl ⟨_, _, rfl, rfl, hF⟩ dX3_undo_44
      · replace hF := hF.1 hc_6
        refine j_iconst (v := 0) C dX3_undo_19 rfl ?_
        rw [hQ]
        exact j_iret C rfl ⟨_, _, rfl, rfl, hF⟩ dX3_undo_20) hF
  refine j_if_le (tgt := 12) C dX3_undo_5 (by decide) (fun hc_9 => ?_) (fun hc_9 => ?_)
  · replace hF := hF.1 hc_9
    refine j_iconst (v := 0) C dX3_undo_12 rfl ?_
    exact J.locals [0] (hK_1 _ _ hF) rfl
  · replace hF := hF.2 hc_9
    refine j_iconst (v := 1) C dX3_undo_8 rfl ?_
    refine j_goto (tgt := 13) C dX3_undo_9 (by decide) ?_
    exact J.locals [0] (hK_1 _ _ hF) rfl
theorem cal_mwith : CalV yX3_with RX3 cX3_with 3 (some .int) 2 := ⟨q2166, q2167, q101, q2168, by decide +kernel⟩
def F_mwith (S : MS) (x1 : Int32) (x2 : Int32) (P : Int32 → MS → Prop) : Prop := F_mareThere S x1 x2 (fun r_2 S_1 => (r_2 = 0 → P 0 S_1) ∧ (¬ r_2 = 0 → F_mlooksWith S_1 x1 x2 (fun S_4 => jn (α := MS → Int32 → Prop) (fun S_6 t_7 => nm (sput S_6 0 0 t_7) (fun S_8 => ((S_8 0 0) = 0 → P (S_8 0 13) S_8) ∧ (¬ (S_8 0 0) = 0 → P 0 S_8))) (fun K_5 => ((S_4 0 11) ≤ 0 → K_5 S_4 2) ∧ (¬ (S_4 0 11) ≤ 0 → K_5 S_4 0)))))
set_option maxHeartbeats 4000000 in
theorem M_mwith (G : GT) (l : Launch) (hG : GOK G) (h : AH) (g : Nat → Nat) (hg : Mg G g) (S : MS) (x1 : Int32) (x2 : Int32) (P : Int32 → MS → Prop) (hF : F_mwith S x1 x2 P) : MMi G l yX3_with cX3_with 3 .int 12 291 [.ref (g 0), .int x1, .int x2] h g S P := by
  refine MT.mk (own := RX3) (by decide) rfl hG (Nat.le_of_ble_eq_true rfl) ?_
  intro p e s m below meth c args Q hargs hQ C _
  refine J.loca (L2 := [(0, .ref (g 0)), (1, .int x1), (2, .int x2)]) rfl ?_
  unfold F_mwith at hF
  refine j_aload_n C dX3_with_0 rfl 0 rfl ?_
  refine j_iload_n C dX3_with_1 rfl 1 rfl ?_
  refine j_iload_n C dX3_with_2 rfl 2 rfl ?_
  refine jm_calli (As := [.int x1, .int x2]) (rest := []) C (M_mareThere G l hG h g hg S x1 x2 _ hF) q2120 cal_mareThere rfl rfl (Nat.le_of_ble_eq_true rfl) ⟨Nat.le_of_ble_eq_true rfl, Nat.le_of_ble_eq_true rfl⟩ dX3_with_3 (fun r_2 S_1 hF => ?_)
  refine j_if_ne (tgt := 11) C dX3_with_6 (by decide) (fun hc_3 => ?_) (fun hc_3 => ?_)
  · replace hF := hF.2 hc_3
    refine j_aload_n C dX3_with_11 rfl 0 rfl ?_
    refine j_iload_n C dX3_with_12 rfl 1 rfl ?_
    refine j_iload_n C dX3_with_13 rfl 2 rfl ?_
    refine jm_callv (As := [.int x1, .int x2]) (rest := []) C (M_mlooksWith G l hG h g hg S_1 x1 x2 _ hF) q2068 cal_mlooksWith rfl rfl (Nat.le_of_ble_eq_true rfl) ⟨Nat.le_of_ble_eq_true rfl, Nat.le_of_ble_eq_true rfl⟩ dX3_with_14 (fun S_4 hF => ?_)
    refine j_aload_n C dX3_with_17 rfl 0 rfl ?_
    refine j_aload_n C dX3_with_18 rfl 0 rfl ?_
    refine jmG11 C dX3_with_19 ?_
    obtain ⟨K_5, hK_5, hF⟩ := jn_intro (M := fun (K : MS → Int32 → Prop) => ∀ (S_6 : MS) (t_7 : Int32), K S_6 t_7 → J G p l e ({ frames := 12, cells := 0, slots := 0, locals := 291 } : Room) s m args below meth c 3 Q 0 0 (MH G.2.2.1 h g S_6) 30 [(0, .ref (g 0))] [.int t_7, .ref (g 0)]) (hk := by
        intro S_6 t_7 hF
        refine jmP0 C hg dX3_with_30 ?_
        obtain ⟨S_8, eS_8, hF⟩ := nm_intro hF
        refine m_J eS_8 ?_
        refine j_aload_n C dX3_with_33 rfl 0 rfl ?_
        refine jmG0 C dX3_with_34 ?_
        refine j_if_ne (tgt := 47) C dX3_with_37 (by decide) (fun hc_9 => ?_) (fun hc_9 => ?_)
        · replace hF := hF.2 hc_9
          refine j_iconst (v := 0) C dX3_with_47 rfl ?_
          rw [hQ]
          exact j_iret C rfl ⟨_, _, rfl, rfl, hF⟩ dX3_with_48
        · replace hF := hF.1 hc_9
          refine j_aload_n C dX3_with_40 rfl 0 rfl ?_
          refine jmG13 C dX3_with_41 ?_
          refine j_goto (tgt := 48) C dX3_with_44 (by decide) ?_
          rw [hQ]
          exact j_iret C rfl ⟨_, _, rfl, rfl, hF⟩ dX3_with_48) hF
    refine j_if_le (tgt := 29) C dX3_with_22 (by decide) (fun hc_10 => ?_) (fun hc_10 => ?_)
    · replace hF := hF.1 hc_10
      refine j_iconst (v := 2) C dX3_with_29 rfl ?_
      exact J.locals [0] (hK_5 _ _ hF) rfl
    · replace hF := hF.2 hc_10
      refine j_iconst (v := 0) C dX3_with_25 rfl ?_
      refine j_goto (tgt := 30) C dX3_with_26 (by decide) ?_
      exact J.locals [0] (hK_5 _ _ hF) rfl
  · replace hF := hF.1 hc_3
    refine j_iconst (v := 0) C dX3_with_9 rfl ?_
    rw [hQ]
    exact j_iret C rfl ⟨_, _, rfl, rfl, hF⟩ dX3_with_10
theorem cal_mwouldBid : CalV yX3_wouldBid RX3 cX3_wouldBid 5 (some .int) 0 := ⟨q2178, q2179, q101, q2180, by decide +kernel⟩
def L_mwouldBid_16 (K53 : MS → Int32 → Int32 → Prop) (P : Int32 → MS → Prop) : Nat → MS → Int32 → Int32 → Int32 → Prop
  | 0, _, _, _, _ => False
  | n + 1, S, z1, z2, z3 => (z3 = (-1) → K53 S z1 z2) ∧ (¬ z3 = (-1) → (z2 = 0 → F_mwhyNot S z3 (fun r_7 S_6 => jn (α := MS → Int32 → Prop) (fun S_9 y1_10 => F_mfirstFree S_9 (fun r_12 S_11 => L_mwouldBid_16 K53 P n S_11 y1_10 r_7 r_12)) (fun K_8 => (r_7 = 0 → F_mbidsNow S_6 z3 (fun r_15 S_14 => K_8 S_14 (z1 + 1))) ∧ (¬ r_7 = 0 → K_8 S_6 z1)))) ∧ (¬ z2 = 0 → K53 S z1 z2))
def F_mwouldBid (S : MS) (P : Int32 → MS → Prop) : Prop := F_mcopies S 0 11 (fun S_1 => F_mfirstFree S_1 (fun r_3 S_2 => L_mwouldBid_16 (fun S_16 w1_17 w2_18 => F_mcopies S_16 11 0 (fun S_19 => jn (α := MS → Int32 → Prop) (fun S_21 t_22 => F_misThere S_21 t_22 (fun r_24 S_23 => (r_24 = 0 → P 0 S_23) ∧ (¬ r_24 = 0 → P w1_17 S_23))) (fun K_20 => (w2_18 = 0 → K_20 S_19 1) ∧ (¬ w2_18 = 0 → K_20 S_19 0)))) P NF S_2 0 0 r_3))
set_option maxHeartbeats 4000000 in
theorem WL_mwouldBid_16 {G : GT} {p : Program} {l : Launch} {e : Env} {s : State} {m : MethodId} {args : Array Value} {below : List Frame} {meth : Method} {c : Code} {h : AH} {g : Nat → Nat} {Q : State → Prop} (C : Cx G p s m args meth c cX3_wouldBid RX3 5 (some .int)) (hG : GOK G) (hg : Mg G g) {P : Int32 → MS → Prop} (hQ : Q = MQ below (SQ G (fun v h' => ∃ (r : Int32) (S' : MS), v = some (.int r) ∧ h' = (MH G.2.2.1 h g S') ∧ P r S')) args s (({ frames := 5, cells := 0, slots := 0, locals := 114 } : Room) : Room).cells (({ frames := 5, cells := 0, slots := 0, locals := 114 } : Room) : Room).slots (fun q => G.1 ≤ q)) {K53 : MS → Int32 → Int32 → Prop} (hK53 : ∀ (S0 : MS) (w1 : Int32) (w2 : Int32), K53 S0 w1 w2 → J G p l e ({ frames := 5, cells := 0, slots := 0, locals := 114 } : Room) s m args below meth c 5 Q 0 0 (MH G.2.2.1 h g S0) 53 [(0, .ref (g 0)), (1, .int w1), (2, .int w2)] []) :
    ∀ (n : Nat) (S : MS) (z1 : Int32) (z2 : Int32) (z3 : Int32), L_mwouldBid_16 K53 P n S z1 z2 z3 → J G p l e ({ frames := 5, cells := 0, slots := 0, locals := 114 } : Room) s m args below meth c 5 Q 0 0 (MH G.2.2.1 h g S) 16 [(0, .ref (g 0)), (1, .int z1), (2, .int z2), (3, .int z3)] [] := by
  intro n
  induction n with
  | zero => intro S z1 z2 z3 hF; exact hF.elim
  | succ n ih =>
    intro S z1 z2 z3 hF
    unfold L_mwouldBid_16 at hF
    refine j_iload_n C dX3_wouldBid_16 rfl 3 rfl ?_
    refine j_iconst (v := (-1)) C dX3_wouldBid_17 rfl ?_
    refine j_icmp_eq (tgt := 53) C dX3_wouldBid_18 (by decide) (fun hc_4 => ?_) (fun hc_4 => ?_)
    · replace hF := hF.1 hc_4
      exact J.locals [0, 1, 2] (hK53 _ _ _ hF) rfl
    · replace hF := hF.2 hc_4
      refine j_iload_n C dX3_wouldBid_21 rfl 2 rfl ?_
      refine j_if_ne (tgt := 53) C dX3_wouldBid_22 (by decide) (fun hc_5 => ?_) (fun hc_5 => ?_)
      · replace hF := hF.2 hc_5
        exact J.locals [0, 1, 2] (hK53 _ _ _ hF) rfl
      · replace hF := hF.1 hc_5
        refine j_aload_n C dX3_wouldBid_25 rfl 0 rfl ?_
        refine j_iload_n C dX3_wouldBid_26 rfl 3 rfl ?_
        refine jm_calli (As := [.int z3]) (rest := []) C (M_mwhyNot G l hG h g hg S z3 _ hF) q2031 cal_mwhyNot rfl rfl (Nat.le_of_ble_eq_true rfl) ⟨Nat.le_of_ble_eq_true rfl, Nat.le_of_ble_eq_true rfl⟩ dX3_wouldBid_27 (fun r_7 S_6 hF => ?_)
        refine j_istore_n (L2 := [(2, .int r_7), (0, .ref (g 0)), (1, .int z1), (3, .int z3)]) C dX3_wouldBid_30 rfl (by decide) rfl ?_
        refine j_iload_n C dX3_wouldBid_31 rfl 0 rfl ?_
        obtain ⟨K_8, hK_8, hF⟩ := jn_intro (M := fun (K : MS → Int32 → Prop) => ∀ (S_9 : MS) (y1_10 : Int32), K S_9 y1_10 → J G p l e ({ frames := 5, cells := 0, slots := 0, locals := 114 } : Room) s m args below meth c 5 Q 0 0 (MH G.2.2.1 h g S_9) 45 [(0, .ref (g 0)), (1, .int y1_10), (2, .int r_7)] []) (hk := by
            intro S_9 y1_10 hF
            refine j_aload_n C dX3_wouldBid_45 rfl 0 rfl ?_
            refine jm_calli (As := []) (rest := []) C (M_mfirstFree G l hG h g hg S_9 _ hF) q2027 cal_mfirstFree rfl rfl (Nat.le_of_ble_eq_true rfl) ⟨Nat.le_of_ble_eq_true rfl, Nat.le_of_ble_eq_true rfl⟩ dX3_wouldBid_46 (fun r_12 S_11 hF => ?_)
            refine j_istore_n (L2 := [(3, .int r_12), (0, .ref (g 0)), (1, .int y1_10), (2, .int r_7)]) C dX3_wouldBid_49 rfl (by decide) rfl ?_
            refine j_goto (tgt := 16) C dX3_wouldBid_50 (by decide) ?_
            exact J.locals [1, 2, 3, 0] (ih _ _ _ _ hF) rfl) hF
        refine j_if_ne (tgt := 45) C dX3_wouldBid_32 (by decide) (fun hc_13 => ?_) (fun hc_13 => ?_)
        · replace hF := hF.2 hc_13
          exact J.locals [1, 2, 0] (hK_8 _ _ hF) rfl
        · replace hF := hF.1 hc_13
          refine j_aload_n C dX3_wouldBid_35 rfl 1 rfl ?_
          refine j_iload_n C dX3_wouldBid_36 rfl 3 rfl ?_
          refine jm_calli (As := [.int z3]) (rest := []) C (M_mbidsNow G l hG h g hg S_6 z3 _ hF) q2048 cal_mbidsNow rfl rfl (Nat.le_of_ble_eq_true rfl) ⟨Nat.le_of_ble_eq_true rfl, Nat.le_of_ble_eq_true rfl⟩ dX3_wouldBid_37 (fun r_15 S_14 hF => ?_)
          refine j_istore (L2 := [(4, .int r_15), (2, .int r_7), (0, .ref (g 0)), (1, .int z1), (3, .int z3)]) C dX3_wouldBid_40 (by decide) rfl ?_
          refine j_iinc (q := 3) (v := z1 + 1) (L2 := [(1, .int (z1 + 1)), (4, .int r_15), (2, .int r_7), (0, .ref (g 0)), (3, .int z3)]) C dX3_wouldBid_42 rfl rfl (by decide) rfl ?_
          exact J.locals [3, 0, 2] (hK_8 _ _ hF) rfl
set_option maxHeartbeats 4000000 in
theorem M_mwouldBid (G : GT) (l : Launch) (hG : GOK G) (h : AH) (g : Nat → Nat) (hg : Mg G g) (S : MS) (P : Int32 → MS → Prop) (hF : F_mwouldBid S P) : MMi G l yX3_wouldBid cX3_wouldBid 5 .int 5 114 [.ref (g 0)] h g S P := by
  refine MT.mk (own := RX3) (by decide) rfl hG (Nat.le_of_ble_eq_true rfl) ?_
  intro p e s m below meth c args Q hargs hQ C _
  refine J.loca (L2 := [(0, .ref (g 0))]) rfl ?_
  unfold F_mwouldBid at hF
  refine j_aload_n C dX3_wouldBid_0 rfl 0 rfl ?_
  refine j_iconst (v := 0) C dX3_wouldBid_1 rfl ?_
  refine j_bipush (v := 11) C dX3_wouldBid_2 rfl ?_
  refine jm_callv (As := [.int 0, .int 11]) (rest := []) C (M_mcopies G l hG h g hg S 0 11 _ hF) q1956 cal_mcopies rfl rfl (Nat.le_of_ble_eq_true rfl) ⟨Nat.le_of_ble_eq_true rfl, Nat.le_of_ble_eq_true rfl⟩ dX3_wouldBid_4 (fun S_1 hF => ?_)
  refine j_iconst (v := 0) C dX3_wouldBid_7 rfl ?_
  refine j_istore_n (L2 := [(1, .int 0), (0, .ref (g 0))]) C dX3_wouldBid_8 rfl (by decide) rfl ?_
  refine j_iconst (v := 0) C dX3_wouldBid_9 rfl ?_
  refine j_istore_n (L2 := [(2, .int 0), (1, .int 0), (0, .ref (g 0))]) C dX3_wouldBid_10 rfl (by decide) rfl ?_
  refine j_aload_n C dX3_wouldBid_11 rfl 2 rfl ?_
  refine jm_calli (As := []) (rest := []) C (M_mfirstFree G l hG h g hg S_1 _ hF) q2027 cal_mfirstFree rfl rfl (Nat.le_of_ble_eq_true rfl) ⟨Nat.le_of_ble_eq_true rfl, Nat.le_of_ble_eq_true rfl⟩ dX3_wouldBid_12 (fun r_3 S_2 hF => ?_)
  refine j_istore_n (L2 := [(3, .int r_3), (2, .int 0), (1, .int 0), (0, .ref (g 0))]) C dX3_wouldBid_15 rfl (by decide) rfl ?_
  refine J.locals [3, 2, 1, 0] (WL_mwouldBid_16 C hG hg hQ ?_ NF _ _ _ _ hF) rfl
  · intro S_16 w1_17 w2_18 hF
    refine j_aload_n C dX3_wouldBid_53 rfl 0 rfl ?_
    refine j_bipush (v := 11) C dX3_wouldBid_54 rfl ?_
    refine j_iconst (v := 0) C dX3_wouldBid_56 rfl ?_
    refine jm_callv (As := [.int 11, .int 0]) (rest := []) C (M_mcopies G l hG h g hg S_16 11 0 _ hF) q1956 cal_mcopies rfl rfl (Nat.le_of_ble_eq_true rfl) ⟨Nat.le_of_ble_eq_true rfl, Nat.le_of_ble_eq_true rfl⟩ dX3_wouldBid_57 (fun S_19 hF => ?_)
    refine j_aload_n C dX3_wouldBid_60 rfl 0 rfl ?_
    refine j_iload_n C dX3_wouldBid_61 rfl 2 rfl ?_
    obtain ⟨K_20, hK_20, hF⟩ := jn_intro (M := fun (K : MS → Int32 → Prop) => ∀ (S_21 : MS) (t_22 : Int32), K S_21 t_22 → J G p l e ({ frames := 5, cells := 0, slots := 0, locals := 114 } : Room) s m args below meth c 5 Q 0 0 (MH G.2.2.1 h g S_21) 70 [(1, .int w1_17)] [.int t_22, .ref (g 0)]) (hk := by
        intro S_21 t_22 hF
        refine jm_calli (As := [.int t_22]) (rest := []) C (M_misThere G l hG h g hg S_21 t_22 _ hF) q1944 cal_misThere rfl rfl (Nat.le_of_ble_eq_true rfl) ⟨Nat.le_of_ble_eq_true rfl, Nat.le_of_ble_eq_true rfl⟩ dX3_wouldBid_70 (fun r_24 S_23 hF => ?_)
        refine j_if_eq (tgt := 80) C dX3_wouldBid_73 (by decide) (fun hc_25 => ?_) (fun hc_25 => ?_)
        · replace hF := hF.1 hc_25
          refine j_iconst (v := 0) C dX3_wouldBid_80 rfl ?_
          rw [hQ]
          exact j_iret C rfl ⟨_, _, rfl, rfl, hF⟩ dX3_wouldBid_81
        · replace hF := hF.2 hc_25
          refine j_iload_n C dX3_wouldBid_76 rfl 0 rfl ?_
          refine j_goto (tgt := 81) C dX3_wouldBid_77 (by decide) ?_
          rw [hQ]
          exact j_iret C rfl ⟨_, _, rfl, rfl, hF⟩ dX3_wouldBid_81) hF
    refine j_if_ne (tgt := 69) C dX3_wouldBid_62 (by decide) (fun hc_26 => ?_) (fun hc_26 => ?_)
    · replace hF := hF.2 hc_26
      refine j_iconst (v := 0) C dX3_wouldBid_69 rfl ?_
      exact J.locals [1] (hK_20 _ _ hF) rfl
    · replace hF := hF.1 hc_26
      refine j_iconst (v := 1) C dX3_wouldBid_65 rfl ?_
      refine j_goto (tgt := 70) C dX3_wouldBid_66 (by decide) ?_
      exact J.locals [1] (hK_20 _ _ hF) rfl
theorem cal_myear : CalV yX3_year RX3 cX3_year 1 (some .int) 0 := ⟨q2105, q2106, q101, q2107, by decide +kernel⟩
def F_myear (S : MS) (P : Int32 → MS → Prop) : Prop := F_mbegins S (fun S_1 => F_mgoesBy S_1 (fun r_3 S_2 => F_mends S_2 r_3 0 (fun r_5 S_4 => P r_5 S_4)))
set_option maxHeartbeats 4000000 in
theorem M_myear (G : GT) (l : Launch) (hG : GOK G) (h : AH) (g : Nat → Nat) (hg : Mg G g) (S : MS) (P : Int32 → MS → Prop) (hF : F_myear S P) : MMi G l yX3_year cX3_year 1 .int 3 66 [.ref (g 0)] h g S P := by
  refine MT.mk (own := RX3) (by decide) rfl hG (Nat.le_of_ble_eq_true rfl) ?_
  intro p e s m below meth c args Q hargs hQ C _
  refine J.loca (L2 := [(0, .ref (g 0))]) rfl ?_
  unfold F_myear at hF
  refine j_aload_n C dX3_year_0 rfl 0 rfl ?_
  refine jm_callv (As := []) (rest := []) C (M_mbegins G l hG h g hg S _ hF) q1952 cal_mbegins rfl rfl (Nat.le_of_ble_eq_true rfl) ⟨Nat.le_of_ble_eq_true rfl, Nat.le_of_ble_eq_true rfl⟩ dX3_year_1 (fun S_1 hF => ?_)
  refine j_aload_n C dX3_year_4 rfl 0 rfl ?_
  refine j_aload_n C dX3_year_5 rfl 0 rfl ?_
  refine jm_calli (As := []) (rest := [.ref (g 0)]) C (M_mgoesBy G l hG h g hg S_1 _ hF) q2108 cal_mgoesBy rfl rfl (Nat.le_of_ble_eq_true rfl) ⟨Nat.le_of_ble_eq_true rfl, Nat.le_of_ble_eq_true rfl⟩ dX3_year_6 (fun r_3 S_2 hF => ?_)
  refine j_iconst (v := 0) C dX3_year_9 rfl ?_
  refine jm_calli (As := [.int r_3, .int 0]) (rest := []) C (M_mends G l hG h g hg S_2 r_3 0 _ hF) q1972 cal_mends rfl rfl (Nat.le_of_ble_eq_true rfl) ⟨Nat.le_of_ble_eq_true rfl, Nat.le_of_ble_eq_true rfl⟩ dX3_year_10 (fun r_5 S_4 hF => ?_)
  rw [hQ]
  exact j_iret C rfl ⟨_, _, rfl, rfl, hF⟩ dX3_year_13
