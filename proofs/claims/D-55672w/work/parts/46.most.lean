/-! Town.most: arrays made, finds for each apprentice -/
set_option maxRecDepth 100000
def clrS (T : TS) : TS := fun i => if 102 ≤ i ∧ i < 108 then 0 else T i
def clrB (T : TS) : TS := fun i => if 96 ≤ i ∧ i < 102 then 0 else T i
abbrev BTH (dA : Nat → ClassId) (h : AH) (ad : Nat → Nat) (ab : Nat) (T : TS) : AH := TH dA (hup h ab (.inl (dA 0, 6, .inl (cut6 fun j => T (96 + j))))) ad T
theorem TH_fresh {dA : Nat → ClassId} {h : AH} {ad : Nat → Nat} (hg : Tg ad) {T : TS} {q : Nat} (hq : TH dA h ad T q = none) : (∀ k, k < 18 → ad k ≠ q) ∧ h q = none := by
  have h1 : ∀ k, k < 18 → ad k ≠ q := fun k hk e => by
    subst e; rw [TH_at hg hk] at hq; cases hq
  exact ⟨h1, by rw [TH_out h1] at hq; exact hq⟩
def L_tmost_27 (P : Int32 → TS → Prop) : Nat → TS → Int32 → Int32 → Prop
  | 0, _, _, _ => False
  | n + 1, T, z2, z3 => (T 0 ≤ z3 → P z2 T) ∧ (¬ T 0 ≤ z3 → 1 ≤ n ∧ nm (clrS T) (fun T1 => F_ffinds 8 T1 z3 (fun r S => (r = 0 → L_tmost_27 P n S (z2 + 0) (z3 + 1)) ∧ (¬ r = 0 → L_tmost_27 P n S (z2 + 1) (z3 + 1)))))
def byN (T : TS) : TS := upd (upd (upd (upd (upd (upd (clrB T) (96 + Int32.toNatClampNeg 0) (-1)) (96 + Int32.toNatClampNeg (0 + 1)) (-1)) (96 + Int32.toNatClampNeg (0 + 1 + 1)) (-1)) (96 + Int32.toNatClampNeg (0 + 1 + 1 + 1)) (-1)) (96 + Int32.toNatClampNeg (0 + 1 + 1 + 1 + 1)) (-1)) (96 + Int32.toNatClampNeg (0 + 1 + 1 + 1 + 1 + 1)) (-1)
def F_tmost (T : TS) (P : Int32 → TS → Prop) : Prop := nm (byN T) (fun T1 => L_tmost_27 P 7 T1 0 0)
theorem cal_tmost : CalV yX2_most RX2 cX2_most 4 (some .int) 0 := ⟨q469, q470, q94, q471, by decide +kernel⟩
section MO
variable {G : GT} {p : Program} {l : Launch} {e : Env} {R : Room} {s : State} {m : MethodId} {args : Array Value} {below : List Frame} {meth : Method} {c : Code} {Q : State → Prop} {bc bs : Nat} {h : AH} {ad : Nat → Nat} {T : TS} {ab : Nat}
theorem BTH_ab {dA : Nat → ClassId} (hb : ∀ k, k < 18 → ad k ≠ ab) : BTH dA h ad ab T ab = some (.inl (dA 0, 6, .inl (cut6 fun j => T (96 + j)))) := by
  show TH dA _ ad T ab = _
  rw [TH_out hb]; exact hup_self
theorem BTH_set {dA : Nat → ClassId} (hb : ∀ k, k < 18 → ad k ≠ ab) {i : Nat} (hi : i < 6) {x : Int32} : hup (BTH dA h ad ab T) ab (.inl (dA 0, 6, .inl (upd (cut6 fun j => T (96 + j)) i x))) = BTH dA h ad ab (upd T (96 + i) x) := by
  show hup (TH dA _ ad T) _ _ = TH dA _ ad (upd T (96 + i) x)
  rw [TH_hup hb, TH_T (T := T) (T' := upd T (96 + i) x) (fun j hj => pk_un (by omega)), hup_hup]
  rw [cut6_upd (g := fun j => upd T (96 + i) x (96 + j)) hi (fun j hj => by
    by_cases hji : j = i
    · subst hji; rw [pk_us, if_pos rfl]
    · rw [if_neg hji]; exact pk_un (by omega))]
theorem most_step (C : Cx G p s m args meth c cX2_most RX2 4 (some .int)) (hm : FreeG G) (hb : ∀ k, k < 18 → ad k ≠ ab) {z : Int32} (hz : ¬ (6 : Int32) ≤ z) (hin : vp_in z 6) (kk : J G p l e R s m args below meth c 4 Q bc bs (BTH G.2.2.1 h ad ab (upd T (96 + z.toNatClampNeg) (-1))) 7 [(0, .ref (ad 0)), (1, .ref ab), (2, .int (z + 1))] []) : J G p l e R s m args below meth c 4 Q bc bs (BTH G.2.2.1 h ad ab T) 7 [(0, .ref (ad 0)), (1, .ref ab), (2, .int z)] [] := by
  refine j_iload_n C dX2_most_7 rfl 2 rfl ?_
  refine j_bipush (v := 6) C dX2_most_8 rfl ?_
  refine j_icmp_ge (tgt := 23) C dX2_most_10 (by decide) (fun hc => absurd hc hz) (fun _ => ?_)
  refine j_aload_n C dX2_most_13 rfl 1 rfl ?_
  refine j_iload_n C dX2_most_14 rfl 2 rfl ?_
  refine j_iconst (v := -1) C dX2_most_15 rfl ?_
  refine j_iast C hm (f := cut6 fun j => T (96 + j)) (BTH_ab hb) hin dX2_most_16 (J.heap ?_ (BTH_set hb (in_lt6 hin)))
  refine j_iinc (q := 2) (v := z + 1) (L2 := [(2, .int (z + 1)), (0, .ref (ad 0)), (1, .ref ab)]) C dX2_most_17 rfl rfl (by decide) rfl ?_
  refine j_goto (tgt := 7) C dX2_most_20 (by decide) ?_
  exact J.locals [1, 2, 0] kk rfl
set_option maxHeartbeats 4000000 in
theorem most_loop (C : Cx G p s m args meth c cX2_most RX2 4 (some .int)) (hG : GOK G) (hm : FreeG G) (hg : Tg ad) (hb : ∀ k, k < 18 → ad k ≠ ab) {P : Int32 → TS → Prop} (hQ : Q = MQ below (SQ G (fun v h' => ∃ (r : Int32) (S' : TS), v = some (.int r) ∧ h' = TH G.2.2.1 h ad S' ∧ P r S')) args s 8 48 (fun q => G.1 ≤ q)) (hh : h ab = none) :
    ∀ (n : Nat) (T : TS) (z2 z3 : Int32), L_tmost_27 P n T z2 z3 → J G p l e ({ frames := 11, cells := 8, slots := 48, locals := 300 } : Room) s m args below meth c 4 Q n (6 * n) (BTH G.2.2.1 h ad ab T) 27 [(0, .ref (ad 0)), (1, .ref ab), (2, .int z2), (3, .int z3)] [] := by
  intro n
  induction n with
  | zero => intro T z2 z3 hF; exact hF.elim
  | succ n ih =>
    intro T z2 z3 hF
    unfold L_tmost_27 at hF
    refine j_iload_n C dX2_most_27 rfl 3 rfl ?_
    refine j_aload_n C dX2_most_28 rfl 0 rfl ?_
    refine jtG5 C hg dX2_most_29 ?_
    refine j_icmp_ge (tgt := 62) C dX2_most_32 (by decide) (fun hc => ?_) (fun hc => ?_)
    · replace hF := hF.1 hc
      refine j_iload_n C dX2_most_62 rfl 2 rfl ?_
      refine J.weaken (h' := TH G.2.2.1 h ad T) (bc' := 0) (bs' := 0) ?_ (fun a e he => ?_) (Nat.zero_le _) (Nat.zero_le _)
      · rw [hQ]
        exact j_iret C rfl ⟨_, _, rfl, rfl, hF⟩ dX2_most_63
      · rcases TH_cases ad a with ⟨k, hk, rfl⟩ | hn
        · rw [TH_at hg hk] at he
          show TH _ _ ad T (ad k) = some e
          rw [TH_at hg hk]; exact he
        · rw [TH_out hn] at he
          show TH _ _ ad T a = some e
          rw [TH_out hn]
          by_cases hab : a = ab
          · subst hab; rw [hh] at he; cases he
          · rw [hup_ne hab]; exact he
    · obtain ⟨hn1, hF⟩ := hF.2 hc
      refine j_iload_n C dX2_most_35 rfl 2 rfl ?_
      refine j_aload_n C dX2_most_36 rfl 0 rfl ?_
      refine j_iload_n C dX2_most_37 rfl 3 rfl ?_
      refine j_aload_n C dX2_most_38 rfl 1 rfl ?_
      refine j_bipush (v := 6) C dX2_most_39 rfl ?_
      refine j_newa (atype := .boolean) (ty := .boolean) C hm (di := 3) (N' := 6) rfl (fun _ h => by cases h) (fun _ => rfl) q561 (6, .inl (fun _ => 0)) (fun _ => rfl) (by decide) (by decide) (by decide) (bc' := n) (bs' := 6 * n) (by omega) (by omega) dX2_most_41 (fun qz hqz hz => ?_)
      obtain ⟨f1, f2⟩ := TH_fresh hg hqz
      have hne : ab ≠ qz := fun q => by subst q; rw [hup_self] at f2; cases f2
      have hqn : h qz = none := by rw [hup_ne (fun q => hne q.symm)] at f2; exact f2
      have hg2 : Tg2 ad ab qz := ⟨hg, hb, f1, hne⟩
      obtain ⟨T1, eT1, hF⟩ := nm_intro hF
      refine J.heap (h' := FTH G.2.2.1 h ad ab qz T1) ?_ ?_
      · refine jf_calli hg2 (As := [.int z3, .ref ab, .ref qz]) (rest := [.int z2]) C (M_ffinds G l hG 8 h ad ab qz hg2 hm T1 z3 _ hF) q472 cal_ffinds rfl rfl (Nat.le_of_ble_eq_true rfl) ⟨Nat.le_of_ble_eq_true rfl, Nat.le_of_ble_eq_true rfl⟩ dX2_most_43 (fun r S hF => ?_)
        have drop : ∀ (a : Nat) (e : va_E), BTH G.2.2.1 h ad ab S a = some e → FTH G.2.2.1 h ad ab qz S a = some e := by
          intro a e he
          rcases TH_cases ad a with ⟨k, hk, rfl⟩ | hn
          · replace he : TH _ _ ad S (ad k) = some e := he
            show TH _ _ ad S (ad k) = some e
            rw [TH_at hg hk] at he
            rw [TH_at hg hk]; exact he
          · replace he : TH _ _ ad S a = some e := he
            show TH _ _ ad S a = some e
            rw [TH_out hn] at he
            rw [TH_out hn]
            by_cases haz : a = qz
            · subst haz; rw [hup_ne (fun q => hne q.symm), hqn] at he; cases he
            · show hup _ _ _ a = _
              rw [hup_ne haz]; exact he
        refine j_if_eq (tgt := 53) C dX2_most_46 (by decide) (fun hc2 => ?_) (fun hc2 => ?_)
        · replace hF := hF.1 hc2
          refine j_iconst (v := 0) C dX2_most_53 rfl ?_
          refine j_iadd C dX2_most_54 ?_
          refine j_istore_n (L2 := [(2, .int (z2 + 0)), (0, .ref (ad 0)), (1, .ref ab), (3, .int z3)]) C dX2_most_55 rfl (by decide) rfl ?_
          refine j_iinc (q := 3) (v := z3 + 1) (L2 := [(3, .int (z3 + 1)), (2, .int (z2 + 0)), (0, .ref (ad 0)), (1, .ref ab)]) C dX2_most_56 rfl rfl (by decide) rfl ?_
          refine j_goto (tgt := 27) C dX2_most_59 (by decide) ?_
          exact J.weaken (J.locals [2, 3, 1, 0] (ih _ _ _ hF) rfl) drop (Nat.le_refl _) (Nat.le_refl _)
        · replace hF := hF.2 hc2
          refine j_iconst (v := 1) C dX2_most_49 rfl ?_
          refine j_goto (tgt := 54) C dX2_most_50 (by decide) ?_
          refine j_iadd C dX2_most_54 ?_
          refine j_istore_n (L2 := [(2, .int (z2 + 1)), (0, .ref (ad 0)), (1, .ref ab), (3, .int z3)]) C dX2_most_55 rfl (by decide) rfl ?_
          refine j_iinc (q := 3) (v := z3 + 1) (L2 := [(3, .int (z3 + 1)), (2, .int (z2 + 1)), (0, .ref (ad 0)), (1, .ref ab)]) C dX2_most_56 rfl rfl (by decide) rfl ?_
          refine j_goto (tgt := 27) C dX2_most_59 (by decide) ?_
          exact J.weaken (J.locals [2, 3, 1, 0] (ih _ _ _ hF) rfl) drop (Nat.le_refl _) (Nat.le_refl _)
      · subst eT1
        show hup (TH _ _ _ _) _ _ = TH _ (FH _ _ _ _ _ _) _ _
        rw [TH_hup f1, TH_T (T := T) (T' := clrS T) (fun j hj => by unfold clrS; rw [if_neg (by omega)])]
        unfold FH
        rw [show (fun _ => 0 : Nat → Int32) = cut6 (fun j => clrS T (102 + j)) from funext fun j => by
          unfold cut6 clrS
          by_cases hj : j < 6
          · rw [if_pos hj]; show 0 = ite _ _ _; rw [if_pos (by omega)]
          · rw [if_neg hj], cut6_eq (f := fun j => T (96 + j)) (g := fun j => clrS T (96 + j)) (fun j hj => by show _ = clrS T _; unfold clrS; rw [if_neg (by omega)])]
set_option maxHeartbeats 4000000 in
theorem M_tmost (G : GT) (l : Launch) (hG : GOK G) (hm : FreeG G) (h : AH) (ad : Nat → Nat) (hg : Tg ad) (T : TS) (P : Int32 → TS → Prop) (hF : F_tmost T P) : TMiA G l yX2_most cX2_most 4 .int 11 300 8 48 [.ref (ad 0)] h ad T P := by
  refine MT.mk (own := RX2) (by decide) rfl hG (Nat.le_of_ble_eq_true rfl) ?_
  intro p e s m below meth c args Q hargs hQ C _
  refine J.loca (L2 := [(0, .ref (ad 0))]) rfl ?_
  unfold F_tmost at hF
  refine j_bipush (v := 6) C dX2_most_0 rfl ?_
  refine j_newa (atype := .int) (ty := .int) C hm (di := 0) (N' := 6) rfl (fun _ h => by cases h) (fun _ => rfl) q199 (6, .inl (fun _ => 0)) (fun _ => rfl) (by decide) (by decide) (by decide) (bc' := 7) (bs' := 42) (by omega) (by omega) dX2_most_2 (fun ab hqb hb => ?_)
  obtain ⟨f1, f2⟩ := TH_fresh hg hqb
  refine J.heap (h' := BTH G.2.2.1 h ad ab (clrB T)) ?_ ?_
  · refine j_astore_n (L2 := [(1, .ref ab), (0, .ref (ad 0))]) C dX2_most_4 rfl (by decide) rfl ?_
    refine j_iconst (v := 0) C dX2_most_5 rfl ?_
    refine j_istore_n (L2 := [(2, .int 0), (1, .ref ab), (0, .ref (ad 0))]) C dX2_most_6 rfl (by decide) rfl ?_
    refine J.locals (L' := [(0, .ref (ad 0)), (1, .ref ab), (2, .int 0)]) [2, 1, 0] ?_ rfl
    refine most_step C hm f1 (by decide) (by unfold vp_in; decide) ?_
    refine most_step C hm f1 (by decide) (by unfold vp_in; decide) ?_
    refine most_step C hm f1 (by decide) (by unfold vp_in; decide) ?_
    refine most_step C hm f1 (by decide) (by unfold vp_in; decide) ?_
    refine most_step C hm f1 (by decide) (by unfold vp_in; decide) ?_
    refine most_step C hm f1 (by decide) (by unfold vp_in; decide) ?_
    refine j_iload_n C dX2_most_7 rfl 2 rfl ?_
    refine j_bipush (v := 6) C dX2_most_8 rfl ?_
    refine j_icmp_ge (tgt := 23) C dX2_most_10 (by decide) (fun _ => ?_) (fun hc => absurd (by decide) hc)
    refine j_iconst (v := 0) C dX2_most_23 rfl ?_
    refine j_istore_n (L2 := [(2, .int 0), (0, .ref (ad 0)), (1, .ref ab)]) C dX2_most_24 rfl (by decide) rfl ?_
    refine j_iconst (v := 0) C dX2_most_25 rfl ?_
    refine j_istore_n (L2 := [(3, .int 0), (2, .int 0), (0, .ref (ad 0)), (1, .ref ab)]) C dX2_most_26 rfl (by decide) rfl ?_
    exact J.locals [2, 3, 1, 0] (most_loop C hG hm hg f1 hQ f2 7 _ _ _ hF) rfl
  · show hup (TH _ _ _ _) _ _ = TH _ (hup _ _ _) _ _
    rw [TH_hup f1, TH_T (T := T) (T' := clrB T) (fun j hj => by unfold clrB; rw [if_neg (by omega)])]
    rw [show (fun _ => 0 : Nat → Int32) = cut6 (fun j => clrB T (96 + j)) from funext fun j => by
      unfold cut6 clrB
      by_cases hj : j < 6
      · rw [if_pos hj]; show 0 = ite _ _ _; rw [if_pos (by omega)]
      · rw [if_neg hj]]
end MO
