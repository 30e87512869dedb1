/-! Town.finds: the town read, two arrays written: 96 + j: by, 102 + j: seen -/
set_option maxRecDepth 100000
def Tg2 (ad : Nat → Nat) (ab az : Nat) : Prop := Tg ad ∧ (∀ k, k < 18 → ad k ≠ ab) ∧ (∀ k, k < 18 → ad k ≠ az) ∧ ab ≠ az
theorem Tg2.t {ad : Nat → Nat} {ab az : Nat} (h : Tg2 ad ab az) : Tg ad := h.1
def FH (dA : Nat → ClassId) (h : AH) (ad : Nat → Nat) (ab az : Nat) (T : TS) : AH := hup (hup h ab (.inl (dA 0, 6, .inl (cut6 fun j => T (96 + j))))) az (.inl (dA 3, 6, .inl (cut6 fun j => T (102 + j))))
abbrev FTH (dA : Nat → ClassId) (h : AH) (ad : Nat → Nat) (ab az : Nat) (T : TS) : AH := TH dA (FH dA h ad ab az T) ad T
theorem TH_hup {dA : Nat → ClassId} {h : AH} {ad : Nat → Nat} {T : TS} {a : Nat} {e : va_E} (ha : ∀ k, k < 18 → ad k ≠ a) : hup (TH dA h ad T) a e = TH dA (hup h a e) ad T := by
  funext b
  rcases TH_cases ad b with ⟨k, hk, rfl⟩ | hn
  · rw [hup_ne (ha k hk)]; unfold TH
    cases hf : (List.range 18).find? (fun j => ad j == ad k) with
    | some j => rfl
    | none =>
      have := List.find?_eq_none.mp hf k (List.mem_range.mpr hk)
      simp at this
  · rw [TH_out (h := hup h a e) hn]
    by_cases hb : b = a
    · subst hb; rw [hup_self, hup_self]
    · rw [hup_ne hb, hup_ne hb, TH_out hn]
theorem hup_comm {h : AH} {a b : Nat} {e1 e2 : va_E} (n : a ≠ b) : hup (hup h a e1) b e2 = hup (hup h b e2) a e1 := by
  funext x; unfold hup
  by_cases h1 : x = a
  · subst h1; rw [if_neg n, if_pos rfl, if_pos rfl]
  · by_cases h2 : x = b
    · subst h2; rw [if_pos rfl, if_neg (fun q => n q.symm), if_pos rfl]
    · rw [if_neg h2, if_neg h1, if_neg h1, if_neg h2]
section FF
variable {G : GT} {p : Program} {l : Launch} {e : Env} {R : Room} {s : State} {m : MethodId} {args : Array Value} {below : List Frame} {meth : Method} {c : Code} {nL : Nat} {Q : State → Prop} {bc bs : Nat} {h : AH} {pc : Nat} {L : List (Nat × Value)} {rest : List Value} {cc : ByteArray} {own : String} {ret : Option FieldType} {ad : Nat → Nat} {ab az : Nat} {T : TS}
theorem FTH_18 {dA : Nat → ClassId} (hg : Tg2 ad ab az) : FTH dA h ad ab az T ab = some (.inl (dA 0, 6, .inl (cut6 fun j => T (96 + j)))) := by
  show TH dA (FH dA h ad ab az T) ad T ab = _
  rw [TH_out hg.2.1]
  show hup _ _ _ _ = _
  rw [hup_ne hg.2.2.2, hup_self]
theorem FTH_19 {dA : Nat → ClassId} (hg : Tg2 ad ab az) : FTH dA h ad ab az T az = some (.inl (dA 3, 6, .inl (cut6 fun j => T (102 + j)))) := by
  show TH dA (FH dA h ad ab az T) ad T az = _
  rw [TH_out hg.2.2.1]
  exact hup_self
theorem TH_T {dA : Nat → ClassId} {T' : TS} (h1 : ∀ i, i < 96 → T' i = T i) : TH dA h ad T' = TH dA h ad T := by
  funext b
  unfold TH
  cases hf : (List.range 18).find? (fun k => ad k == b) with
  | none => rfl
  | some k =>
    have hk := List.mem_range.mp (List.mem_of_find?_eq_some hf)
    exact congrArg some (tcell_congr (fun _ => ⟨h1 _ (by omega), h1 _ (by omega), h1 _ (by omega), h1 _ (by omega), h1 _ (by omega)⟩) (fun _ j hj => h1 _ (by omega)) (fun _ j hj => h1 _ (by omega)) (fun _ j hj => h1 _ (by omega)) (fun _ j hj => h1 _ (by omega)))
theorem jfL18 (C : Cx G p s m args meth c cc own nL ret) (hg : Tg2 ad ab az) {i : Int32} (hin : vp_in i 6) (hdg : decode cc pc = .ok (.iaload, 1)) (kk : J G p l e R s m args below meth c nL Q bc bs (FTH G.2.2.1 h ad ab az T) (pc + 1) L (.int (T (96 + i.toNatClampNeg)) :: rest)) : J G p l e R s m args below meth c nL Q bc bs (FTH G.2.2.1 h ad ab az T) pc L (.int i :: .ref ab :: rest) := j_iald C (f := cut6 fun j => T (96 + j)) (FTH_18 hg) hin hdg (J.stack kk (by rw [cut6_at (in_lt6 hin)]))
theorem jfL19 (C : Cx G p s m args meth c cc own nL ret) (hg : Tg2 ad ab az) {i : Int32} (hin : vp_in i 6) (hdg : decode cc pc = .ok (.baload, 1)) (kk : J G p l e R s m args below meth c nL Q bc bs (FTH G.2.2.1 h ad ab az T) (pc + 1) L (.int (T (102 + i.toNatClampNeg)) :: rest)) : J G p l e R s m args below meth c nL Q bc bs (FTH G.2.2.1 h ad ab az T) pc L (.int i :: .ref az :: rest) := j_zald C (f := cut6 fun j => T (102 + j)) (FTH_19 hg) hin hdg (J.stack kk (by rw [cut6_at (in_lt6 hin)]))
theorem FTH_s18 {dA : Nat → ClassId} (hg : Tg2 ad ab az) {i : Nat} (hi : i < 6) {x : Int32} : hup (FTH dA h ad ab az T) ab (.inl (dA 0, 6, .inl (upd (cut6 fun j => T (96 + j)) i x))) = FTH dA h ad ab az (upd T (96 + i) x) := by
  show hup (TH dA (FH dA h ad ab az T) ad T) _ _ = TH dA (FH dA h ad ab az (upd T (96 + i) x)) ad (upd T (96 + i) x)
  rw [TH_hup hg.2.1, TH_T (T := T) (T' := upd T (96 + i) x) (fun j hj => pk_un (by omega))]
  congr 1
  unfold FH
  rw [hup_comm (fun q => hg.2.2.2 q.symm), hup_hup]
  rw [cut6_upd (g := fun j => upd T (96 + i) x (96 + j)) hi (fun j hj => by
    by_cases hji : j = i
    · subst hji; rw [pk_us, if_pos rfl]
    · rw [if_neg hji]; exact pk_un (by omega)), cut6_eq (f := fun j => T (102 + j)) (g := fun j => upd T (96 + i) x (102 + j)) (fun j hj => (pk_un (by omega)).symm)]
theorem FTH_s19 {dA : Nat → ClassId} (hg : Tg2 ad ab az) {i : Nat} (hi : i < 6) {x : Int32} : hup (FTH dA h ad ab az T) az (.inl (dA 3, 6, .inl (upd (cut6 fun j => T (102 + j)) i x))) = FTH dA h ad ab az (upd T (102 + i) x) := by
  show hup (TH dA (FH dA h ad ab az T) ad T) _ _ = TH dA (FH dA h ad ab az (upd T (102 + i) x)) ad (upd T (102 + i) x)
  rw [TH_hup hg.2.2.1, TH_T (T := T) (T' := upd T (102 + i) x) (fun j hj => pk_un (by omega))]
  congr 1
  unfold FH
  rw [hup_hup]
  rw [cut6_upd (g := fun j => upd T (102 + i) x (102 + j)) hi (fun j hj => by
    by_cases hji : j = i
    · subst hji; rw [pk_us, if_pos rfl]
    · rw [if_neg hji]; exact pk_un (by omega)), cut6_eq (f := fun j => T (96 + j)) (g := fun j => upd T (102 + i) x (96 + j)) (fun j hj => (pk_un (by omega)).symm)]
theorem jfS18 (C : Cx G p s m args meth c cc own nL ret) (hg : Tg2 ad ab az) (hm : FreeG G) {i x : Int32} (hin : vp_in i 6) (hdg : decode cc pc = .ok (.iastore, 1)) (kk : J G p l e R s m args below meth c nL Q bc bs (FTH G.2.2.1 h ad ab az (upd T (96 + i.toNatClampNeg) x)) (pc + 1) L rest) : J G p l e R s m args below meth c nL Q bc bs (FTH G.2.2.1 h ad ab az T) pc L (.int x :: .int i :: .ref ab :: rest) := j_iast C hm (f := cut6 fun j => T (96 + j)) (FTH_18 hg) hin hdg (J.heap kk (FTH_s18 hg (in_lt6 hin)))
theorem jfS19 (C : Cx G p s m args meth c cc own nL ret) (hg : Tg2 ad ab az) (hm : FreeG G) {i x : Int32} (hin : vp_in i 6) (hdg : decode cc pc = .ok (.bastore, 1)) (kk : J G p l e R s m args below meth c nL Q bc bs (FTH G.2.2.1 h ad ab az (upd T (102 + i.toNatClampNeg) (vp_nar .boolean x))) (pc + 1) L rest) : J G p l e R s m args below meth c nL Q bc bs (FTH G.2.2.1 h ad ab az T) pc L (.int x :: .int i :: .ref az :: rest) := j_zast C hm (f := cut6 fun j => T (102 + j)) (FTH_19 hg) hin hdg (J.heap kk (FTH_s19 hg (in_lt6 hin)))
theorem f_J {S' : TS} {st : List Value} (e1 : T = S') (k : J G p l e R s m args below meth c nL Q bc bs (FTH G.2.2.1 h ad ab az T) pc L st) : J G p l e R s m args below meth c nL Q bc bs (FTH G.2.2.1 h ad ab az S') pc L st := e1 ▸ k
def FMi (G : GT) (l : Launch) (y : MethodName) (cc : ByteArray) (nL : Nat) (ret : FieldType) (fr lo : Nat) (av : List Value) (h : AH) (ad : Nat → Nat) (ab az : Nat) (T : TS) (P : Int32 → TS → Prop) : Prop := MT G l y cc nL (some ret) fr lo 0 0 av (FTH G.2.2.1 h ad ab az T) (fun v h' => ∃ (r : Int32) (S' : TS), v = some (.int r) ∧ h' = FTH G.2.2.1 h ad ab az S' ∧ P r S')
theorem jf_calli (hg : Tg2 ad ab az) (C : Cx G p s m args meth c cc own nL ret) {y : MethodName} {cc' : ByteArray} {nL' fr lo n index : Nat} {As st : List Value} {ret' : FieldType} {P : Int32 → TS → Prop} (hM : FMi G l y cc' nL' ret' fr lo (.ref (ad 0) :: As) h ad ab az T P) (hq : Cond.methodLink own index y ∈ lw_all) (hy : CalV y RX2 cc' nL' (some ret') n) (hn : As.length = n) (hst : st = As.reverse ++ .ref (ad 0) :: rest) (hcat : (rest.map fun v => v.category).sum ≤ 8) (hR : fr + 1 ≤ R.frames ∧ 8 + (nL' + 11) + lo ≤ R.locals) (hdg : decode cc pc = .ok (.invokevirtual index, 3)) (kk : ∀ (r : Int32) (S' : TS), P r S' → J G p l e R s m args below meth c nL Q bc bs (FTH G.2.2.1 h ad ab az S') (pc + 3) L (.int r :: rest)) : J G p l e R s m args below meth c nL Q bc bs (FTH G.2.2.1 h ad ab az T) pc L st :=
  j_callV C hM hq hy (TH_at hg.t (k := 0) (by decide)) rfl hn hst hcat hR (Nat.zero_le _) (Nat.zero_le _) hdg (fun v h' hv => by obtain ⟨r, S1, rfl, rfl, hP⟩ := hv; exact kk r S1 hP)
end FF
theorem cal_ffinds : CalV yX2_finds RX2 cX2_finds 5 (some .boolean) 3 := ⟨q474, qs7, q94, q475, by decide +kernel⟩
def L_ffinds_3 (rec : TS → Int32 → (Int32 → TS → Prop) → Prop) (P : Int32 → TS → Prop) (f1 : Int32) : Nat → TS → Int32 → Prop
  | 0, _, _ => False
  | n + 1, T, z4 => ((T 1) ≤ z4 → P 0 T) ∧ (¬ (T 1) ≤ z4 → F_tcanBe T f1 z4 (fun r_3 T_2 => T_2 = T ∧ ((r_3 = 0 → L_ffinds_3 rec P f1 n T (z4 + 1)) ∧ (¬ r_3 = 0 → (vp_in z4 6) ∧ (((T (102 + Int32.toNatClampNeg (z4))) = 0 → (vp_in z4 6) ∧ (nm (upd T (102 + Int32.toNatClampNeg (z4)) (vp_nar .boolean 1)) (fun T_6 => (vp_in z4 6) ∧ (jn (α := TS → Prop) (fun T_8 => (vp_in z4 6) ∧ (nm (upd T_8 (96 + Int32.toNatClampNeg (z4)) f1) (fun T_9 => P 1 T_9))) (fun K_7 => ((T_6 (96 + Int32.toNatClampNeg (z4))) = (-1) → K_7 T_6) ∧ (¬ (T_6 (96 + Int32.toNatClampNeg (z4))) = (-1) → (vp_in z4 6) ∧ (rec T_6 (T_6 (96 + Int32.toNatClampNeg (z4))) (fun r_12 T_11 => (r_12 = 0 → L_ffinds_3 rec P f1 n T_11 (z4 + 1)) ∧ (¬ r_12 = 0 → K_7 T_11))))))))) ∧ (¬ (T (102 + Int32.toNatClampNeg (z4))) = 0 → L_ffinds_3 rec P f1 n T (z4 + 1)))))))
def F_ffinds : Nat → TS → Int32 → (Int32 → TS → Prop) → Prop
  | 0, _, _, _ => False
  | d + 1, T, x1, P => L_ffinds_3 (F_ffinds d)  P x1 NF T 0
set_option maxHeartbeats 4000000 in
theorem WL_ffinds_3 {G : GT} {p : Program} {l : Launch} {e : Env} {s : State} {m : MethodId} {args : Array Value} {below : List Frame} {meth : Method} {c : Code} {h : AH} {ad : Nat → Nat} {ab az : Nat} {d : Nat} {Q : State → Prop} (C : Cx G p s m args meth c cX2_finds RX2 5 (some .boolean)) (hG : GOK G) (hg : Tg2 ad ab az) (hm : FreeG G) {rec : TS → Int32 → (Int32 → TS → Prop) → Prop} (hrec : ∀ (S0 : TS) (x1 : Int32) (P0 : Int32 → TS → Prop), rec S0 x1 P0 → FMi G l yX2_finds cX2_finds 5 .boolean (1 + d) (22 + 24 * d) [.ref (ad 0), .int x1, .ref ab, .ref az] h ad ab az S0 P0) {P : Int32 → TS → Prop} (hQ : Q = MQ below (SQ G (fun v h' => ∃ (r : Int32) (S' : TS), v = some (.int r) ∧ h' = (FTH G.2.2.1 h ad ab az S') ∧ P r S')) args s (({ frames := 1 + (d + 1), cells := 0, slots := 0, locals := 22 + 24 * (d + 1) } : Room) : Room).cells (({ frames := 1 + (d + 1), cells := 0, slots := 0, locals := 22 + 24 * (d + 1) } : Room) : Room).slots (fun q => G.1 ≤ q)) {f1 : Int32} :
    ∀ (n : Nat) (T : TS) (z4 : Int32), L_ffinds_3 rec P f1 n T z4 → J G p l e ({ frames := 1 + (d + 1), cells := 0, slots := 0, locals := 22 + 24 * (d + 1) } : Room) s m args below meth c 5 Q 0 0 (FTH G.2.2.1 h ad ab az T) 3 [(0, .ref (ad 0)), (1, .int f1), (2, .ref ab), (3, .ref az), (4, .int z4)] [] := by
  intro n
  induction n with
  | zero => intro T z4 hF; exact hF.elim
  | succ n ih =>
    intro T z4 hF
    unfold L_ffinds_3 at hF
    refine j_iload C dX2_finds_3 4 rfl ?_
    refine j_aload_n C dX2_finds_5 rfl 0 rfl ?_
    refine jtG6 C hg.t dX2_finds_6 ?_
    refine j_icmp_ge (tgt := 68) C dX2_finds_9 (by decide) (fun hc_1 => ?_) (fun hc_1 => ?_)
    · replace hF := hF.1 hc_1
      refine j_iconst (v := 0) C dX2_finds_68 rfl ?_
      rw [hQ]
      exact j_iret C rfl ⟨_, _, rfl, rfl, hF⟩ dX2_finds_69
    · replace hF := hF.2 hc_1
      refine j_aload_n C dX2_finds_12 rfl 0 rfl ?_
      refine j_iload_n C dX2_finds_13 rfl 1 rfl ?_
      refine j_iload C dX2_finds_14 4 rfl ?_
      refine jt_calli hg.t (As := [.int f1, .int z4]) (rest := []) C (M_tcanBe G l hG (FH G.2.2.1 h ad ab az T) ad hg.t T f1 z4 _ hF) q441 cal_tcanBe rfl rfl (Nat.le_of_ble_eq_true rfl) ⟨by dsimp only; omega, by dsimp only; omega⟩ dX2_finds_16 (fun r_3 T_2 hF => ?_)
      obtain ⟨rfl, hF⟩ := hF
      refine j_if_eq (tgt := 62) C dX2_finds_19 (by decide) (fun hc_4 => ?_) (fun hc_4 => ?_)
      · replace hF := hF.1 hc_4
        refine j_iinc (q := 4) (v := z4 + 1) (L2 := [(4, .int (z4 + 1)), (0, .ref (ad 0)), (1, .int f1), (2, .ref ab), (3, .ref az)]) C dX2_finds_62 rfl rfl (by decide) rfl ?_
        refine j_goto (tgt := 3) C dX2_finds_65 (by decide) ?_
        exact J.locals [1, 2, 3, 4, 0] (ih _ _ hF) rfl
      · replace hF := hF.2 hc_4
        refine j_aload_n C dX2_finds_22 rfl 3 rfl ?_
        refine j_iload C dX2_finds_23 4 rfl ?_
        obtain ⟨hgd, hF⟩ := hF
        refine jfL19 C hg hgd dX2_finds_25 ?_
        refine j_if_ne (tgt := 62) C dX2_finds_26 (by decide) (fun hc_5 => ?_) (fun hc_5 => ?_)
        · replace hF := hF.2 hc_5
          refine j_iinc (q := 4) (v := z4 + 1) (L2 := [(4, .int (z4 + 1)), (0, .ref (ad 0)), (1, .int f1), (2, .ref ab), (3, .ref az)]) C dX2_finds_62 rfl rfl (by decide) rfl ?_
          refine j_goto (tgt := 3) C dX2_finds_65 (by decide) ?_
          exact J.locals [1, 2, 3, 4, 0] (ih _ _ hF) rfl
        · replace hF := hF.1 hc_5
          refine j_aload_n C dX2_finds_29 rfl 3 rfl ?_
          refine j_iload C dX2_finds_30 4 rfl ?_
          refine j_iconst (v := 1) C dX2_finds_32 rfl ?_
          obtain ⟨hgd, hF⟩ := hF
          refine jfS19 C hg hm hgd dX2_finds_33 ?_
          obtain ⟨T_6, eT_6, hF⟩ := nm_intro hF
          refine f_J eT_6 ?_
          refine j_aload_n C dX2_finds_34 rfl 2 rfl ?_
          refine j_iload C dX2_finds_35 4 rfl ?_
          obtain ⟨hgd, hF⟩ := hF
          refine jfL18 C hg hgd dX2_finds_37 ?_
          refine j_iconst (v := (-1)) C dX2_finds_38 rfl ?_
          obtain ⟨K_7, hK_7, hF⟩ := jn_intro (M := fun (K : TS → Prop) => ∀ (T_8 : TS), K T_8 → J G p l e ({ frames := 1 + (d + 1), cells := 0, slots := 0, locals := 22 + 24 * (d + 1) } : Room) s m args below meth c 5 Q 0 0 (FTH G.2.2.1 h ad ab az T_8) 55 [(1, .int f1), (2, .ref ab), (4, .int z4)] []) (hk := by
              intro T_8 hF
              refine j_aload_n C dX2_finds_55 rfl 1 rfl ?_
              refine j_iload C dX2_finds_56 2 rfl ?_
              refine j_iload_n C dX2_finds_58 rfl 0 rfl ?_
              obtain ⟨hgd, hF⟩ := hF
              refine jfS18 C hg hm hgd dX2_finds_59 ?_
              obtain ⟨T_9, eT_9, hF⟩ := nm_intro hF
              refine f_J eT_9 ?_
              refine j_iconst (v := 1) C dX2_finds_60 rfl ?_
              rw [hQ]
              exact j_iret C rfl ⟨_, _, rfl, rfl, hF⟩ dX2_finds_61) hF
          refine j_icmp_eq (tgt := 55) C dX2_finds_39 (by decide) (fun hc_10 => ?_) (fun hc_10 => ?_)
          · replace hF := hF.1 hc_10
            exact J.locals [1, 2, 4] (hK_7 _ hF) rfl
          · replace hF := hF.2 hc_10
            refine j_aload_n C dX2_finds_42 rfl 0 rfl ?_
            refine j_aload_n C dX2_finds_43 rfl 2 rfl ?_
            refine j_iload C dX2_finds_44 4 rfl ?_
            obtain ⟨hgd, hF⟩ := hF
            refine jfL18 C hg hgd dX2_finds_46 ?_
            refine j_aload_n C dX2_finds_47 rfl 2 rfl ?_
            refine j_aload_n C dX2_finds_48 rfl 3 rfl ?_
            refine jf_calli hg (As := [.int (T_6 (96 + Int32.toNatClampNeg (z4))), .ref ab, .ref az]) (rest := []) C (hrec T_6 (T_6 (96 + Int32.toNatClampNeg (z4))) _ hF) q472 cal_ffinds rfl rfl (Nat.le_of_ble_eq_true rfl) ⟨by dsimp only; omega, by dsimp only; omega⟩ dX2_finds_49 (fun r_12 T_11 hF => ?_)
            refine j_if_eq (tgt := 62) C dX2_finds_52 (by decide) (fun hc_13 => ?_) (fun hc_13 => ?_)
            · replace hF := hF.1 hc_13
              refine j_iinc (q := 4) (v := z4 + 1) (L2 := [(4, .int (z4 + 1)), (0, .ref (ad 0)), (1, .int f1), (2, .ref ab), (3, .ref az)]) C dX2_finds_62 rfl rfl (by decide) rfl ?_
              refine j_goto (tgt := 3) C dX2_finds_65 (by decide) ?_
              exact J.locals [1, 2, 3, 4, 0] (ih _ _ hF) rfl
            · replace hF := hF.2 hc_13
              exact J.locals [1, 2, 4] (hK_7 _ hF) rfl
set_option maxHeartbeats 4000000 in
theorem M_ffinds (G : GT) (l : Launch) (hG : GOK G) : ∀ (d : Nat) (h : AH) (ad : Nat → Nat) (ab az : Nat) (hg : Tg2 ad ab az) (hm : FreeG G) (T : TS) (x1 : Int32) (P : Int32 → TS → Prop) (hF : F_ffinds d T x1 P), FMi G l yX2_finds cX2_finds 5 .boolean (1 + d) (22 + 24 * d) [.ref (ad 0), .int x1, .ref ab, .ref az] h ad ab az T P := by
  intro d
  induction d with
  | zero => intro h ad ab az hg hm T x1 P hF; exact hF.elim
  | succ d ihd =>
    intro h ad ab az hg hm T x1 P hF
    have hrec : ∀ (S0 : TS) (x1 : Int32) (P0 : Int32 → TS → Prop), F_ffinds d S0 x1 P0 → FMi G l yX2_finds cX2_finds 5 .boolean (1 + d) (22 + 24 * d) [.ref (ad 0), .int x1, .ref ab, .ref az] h ad ab az S0 P0 := fun S0 x1 P0 h0 => ihd h ad ab az hg hm S0 x1 P0 h0
    refine MT.mk (own := RX2) (by decide) rfl hG (Nat.le_of_ble_eq_true rfl) ?_
    intro p e s m below meth c args Q hargs hQ C _
    refine J.loca (L2 := [(0, .ref (ad 0)), (1, .int x1), (2, .ref ab), (3, .ref az)]) rfl ?_
    unfold F_ffinds at hF
    refine j_iconst (v := 0) C dX2_finds_0 rfl ?_
    refine j_istore (L2 := [(4, .int 0), (0, .ref (ad 0)), (1, .int x1), (2, .ref ab), (3, .ref az)]) C dX2_finds_1 (by decide) rfl ?_
    refine J.locals [1, 2, 3, 4, 0] (WL_ffinds_3 C hG hg hm hrec hQ NF _ _ hF) rfl
