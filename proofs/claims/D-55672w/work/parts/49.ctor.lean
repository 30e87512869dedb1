/-! A NEW TOWN: its constructors -/
set_option maxRecDepth 100000
def va_E_outer (dA : Nat → ClassId) (r : Nat → Option Nat) : va_E := .inl (dA 6, 6, .inr (.inr (.inr (.inr r))))
theorem hup_none {h : AH} {b x : Nat} {e : va_E} (hx : hup h b e x = none) : x ≠ b ∧ h x = none := by
  by_cases hb : x = b
  · subst hb; rw [hup_self] at hx; cases hx
  · rw [hup_ne hb] at hx; exact ⟨hb, hx⟩
theorem mulH_none {dA : Nat → ClassId} {h : AH} {q : Nat} {r : Nat → Option Nat} {x : Nat} (hx : mulH dA h q r x = none) : (x < q ∨ q + 7 ≤ x) ∧ h x = none := by
  unfold mulH at hx
  obtain ⟨n6, hx⟩ := hup_none hx
  obtain ⟨n5, hx⟩ := hup_none hx
  obtain ⟨n4, hx⟩ := hup_none hx
  obtain ⟨n3, hx⟩ := hup_none hx
  obtain ⟨n2, hx⟩ := hup_none hx
  obtain ⟨n1, hx⟩ := hup_none hx
  obtain ⟨n0, hx⟩ := hup_none hx
  exact ⟨by omega, hx⟩
theorem hup_congr {h h' : AH} {a b : Nat} {e : va_E} (k : h b = h' b) : hup h a e b = hup h' a e b := by
  by_cases hb : b = a
  · subst hb; rw [hup_self, hup_self]
  · rw [hup_ne hb, hup_ne hb]; exact k
def adf (a q1 q2 q3 q4 q5 : Nat) : Nat → Nat := fun k => if k = 0 then a else if k = 1 then q1 else if k = 2 then q2 else if k = 3 then q3 else if k = 4 then q4 else if k = 5 then q5 else if k < 12 then q1 + 1 + (k - 6) else q2 + 1 + (k - 12)
def T0z : TS := fun _ => 0
def tfz : List Value := [.null, .null, .null, .null, .null, .int 0, .int 0, .int 0, .int 0, .int 0]
def Apart (a q1 q2 q3 q4 q5 : Nat) : Prop := (a < q1 ∨ q1 + 7 ≤ a) ∧ (a < q2 ∨ q2 + 7 ≤ a) ∧ (q2 + 7 ≤ q1 ∨ q1 + 7 ≤ q2) ∧ (q3 < q1 ∨ q1 + 7 ≤ q3) ∧ (q3 < q2 ∨ q2 + 7 ≤ q3) ∧ (q4 < q1 ∨ q1 + 7 ≤ q4) ∧ (q4 < q2 ∨ q2 + 7 ≤ q4) ∧ (q5 < q1 ∨ q1 + 7 ≤ q5) ∧ (q5 < q2 ∨ q2 + 7 ≤ q5) ∧ a ≠ q3 ∧ a ≠ q4 ∧ a ≠ q5 ∧ q3 ≠ q4 ∧ q3 ≠ q5 ∧ q4 ≠ q5
theorem adf_g {a q1 q2 q3 q4 q5 : Nat} (hA : Apart a q1 q2 q3 q4 q5) : Tg (adf a q1 q2 q3 q4 q5) := by
  obtain ⟨h1, h2, h3, h4, h5, h6, h7, h8, h9, h10, h11, h12, h13, h14, h15⟩ := hA
  intro i j hi hj e
  unfold adf at e
  (repeat' split at e) <;> omega
def ctorH (dA : Nat → ClassId) (h : AH) (a q1 q2 q3 q4 q5 : Nat) (r1 r2 : Nat → Option Nat) : AH :=
  hup (hup (hup (hup (hup (hup (hup (mulH dA (hup (mulH dA h q1 r1) a (.inr (1, tfz.set 0 (.ref q1)))) q2 r2) a (.inr (1, (tfz.set 0 (.ref q1)).set 1 (.ref q2)))) q3 (Z6 dA)) a (.inr (1, ((tfz.set 0 (.ref q1)).set 1 (.ref q2)).set 2 (.ref q3)))) q4 (Z6 dA)) a (.inr (1, (((tfz.set 0 (.ref q1)).set 1 (.ref q2)).set 2 (.ref q3)).set 3 (.ref q4)))) q5 (Z6 dA)) a (.inr (1, ((((tfz.set 0 (.ref q1)).set 1 (.ref q2)).set 2 (.ref q3)).set 3 (.ref q4)).set 4 (.ref q5)))
theorem mulH_r {dA : Nat → ClassId} {h : AH} {q : Nat} {r r' : Nat → Option Nat} {x : Nat} (hx : x ≠ q) : mulH dA h q r x = mulH dA h q r' x := by
  unfold mulH
  exact hup_congr (hup_congr (hup_congr (hup_congr (hup_congr (hup_congr (by rw [hup_ne hx, hup_ne hx]))))))
theorem mulH_out {dA : Nat → ClassId} {h : AH} {q : Nat} {r : Nat → Option Nat} {x : Nat} (hx : x < q ∨ q + 7 ≤ x) : mulH dA h q r x = h x := by
  unfold mulH
  rw [hup_ne (by omega), hup_ne (by omega), hup_ne (by omega), hup_ne (by omega), hup_ne (by omega), hup_ne (by omega), hup_ne (by omega)]
theorem mulH_q {dA : Nat → ClassId} {h : AH} {q : Nat} {r : Nat → Option Nat} : mulH dA h q r q = some (va_E_outer dA r) := by
  unfold mulH
  rw [hup_ne (by omega), hup_ne (by omega), hup_ne (by omega), hup_ne (by omega), hup_ne (by omega), hup_ne (by omega), hup_self]
  rfl
theorem mulH_row {dA : Nat → ClassId} {h : AH} {q j : Nat} {r : Nat → Option Nat} (hj : j < 6) : mulH dA h q r (q + 1 + j) = some (Z6 dA) := by
  unfold mulH
  rcases (show j = 0 ∨ j = 1 ∨ j = 2 ∨ j = 3 ∨ j = 4 ∨ j = 5 by omega) with rfl | rfl | rfl | rfl | rfl | rfl
  · rw [hup_ne (by omega), hup_ne (by omega), hup_ne (by omega), hup_ne (by omega), hup_ne (by omega), hup_self]
  · rw [hup_ne (by omega), hup_ne (by omega), hup_ne (by omega), hup_ne (by omega), hup_self]
  · rw [hup_ne (by omega), hup_ne (by omega), hup_ne (by omega), hup_self]
  · rw [hup_ne (by omega), hup_ne (by omega), hup_self]
  · rw [hup_ne (by omega), hup_self]
  · rw [hup_self]
theorem ne_row {q x j : Nat} (h : x < q ∨ q + 7 ≤ x) (hj : j < 6) : q + 1 + j ≠ x := by omega
theorem ne_q {q x : Nat} (h : x < q ∨ q + 7 ≤ x) : q ≠ x := by omega
theorem row_out {q1 q2 j : Nat} (h : q2 + 7 ≤ q1 ∨ q1 + 7 ≤ q2) (hj : j < 6) : q1 + 1 + j < q2 ∨ q2 + 7 ≤ q1 + 1 + j := by omega
theorem row_ne2 {q1 q2 j : Nat} (h : q2 + 7 ≤ q1 ∨ q1 + 7 ≤ q2) (hj : j < 6) : q2 + 1 + j ≠ q1 := by omega
theorem q_ne2 {q1 q2 : Nat} (h : q2 + 7 ≤ q1 ∨ q1 + 7 ≤ q2) : q2 ≠ q1 := by omega
theorem q_out {q1 q2 : Nat} (h : q2 + 7 ≤ q1 ∨ q1 + 7 ≤ q2) : q1 < q2 ∨ q2 + 7 ≤ q1 := by omega
theorem adf_c {a q1 q2 q3 q4 q5 j : Nat} (hj : j < 6) : adf a q1 q2 q3 q4 q5 (6 + j) = q1 + 1 + j := by
  unfold adf; rw [if_neg (by omega), if_neg (by omega), if_neg (by omega), if_neg (by omega), if_neg (by omega), if_neg (by omega), if_pos (by omega), show 6 + j - 6 = j by omega]
theorem adf_s {a q1 q2 q3 q4 q5 j : Nat} : adf a q1 q2 q3 q4 q5 (12 + j) = q2 + 1 + j := by
  unfold adf; rw [if_neg (by omega), if_neg (by omega), if_neg (by omega), if_neg (by omega), if_neg (by omega), if_neg (by omega), if_neg (by omega), show 12 + j - 12 = j by omega]
theorem blk_out {q x : Nat} (h0 : q ≠ x) (h : ∀ j, j < 6 → q + 1 + j ≠ x) : x < q ∨ q + 7 ≤ x := by
  rcases Nat.lt_or_ge x q with g | g
  · exact Or.inl g
  · refine Or.inr (Nat.le_of_not_lt fun g2 => ?_)
    exact h (x - q - 1) (by omega) (by omega)
theorem ctor_TH {dA : Nat → ClassId} {h : AH} {a q1 q2 q3 q4 q5 : Nat} {r1 : Nat → Option Nat} (hA : Apart a q1 q2 q3 q4 q5) : hup (ctorH dA h a q1 q2 q3 q4 q5 r1 (fun i => some (q2 + 1 + i))) q1 (.inl (dA 6, 6, .inr (.inr (.inr (.inr fun i => some (adf a q1 q2 q3 q4 q5 (6 + i))))))) = TH dA h (adf a q1 q2 q3 q4 q5) T0z := by
  have hg := adf_g hA
  obtain ⟨h1, h2, h3, h4, h5, h6, h7, h8, h9, h10, h11, h12, h13, h14, h15⟩ := hA
  funext b
  rcases TH_cases (adf a q1 q2 q3 q4 q5) b with ⟨k, hk, rfl⟩ | hn
  · rw [TH_at hg hk]
    unfold ctorH
    rcases (show k = 0 ∨ k = 1 ∨ k = 2 ∨ k = 3 ∨ k = 4 ∨ k = 5 ∨ (6 ≤ k ∧ k < 12) ∨ 12 ≤ k by omega) with rfl | rfl | rfl | rfl | rfl | rfl | hk6 | hk12
    · show hup _ _ _ a = _
      rw [hup_ne (ne_q h1).symm, hup_self]; rfl
    · show hup _ _ _ q1 = _
      rw [hup_self]; rfl
    · show hup _ _ _ q2 = _
      rw [hup_ne (q_ne2 h3), hup_ne (ne_q h2), hup_ne (ne_q h9), hup_ne (ne_q h2), hup_ne (ne_q h7), hup_ne (ne_q h2), hup_ne (ne_q h5), hup_ne (ne_q h2), mulH_q]
      show some (va_E_outer dA _) = some (va_E_outer dA (fun i => some (adf a q1 q2 q3 q4 q5 (12 + i))))
      exact congrArg (fun r => some (va_E_outer dA r)) (funext fun i => by rw [adf_s])
    · show hup _ _ _ q3 = _
      rw [hup_ne (ne_q h4).symm, hup_ne h10.symm, hup_ne h14, hup_ne h10.symm, hup_ne h13, hup_ne h10.symm, hup_self]; rfl
    · show hup _ _ _ q4 = _
      rw [hup_ne (ne_q h6).symm, hup_ne h11.symm, hup_ne h15, hup_ne h11.symm, hup_self]; rfl
    · show hup _ _ _ q5 = _
      rw [hup_ne (ne_q h8).symm, hup_ne h12.symm, hup_self]; rfl
    · obtain ⟨j, rfl⟩ : ∃ j, k = 6 + j := ⟨k - 6, by omega⟩
      have hj : j < 6 := by omega
      rw [adf_c hj, hup_ne (by omega), hup_ne (ne_row h1 hj), hup_ne (ne_row h8 hj), hup_ne (ne_row h1 hj), hup_ne (ne_row h6 hj), hup_ne (ne_row h1 hj), hup_ne (ne_row h4 hj), hup_ne (ne_row h1 hj), mulH_out (row_out h3 hj), hup_ne (ne_row h1 hj), mulH_row hj, tcell_c]; rfl
    · obtain ⟨j, rfl⟩ : ∃ j, k = 12 + j := ⟨k - 12, by omega⟩
      have hj : j < 6 := by omega
      rw [adf_s, hup_ne (row_ne2 h3 hj), hup_ne (ne_row h2 hj), hup_ne (ne_row h9 hj), hup_ne (ne_row h2 hj), hup_ne (ne_row h7 hj), hup_ne (ne_row h2 hj), hup_ne (ne_row h5 hj), hup_ne (ne_row h2 hj), mulH_row hj, tcell_s]; rfl
  · rw [TH_out hn]
    unfold ctorH
    have e0 : b ≠ a := fun e => hn 0 (by decide) e.symm
    have e1 : b ≠ q1 := fun e => hn 1 (by decide) e.symm
    have o1 : b < q1 ∨ q1 + 7 ≤ b := blk_out (fun e => e1 e.symm) (fun j hj e => hn (6 + j) (by omega) (by rw [adf_c hj]; exact e))
    have o2 : b < q2 ∨ q2 + 7 ≤ b := blk_out (fun e => hn 2 (by decide) e) (fun j hj e => hn (12 + j) (by omega) (by rw [adf_s]; exact e))
    have e3 : b ≠ q3 := fun e => hn 3 (by decide) e.symm
    have e4 : b ≠ q4 := fun e => hn 4 (by decide) e.symm
    have e5 : b ≠ q5 := fun e => hn 5 (by decide) e.symm
    rw [hup_ne e1, hup_ne e0, hup_ne e5, hup_ne e0, hup_ne e4, hup_ne e0, hup_ne e3, hup_ne e0, mulH_out o2, hup_ne e0, mulH_out o1]
theorem outer_same {cA : ClassId} {r r' : Nat → Option Nat} (hr : ∀ i, i < 6 → r i = r' i) : vp_cell cA (6, .inr (.inr (.inr (.inr r)))) = vp_cell cA (6, .inr (.inr (.inr (.inr r')))) := by
  show arrV cA 6 (fun j => va_rf (r j)) = arrV cA 6 (fun j => va_rf (r' j))
  unfold arrV
  congr 1
  apply Array.ext (by simp)
  intro i h1 h2
  simp only [Array.getElem_ofFn]
  rw [hr i (by simpa using h1)]
def TNew (G : GT) (h : AH) (a : Nat) (P : TS → Prop) : Option Value → AH → Prop := fun v h' => v = none ∧ ∃ (ad : Nat → Nat) (T : TS), ad 0 = a ∧ Tg ad ∧ (∀ k, k < 18 → k ≠ 0 → h (ad k) = none ∧ G.1 ≤ ad k) ∧ h' = TH G.2.2.1 h ad T ∧ P T
def L_tinit_69 (K91 : TS → Prop) (P : TS → Prop) (f1 : Int32) : Nat → TS → Int32 → Prop
  | 0, _, _ => False
  | n + 1, T, z2 => (6 ≤ z2 → K91 T) ∧ (¬ 6 ≤ z2 → (vp_in f1 6) ∧ ((vp_in z2 6) ∧ (nm (upd T (6 + 6 * Int32.toNatClampNeg (f1) + Int32.toNatClampNeg (z2)) 30) (fun T_4 => L_tinit_69 K91 P f1 n T_4 (z2 + 1)))))
def L_tinit_54 (P : TS → Prop) : Nat → TS → Int32 → Prop
  | 0, _, _ => False
  | n + 1, T, z1 => (6 ≤ z1 → P T) ∧ (¬ 6 ≤ z1 → (vp_in z1 6) ∧ (nm (upd T (84 + Int32.toNatClampNeg (z1)) (-1)) (fun T_2 => L_tinit_69 (fun T_5 => L_tinit_54 P n T_5 (z1 + 1)) P z1 NF T_2 0)))
def F_tinit (P : TS → Prop) : Prop := L_tinit_54  P NF T0z 0
set_option maxHeartbeats 4000000 in
theorem WL_tinit_69 {G : GT} {p : Program} {l : Launch} {e : Env} {s : State} {m : MethodId} {args : Array Value} {below : List Frame} {meth : Method} {c : Code} {h : AH} {ad : Nat → Nat} {Q : State → Prop} (C : Cx G p s m args meth c cX2_init RX2 3 none) (hG : GOK G) (hg : Tg ad) (hm : FreeG G) {P : TS → Prop} {a : Nat} (had : ad 0 = a) (hfr : ∀ k, k < 18 → k ≠ 0 → h (ad k) = none ∧ G.1 ≤ ad k) (hQ : Q = MQ below (SQ G (TNew G h a P)) args s 17 102 (fun q => G.1 ≤ q)) {K91 : TS → Prop} {f1 : Int32} (hK91 : ∀ (S0 : TS), K91 S0 → J G p l e ({ frames := 1, cells := 17, slots := 102, locals := 60 } : Room) s m args below meth c 3 Q 0 0 (TH G.2.2.1 h ad S0) 91 [(0, .ref (ad 0)), (1, .int f1)] []) :
    ∀ (n : Nat) (T : TS) (z2 : Int32), L_tinit_69 K91 P f1 n T z2 → J G p l e ({ frames := 1, cells := 17, slots := 102, locals := 60 } : Room) s m args below meth c 3 Q 0 0 (TH G.2.2.1 h ad T) 69 [(0, .ref (ad 0)), (1, .int f1), (2, .int z2)] [] := by
  intro n
  induction n with
  | zero => intro T z2 hF; exact hF.elim
  | succ n ih =>
    intro T z2 hF
    unfold L_tinit_69 at hF
    refine j_iload_n C dX2_init_69 rfl 2 rfl ?_
    refine j_bipush (v := 6) C dX2_init_70 rfl ?_
    refine j_icmp_ge (tgt := 91) C dX2_init_72 (by decide) (fun hc_3 => ?_) (fun hc_3 => ?_)
    · replace hF := hF.1 hc_3
      exact J.locals [0, 1] (hK91 _ hF) rfl
    · replace hF := hF.2 hc_3
      refine j_aload_n C dX2_init_75 rfl 0 rfl ?_
      refine jtG0 C hg dX2_init_76 ?_
      refine j_iload_n C dX2_init_79 rfl 1 rfl ?_
      obtain ⟨hgd, hF⟩ := hF
      have hw_2 := in_lt6 hgd
      refine jtO1 C hg hgd dX2_init_80 ?_
      refine j_iload_n C dX2_init_81 rfl 2 rfl ?_
      refine j_bipush (v := 30) C dX2_init_82 rfl ?_
      obtain ⟨hgd, hF⟩ := hF
      refine jtSc C hg hm hw_2 hgd dX2_init_84 ?_
      obtain ⟨T_4, eT_4, hF⟩ := nm_intro hF
      refine t_J eT_4 ?_
      refine j_iinc (q := 2) (v := z2 + 1) (L2 := [(2, .int (z2 + 1)), (0, .ref (ad 0)), (1, .int f1)]) C dX2_init_85 rfl rfl (by decide) rfl ?_
      refine j_goto (tgt := 69) C dX2_init_88 (by decide) ?_
      exact J.locals [1, 2, 0] (ih _ _ hF) rfl
set_option maxHeartbeats 4000000 in
theorem WL_tinit_54 {G : GT} {p : Program} {l : Launch} {e : Env} {s : State} {m : MethodId} {args : Array Value} {below : List Frame} {meth : Method} {c : Code} {h : AH} {ad : Nat → Nat} {Q : State → Prop} (C : Cx G p s m args meth c cX2_init RX2 3 none) (hG : GOK G) (hg : Tg ad) (hm : FreeG G) {P : TS → Prop} {a : Nat} (had : ad 0 = a) (hfr : ∀ k, k < 18 → k ≠ 0 → h (ad k) = none ∧ G.1 ≤ ad k) (hQ : Q = MQ below (SQ G (TNew G h a P)) args s 17 102 (fun q => G.1 ≤ q)) :
    ∀ (n : Nat) (T : TS) (z1 : Int32), L_tinit_54 P n T z1 → J G p l e ({ frames := 1, cells := 17, slots := 102, locals := 60 } : Room) s m args below meth c 3 Q 0 0 (TH G.2.2.1 h ad T) 54 [(0, .ref (ad 0)), (1, .int z1)] [] := by
  intro n
  induction n with
  | zero => intro T z1 hF; exact hF.elim
  | succ n ih =>
    intro T z1 hF
    unfold L_tinit_54 at hF
    refine j_iload_n C dX2_init_54 rfl 1 rfl ?_
    refine j_bipush (v := 6) C dX2_init_55 rfl ?_
    refine j_icmp_ge (tgt := 97) C dX2_init_57 (by decide) (fun hc_1 => ?_) (fun hc_1 => ?_)
    · replace hF := hF.1 hc_1
      rw [hQ]
      exact j_vret C ⟨rfl, ad, _, had, hg, hfr, rfl, hF⟩ dX2_init_97
    · replace hF := hF.2 hc_1
      refine j_aload_n C dX2_init_60 rfl 0 rfl ?_
      refine jtG4 C hg dX2_init_61 ?_
      refine j_iload_n C dX2_init_64 rfl 1 rfl ?_
      refine j_iconst (v := (-1)) C dX2_init_65 rfl ?_
      obtain ⟨hgd, hF⟩ := hF
      refine jtS5 C hg hm hgd dX2_init_66 ?_
      obtain ⟨T_2, eT_2, hF⟩ := nm_intro hF
      refine t_J eT_2 ?_
      refine j_iconst (v := 0) C dX2_init_67 rfl ?_
      refine j_istore_n (L2 := [(2, .int 0), (0, .ref (ad 0)), (1, .int z1)]) C dX2_init_68 rfl (by decide) rfl ?_
      refine J.locals [1, 2, 0] (WL_tinit_69 C hG hg hm had hfr hQ ?_ NF _ _ hF) rfl
      · intro T_5 hF
        refine j_iinc (q := 1) (v := z1 + 1) (L2 := [(1, .int (z1 + 1)), (0, .ref (ad 0))]) C dX2_init_91 rfl rfl (by decide) rfl ?_
        refine j_goto (tgt := 54) C dX2_init_94 (by decide) ?_
        exact J.locals [1, 0] (ih _ _ hF) rfl
set_option maxHeartbeats 8000000 in
theorem M_tinit (G : GT) (l : Launch) (hG : GOK G) (hT : TabF G) (hm : FreeG G) (h : AH) (a : Nat) (ha : h a = some (.inr (1, tfz))) (P : TS → Prop) (hF : F_tinit P) : MT G l yX2_init cX2_init 3 none 1 60 17 102 [.ref a] h (TNew G h a P) := by
  refine MT.mk (own := RX2) (by decide) rfl hG (Nat.le_of_ble_eq_true rfl) ?_
  intro p e s m below meth c args Q hargs hQ C hname
  refine J.loca (L2 := [(0, .ref a)]) rfl ?_
  unfold F_tinit at hF
  refine j_aload_n C dX2_init_0 rfl 0 rfl ?_
  refine j_objInit C q149 q142 q143 (Nat.le_of_ble_eq_true rfl) (Nat.le_of_ble_eq_true rfl) dX2_init_1 ?_
  refine j_aload_n C dX2_init_4 rfl 0 rfl ?_
  refine j_bipush (v := 6) C dX2_init_5 rfl ?_
  refine j_bipush (v := 6) C dX2_init_7 rfl ?_
  refine j_multi66 (bc' := 10) (bs' := 60) C hT hm q150 (Nat.le_of_ble_eq_true rfl) (Nat.le_of_ble_eq_true rfl) dX2_init_9 (fun q1 hq1 zq1 r1 hr1 => ?_)
  have a1 : a < q1 ∨ q1 + 7 ≤ a := by
    rcases Nat.lt_or_ge a q1 with g | g
    · exact Or.inl g
    · refine Or.inr (Nat.le_of_not_lt fun g2 => ?_)
      have := hq1 (a - q1) (by omega)
      rw [show q1 + (a - q1) = a by omega, ha] at this
      cases this
  refine j_putF C hm (fs := tfz) (by rw [mulH_out a1]; exact ha) rfl in_X2 tyX2 tyX2_ok nmX2 0 (by decide) q152 rfl rfl hname rfl rfl rfl (Nat.le_of_ble_eq_true rfl) dX2_init_13 ?_
  refine j_aload_n C dX2_init_16 rfl 0 rfl ?_
  refine j_bipush (v := 6) C dX2_init_17 rfl ?_
  refine j_bipush (v := 6) C dX2_init_19 rfl ?_
  refine j_multi66 (bc' := 3) (bs' := 18) C hT hm q150 (Nat.le_of_ble_eq_true rfl) (Nat.le_of_ble_eq_true rfl) dX2_init_21 (fun q2 hq2 zq2 r2 hr2 => ?_)
  have b2 : ∀ i, i < 7 → q2 + i ≠ a ∧ (q2 + i < q1 ∨ q1 + 7 ≤ q2 + i) ∧ h (q2 + i) = none := fun i hi => by
    obtain ⟨n1, n2⟩ := hup_none (hq2 i hi)
    obtain ⟨n3, n4⟩ := mulH_none n2
    exact ⟨n1, n3, n4⟩
  have a2 : a < q2 ∨ q2 + 7 ≤ a := by
    rcases Nat.lt_or_ge a q2 with g | g
    · exact Or.inl g
    · refine Or.inr (Nat.le_of_not_lt fun g2 => ?_)
      exact (b2 (a - q2) (by omega)).1 (by omega)
  have a3 : q2 + 7 ≤ q1 ∨ q1 + 7 ≤ q2 := by
    have c0 := (b2 0 (by omega)).2.1
    have c1 := (b2 1 (by omega)).2.1
    have c2 := (b2 2 (by omega)).2.1
    have c3 := (b2 3 (by omega)).2.1
    have c4 := (b2 4 (by omega)).2.1
    have c5 := (b2 5 (by omega)).2.1
    have c6 := (b2 6 (by omega)).2.1
    omega
  refine j_putF C hm (fs := tfz.set 0 (.ref q1)) (by rw [mulH_out a2, hup_self]) rfl in_X2 tyX2 tyX2_ok nmX2 1 (by decide) q156 rfl rfl hname rfl rfl rfl (Nat.le_of_ble_eq_true rfl) dX2_init_25 ?_
  refine j_aload_n C dX2_init_28 rfl 0 rfl ?_
  refine j_bipush (v := 6) C dX2_init_29 rfl ?_
  refine j_newa (atype := .int) (ty := .int) C hm (di := 0) (N' := 6) rfl (fun _ h => by cases h) (fun _ => rfl) q199 (6, .inl (cut6 fun _ => 0)) (fun _ => rfl) (by decide) (by decide) (by decide) (bc' := 2) (bs' := 12) (by omega) (by omega) dX2_init_31 (fun q3 hq3 zq3 => ?_)
  obtain ⟨n3, m3⟩ := hup_none hq3
  obtain ⟨n3b, m3⟩ := mulH_none m3
  obtain ⟨-, m3⟩ := hup_none m3
  obtain ⟨n3c, m3⟩ := mulH_none m3
  refine j_putF C hm (fs := (tfz.set 0 (.ref q1)).set 1 (.ref q2)) (by rw [hup_ne (fun e => n3 e.symm), hup_self]) rfl in_X2 tyX2 tyX2_ok nmX2 2 (by decide) q158 rfl rfl hname rfl rfl rfl (Nat.le_of_ble_eq_true rfl) dX2_init_33 ?_
  refine j_aload_n C dX2_init_36 rfl 0 rfl ?_
  refine j_bipush (v := 6) C dX2_init_37 rfl ?_
  refine j_newa (atype := .int) (ty := .int) C hm (di := 0) (N' := 6) rfl (fun _ h => by cases h) (fun _ => rfl) q199 (6, .inl (cut6 fun _ => 0)) (fun _ => rfl) (by decide) (by decide) (by decide) (bc' := 1) (bs' := 6) (by omega) (by omega) dX2_init_39 (fun q4 hq4 zq4 => ?_)
  obtain ⟨n4, m4⟩ := hup_none hq4
  obtain ⟨n4a, m4⟩ := hup_none m4
  obtain ⟨-, m4⟩ := hup_none m4
  obtain ⟨n4b, m4⟩ := mulH_none m4
  obtain ⟨-, m4⟩ := hup_none m4
  obtain ⟨n4c, m4⟩ := mulH_none m4
  refine j_putF C hm (fs := ((tfz.set 0 (.ref q1)).set 1 (.ref q2)).set 2 (.ref q3)) (by rw [hup_ne (fun e => n4 e.symm), hup_self]) rfl in_X2 tyX2 tyX2_ok nmX2 3 (by decide) q161 rfl rfl hname rfl rfl rfl (Nat.le_of_ble_eq_true rfl) dX2_init_41 ?_
  refine j_aload_n C dX2_init_44 rfl 0 rfl ?_
  refine j_bipush (v := 6) C dX2_init_45 rfl ?_
  refine j_newa (atype := .int) (ty := .int) C hm (di := 0) (N' := 6) rfl (fun _ h => by cases h) (fun _ => rfl) q199 (6, .inl (cut6 fun _ => 0)) (fun _ => rfl) (by decide) (by decide) (by decide) (bc' := 0) (bs' := 0) (by omega) (by omega) dX2_init_47 (fun q5 hq5 zq5 => ?_)
  obtain ⟨n5, m5⟩ := hup_none hq5
  obtain ⟨n5a, m5⟩ := hup_none m5
  obtain ⟨-, m5⟩ := hup_none m5
  obtain ⟨n5d, m5⟩ := hup_none m5
  obtain ⟨-, m5⟩ := hup_none m5
  obtain ⟨n5b, m5⟩ := mulH_none m5
  obtain ⟨-, m5⟩ := hup_none m5
  obtain ⟨n5c, m5⟩ := mulH_none m5
  refine j_putF C hm (fs := (((tfz.set 0 (.ref q1)).set 1 (.ref q2)).set 2 (.ref q3)).set 3 (.ref q4)) (by rw [hup_ne (fun e => n5 e.symm), hup_self]) rfl in_X2 tyX2 tyX2_ok nmX2 4 (by decide) q163 rfl rfl hname rfl rfl rfl (Nat.le_of_ble_eq_true rfl) dX2_init_49 ?_
  have hA : Apart a q1 q2 q3 q4 q5 := ⟨a1, a2, a3, by omega, by omega, by omega, by omega, by omega, by omega, fun e => n3 e.symm, fun e => n4 e.symm, fun e => n5 e.symm, fun e => n4a e.symm, fun e => n5d e.symm, fun e => n5a e.symm⟩
  have hg := adf_g hA
  have hout : ∀ k, k < 18 → k ≠ 0 → h (adf a q1 q2 q3 q4 q5 k) = none ∧ G.1 ≤ adf a q1 q2 q3 q4 q5 k := by
    intro k hk hk0
    unfold adf
    rw [if_neg hk0]
    by_cases k1 : k = 1
    · rw [if_pos k1]; exact ⟨by have := hq1 0 (by omega); simpa using this, zq1⟩
    rw [if_neg k1]
    by_cases k2 : k = 2
    · rw [if_pos k2]; exact ⟨by have := (b2 0 (by omega)).2.2; simpa using this, zq2⟩
    rw [if_neg k2]
    by_cases k3 : k = 3
    · rw [if_pos k3]; exact ⟨m3, zq3⟩
    rw [if_neg k3]
    by_cases k4 : k = 4
    · rw [if_pos k4]; exact ⟨m4, zq4⟩
    rw [if_neg k4]
    by_cases k5 : k = 5
    · rw [if_pos k5]; exact ⟨m5, zq5⟩
    rw [if_neg k5]
    by_cases k6 : k < 12
    · rw [if_pos k6]; exact ⟨by have := hq1 (1 + (k - 6)) (by omega); rwa [← Nat.add_assoc] at this, by omega⟩
    · rw [if_neg k6]; exact ⟨by have := (b2 (1 + (k - 12)) (by omega)).2.2; rwa [← Nat.add_assoc] at this, by omega⟩
  have hch : ∀ {L st pcx}, J G p l e ({ frames := 1, cells := 17, slots := 102, locals := 60 } : Room) s m args below meth c 3 Q 0 0 (TH G.2.2.1 h (adf a q1 q2 q3 q4 q5) T0z) pcx L st → J G p l e ({ frames := 1, cells := 17, slots := 102, locals := 60 } : Room) s m args below meth c 3 Q 0 0 (ctorH G.2.2.1 h a q1 q2 q3 q4 q5 r1 r2) pcx L st := by
    intro L st pcx k
    have hA' := hA
    obtain ⟨h1, h2, h3, h4, h5, h6, h7, h8, h9, h10, h11, h12, h13, h14, h15⟩ := hA'
    have o1 : ctorH G.2.2.1 h a q1 q2 q3 q4 q5 r1 r2 q2 = some (va_E_outer G.2.2.1 r2) := by
      unfold ctorH
      rw [hup_ne (ne_q h2), hup_ne (ne_q h9), hup_ne (ne_q h2), hup_ne (ne_q h7), hup_ne (ne_q h2), hup_ne (ne_q h5), hup_ne (ne_q h2), mulH_q]
    refine J.recell (a := q2) (x' := .inr (.inr (.inr (.inr fun i => some (q2 + 1 + i))))) o1 (outer_same fun i hi => hr2 i hi) ?_
    have e2 : hup (ctorH G.2.2.1 h a q1 q2 q3 q4 q5 r1 r2) q2 (.inl (G.2.2.1 6, 6, .inr (.inr (.inr (.inr fun i => some (q2 + 1 + i)))))) = ctorH G.2.2.1 h a q1 q2 q3 q4 q5 r1 (fun i => some (q2 + 1 + i)) := by
      funext b
      by_cases hb : b = q2
      · subst hb
        rw [hup_self]
        unfold ctorH
        rw [hup_ne (ne_q h2), hup_ne (ne_q h9), hup_ne (ne_q h2), hup_ne (ne_q h7), hup_ne (ne_q h2), hup_ne (ne_q h5), hup_ne (ne_q h2), mulH_q]
        rfl
      · rw [hup_ne hb]
        unfold ctorH
        exact hup_congr (hup_congr (hup_congr (hup_congr (hup_congr (hup_congr (hup_congr (mulH_r hb)))))))
    rw [e2]
    have o2 : ctorH G.2.2.1 h a q1 q2 q3 q4 q5 r1 (fun i => some (q2 + 1 + i)) q1 = some (va_E_outer G.2.2.1 r1) := by
      unfold ctorH
      rw [hup_ne (ne_q h1), hup_ne (ne_q h8), hup_ne (ne_q h1), hup_ne (ne_q h6), hup_ne (ne_q h1), hup_ne (ne_q h4), hup_ne (ne_q h1), mulH_out (q_out h3), hup_ne (ne_q h1), mulH_q]
    refine J.recell (a := q1) (x' := .inr (.inr (.inr (.inr fun i => some (adf a q1 q2 q3 q4 q5 (6 + i)))))) o2 (outer_same fun i hi => by rw [hr1 i hi, adf_c hi]) ?_
    rw [ctor_TH hA]
    exact k
  refine hch ?_
  refine j_iconst (v := 0) C dX2_init_52 rfl ?_
  refine j_istore_n (L2 := [(1, .int 0), (0, .ref a)]) C dX2_init_53 rfl (by decide) rfl ?_
  refine J.locals [1, 0] (WL_tinit_54 C hG hg hm rfl hout hQ NF _ _ hF) rfl
def cpy6 (T T' : TS) (o : Nat) : TS := fun i => if o ≤ i ∧ i < o + 6 then T' i else T i
theorem cpy6_out {T T' : TS} {o i : Nat} (h : i < o ∨ o + 6 ≤ i) : cpy6 T T' o i = T i := if_neg (by omega)
theorem TH_T3 {dA : Nat → ClassId} {h : AH} {ad : Nat → Nat} {T T' : TS} (h1 : ∀ i, i < 96 → i ≠ 3 → T' i = T i) : TH dA h ad T' = TH dA h ad T := by
  funext b
  unfold TH
  cases hf : (List.range 18).find? (fun k => ad k == b) with
  | none => rfl
  | some k =>
    have hk := List.mem_range.mp (List.mem_of_find?_eq_some hf)
    exact congrArg some (tcell_congr (fun _ => ⟨h1 _ (by omega) (by omega), h1 _ (by omega) (by omega), h1 _ (by omega) (by omega), h1 _ (by omega) (by omega), h1 _ (by omega) (by omega)⟩) (fun _ j hj => h1 _ (by omega) (by omega)) (fun _ j hj => h1 _ (by omega) (by omega)) (fun _ j hj => h1 _ (by omega) (by omega)) (fun _ j hj => h1 _ (by omega) (by omega)))
theorem ag_cpy {T T' : TS} {S : Nat → Prop} {o : Nat} (h : ∀ i, S i → T i = T' i) : ∀ i, (S i ∨ (o ≤ i ∧ i < o + 6)) → cpy6 T T' o i = T' i := by
  intro i hi
  unfold cpy6
  by_cases hr : o ≤ i ∧ i < o + 6
  · rw [if_pos hr]
  · rw [if_neg hr]
    rcases hi with g | g
    · exact h i g
    · exact absurd g hr
theorem ag_upd {T T' : TS} {S : Nat → Prop} {k : Nat} (h : ∀ i, S i → T i = T' i) : ∀ i, (S i ∨ i = k) → upd T k (T' k) i = T' i := by
  intro i hi
  by_cases hr : i = k
  · subst hr; exact pk_us
  · rw [pk_un hr]
    rcases hi with g | g
    · exact h i g
    · exact absurd g hr
def co (k : Nat) : Nat := if k = 3 then 78 else if k = 4 then 90 else if k = 5 then 84 else 6 + 6 * (k - 6)
theorem tcell_co {dA : Nat → ClassId} {ad : Nat → Nat} {T : TS} {k : Nat} (h3 : 3 ≤ k) : tcell dA ad T k = .inl (dA 0, 6, .inl (cut6 fun j => T (co k + j))) := by
  unfold tcell co
  rw [if_neg (by omega), if_neg (by omega), if_neg (by omega)]
  by_cases e3 : k = 3
  · rw [if_pos e3, if_pos e3]
  rw [if_neg e3, if_neg e3]
  by_cases e4 : k = 4
  · rw [if_pos e4, if_pos e4]
  rw [if_neg e4, if_neg e4]
  by_cases e5 : k = 5
  · rw [if_pos e5, if_pos e5]
  rw [if_neg e5, if_neg e5]
section CT
variable {G : GT} {p : Program} {l : Launch} {e : Env} {R : Room} {s : State} {m : MethodId} {args : Array Value} {below : List Frame} {meth : Method} {c : Code} {nL : Nat} {Q : State → Prop} {bc bs : Nat} {h : AH} {pc : Nat} {L : List (Nat × Value)} {rest : List Value} {cc : ByteArray} {ret : Option FieldType} {ad ad' : Nat → Nat} {T T' : TS}
theorem j_copyrow (C : Cx G p s m args meth c cc RX2 nL ret) (hm : FreeG G) (hg : Tg ad) (ho : ∀ k, k < 18 → TH G.2.2.1 h ad T (ad' k) = some (tcell G.2.2.1 ad' T' k)) {k : Nat} (h3 : 3 ≤ k) (hk : k < 18) (hframes : 1 ≤ R.frames) (hlocals : (rest.map fun v => v.category).sum + 200 ≤ R.locals) (hdg : decode cc pc = .ok (.invokestatic 29, 3)) (kk : J G p l e R s m args below meth c nL Q bc bs (TH G.2.2.1 h ad (cpy6 T T' (co k))) (pc + 3) L rest) : J G p l e R s m args below meth c nL Q bc bs (TH G.2.2.1 h ad T) pc L (.int 6 :: .int 0 :: .ref (ad k) :: .int 0 :: .ref (ad' k) :: rest) := by
  refine j_copyi C hm q291 (n0 := 6) (n1 := 6) (f := cut6 fun j => T' (co k + j)) (g := cut6 fun j => T (co k + j)) ((ho k hk).trans (by rw [tcell_co h3])) ((TH_at hg hk).trans (by rw [tcell_co h3])) (by decide) (by decide) (by decide) (by decide) (by decide) hframes hlocals hdg (J.heap kk (TH_set hg hk ?_ (fun j hj hn => ?_)))
  · rw [tcell_co h3]
    refine congrArg (fun f => (.inl (G.2.2.1 0, 6, .inl f) : va_E)) (funext fun j => ?_)
    show va_cpy _ _ 0 0 6 j = _
    unfold va_cpy
    by_cases hj : j < 6
    · rw [if_pos (by omega), cut6_at (show 0 + (j - 0) < 6 by omega), cut6_at hj]
      show _ = cpy6 T T' (co k) (co k + j)
      unfold cpy6
      rw [if_pos (by omega), show 0 + (j - 0) = j by omega]
    · rw [if_neg (by omega)]
      unfold cut6
      rw [if_neg hj, if_neg hj]
  · have hco : ∀ i, (i < co k ∨ co k + 6 ≤ i) → cpy6 T T' (co k) i = T i := fun i hi => cpy6_out hi
    have hcv : co k = if k = 3 then 78 else if k = 4 then 90 else if k = 5 then 84 else 6 + 6 * (k - 6) := rfl
    by_cases e3 : k = 3
    · rw [if_pos e3] at hcv
      exact tcell_congr (fun _ => ⟨hco _ (by omega), hco _ (by omega), hco _ (by omega), hco _ (by omega), hco _ (by omega)⟩) (fun _ i _ => hco _ (by omega)) (fun _ i _ => hco _ (by omega)) (fun _ i _ => hco _ (by omega)) (fun _ i _ => hco _ (by omega))
    rw [if_neg e3] at hcv
    by_cases e4 : k = 4
    · rw [if_pos e4] at hcv
      exact tcell_congr (fun _ => ⟨hco _ (by omega), hco _ (by omega), hco _ (by omega), hco _ (by omega), hco _ (by omega)⟩) (fun _ i _ => hco _ (by omega)) (fun _ i _ => hco _ (by omega)) (fun _ i _ => hco _ (by omega)) (fun _ i _ => hco _ (by omega))
    rw [if_neg e4] at hcv
    by_cases e5 : k = 5
    · rw [if_pos e5] at hcv
      exact tcell_congr (fun _ => ⟨hco _ (by omega), hco _ (by omega), hco _ (by omega), hco _ (by omega), hco _ (by omega)⟩) (fun _ i _ => hco _ (by omega)) (fun _ i _ => hco _ (by omega)) (fun _ i _ => hco _ (by omega)) (fun _ i _ => hco _ (by omega))
    rw [if_neg e5] at hcv
    exact tcell_congr (fun _ => ⟨hco _ (by omega), hco _ (by omega), hco _ (by omega), hco _ (by omega), hco _ (by omega)⟩) (fun _ i _ => hco _ (by omega)) (fun _ i _ => hco _ (by omega)) (fun _ i _ => hco _ (by omega)) (fun _ i _ => hco _ (by omega))
/-- the other town is seen through the new one's cells -/
theorem oth {dA : Nat → ClassId} (ho : ∀ k, k < 18 → h (ad' k) = some (tcell dA ad' T' k)) (hs : ∀ j k, j < 18 → k < 18 → ad k ≠ ad' j) (T : TS) : ∀ k, k < 18 → TH dA h ad T (ad' k) = some (tcell dA ad' T' k) := fun k hk => by
  rw [TH_out (fun j hj => hs k j hk hj)]; exact ho k hk
theorem copy_step (C : Cx G p s m args meth c cX2_init_2 RX2 3 none) (hm : FreeG G) (hg : Tg ad) (ho : ∀ k, k < 18 → h (ad' k) = some (tcell G.2.2.1 ad' T' k)) (hs : ∀ j k, j < 18 → k < 18 → ad k ≠ ad' j) {z : Int32} {r : Nat} (hz : ¬ (6 : Int32) ≤ z) (hin : vp_in z 6) (hr : z.toNatClampNeg = r) (kk : J G p l e ({ frames := 1, cells := 17, slots := 102, locals := 260 } : Room) s m args below meth c 3 Q bc bs (TH G.2.2.1 h ad (cpy6 (cpy6 T T' (co (6 + r))) T' (co (12 + r)))) 54 [(0, .ref (ad 0)), (1, .ref (ad' 0)), (2, .int (z + 1))] []) : J G p l e ({ frames := 1, cells := 17, slots := 102, locals := 260 } : Room) s m args below meth c 3 Q bc bs (TH G.2.2.1 h ad T) 54 [(0, .ref (ad 0)), (1, .ref (ad' 0)), (2, .int z)] [] := by
  have hr6 : r < 6 := by rw [← hr]; exact in_lt6 hin
  refine j_iload_n C dX2_init_2_54 rfl 2 rfl ?_
  refine j_bipush (v := 6) C dX2_init_2_55 rfl ?_
  refine j_icmp_ge (tgt := 104) C dX2_init_2_57 (by decide) (fun hc => absurd hc hz) (fun _ => ?_)
  refine j_aload_n C dX2_init_2_60 rfl 1 rfl ?_
  refine j_get C (oth ho hs T 0 (by decide)) rfl in_X2 0 (by decide) q152 rfl rfl dX2_init_2_61 ?_
  refine j_iload_n C dX2_init_2_64 rfl 2 rfl ?_
  refine j_aald (di := 6) C (oth ho hs T 1 (by decide)) rfl rfl hin dX2_init_2_65 ?_
  refine j_iconst (v := 0) C dX2_init_2_66 rfl ?_
  refine j_aload_n C dX2_init_2_67 rfl 0 rfl ?_
  refine jtG0 C hg dX2_init_2_68 ?_
  refine j_iload_n C dX2_init_2_71 rfl 2 rfl ?_
  refine jtO1 C hg hin dX2_init_2_72 ?_
  refine j_iconst (v := 0) C dX2_init_2_73 rfl ?_
  refine j_bipush (v := 6) C dX2_init_2_74 rfl ?_
  rw [hr]
  refine j_copyrow C hm hg (oth ho hs T) (k := 6 + r) (by omega) (by omega) (Nat.le_of_ble_eq_true rfl) (Nat.le_of_ble_eq_true rfl) dX2_init_2_76 ?_
  refine j_aload_n C dX2_init_2_79 rfl 1 rfl ?_
  refine j_get C (oth ho hs _ 0 (by decide)) rfl in_X2 1 (by decide) q156 rfl rfl dX2_init_2_80 ?_
  refine j_iload_n C dX2_init_2_83 rfl 2 rfl ?_
  refine j_aald (di := 6) C (oth ho hs _ 2 (by decide)) rfl rfl hin dX2_init_2_84 ?_
  refine j_iconst (v := 0) C dX2_init_2_85 rfl ?_
  refine j_aload_n C dX2_init_2_86 rfl 0 rfl ?_
  refine jtG1 C hg dX2_init_2_87 ?_
  refine j_iload_n C dX2_init_2_90 rfl 2 rfl ?_
  refine jtO2 C hg hin dX2_init_2_91 ?_
  refine j_iconst (v := 0) C dX2_init_2_92 rfl ?_
  refine j_bipush (v := 6) C dX2_init_2_93 rfl ?_
  rw [hr]
  refine j_copyrow C hm hg (oth ho hs _) (k := 12 + r) (by omega) (by omega) (Nat.le_of_ble_eq_true rfl) (Nat.le_of_ble_eq_true rfl) dX2_init_2_95 ?_
  refine j_iinc (q := 2) (v := z + 1) (L2 := [(2, .int (z + 1)), (0, .ref (ad 0)), (1, .ref (ad' 0))]) C dX2_init_2_98 rfl rfl (by decide) rfl ?_
  refine j_goto (tgt := 54) C dX2_init_2_101 (by decide) ?_
  exact J.locals [1, 2, 0] kk rfl
end CT
set_option maxHeartbeats 8000000 in
theorem M_tcopy (G : GT) (l : Launch) (hG : GOK G) (hT : TabF G) (hm : FreeG G) (h : AH) (a : Nat) (ha : h a = some (.inr (1, tfz))) (ad' : Nat → Nat) (T' : TS) (ho : ∀ k, k < 18 → h (ad' k) = some (tcell G.2.2.1 ad' T' k)) (hna : ∀ j, j < 18 → ad' j ≠ a) : MT G l yX2_init_2 cX2_init_2 3 none 1 260 17 102 [.ref a, .ref (ad' 0)] h (TNew G h a (fun T => T = T')) := by
  refine MT.mk (own := RX2) (by decide) rfl hG (Nat.le_of_ble_eq_true rfl) ?_
  intro p e s m below meth c args Q hargs hQ C hname
  refine J.loca (L2 := [(0, .ref a), (1, .ref (ad' 0))]) rfl ?_
  refine j_aload_n C dX2_init_2_0 rfl 0 rfl ?_
  refine j_objInit C q149 q142 q143 (Nat.le_of_ble_eq_true rfl) (Nat.le_of_ble_eq_true rfl) dX2_init_2_1 ?_
  refine j_aload_n C dX2_init_2_4 rfl 0 rfl ?_
  refine j_bipush (v := 6) C dX2_init_2_5 rfl ?_
  refine j_bipush (v := 6) C dX2_init_2_7 rfl ?_
  refine j_multi66 (bc' := 10) (bs' := 60) C hT hm q150 (Nat.le_of_ble_eq_true rfl) (Nat.le_of_ble_eq_true rfl) dX2_init_2_9 (fun q1 hq1 zq1 r1 hr1 => ?_)
  have a1 : a < q1 ∨ q1 + 7 ≤ a := by
    rcases Nat.lt_or_ge a q1 with g | g
    · exact Or.inl g
    · refine Or.inr (Nat.le_of_not_lt fun g2 => ?_)
      have := hq1 (a - q1) (by omega)
      rw [show q1 + (a - q1) = a by omega, ha] at this
      cases this
  refine j_putF C hm (fs := tfz) (by rw [mulH_out a1]; exact ha) rfl in_X2 tyX2 tyX2_ok nmX2 0 (by decide) q152 rfl rfl hname rfl rfl rfl (Nat.le_of_ble_eq_true rfl) dX2_init_2_13 ?_
  refine j_aload_n C dX2_init_2_16 rfl 0 rfl ?_
  refine j_bipush (v := 6) C dX2_init_2_17 rfl ?_
  refine j_bipush (v := 6) C dX2_init_2_19 rfl ?_
  refine j_multi66 (bc' := 3) (bs' := 18) C hT hm q150 (Nat.le_of_ble_eq_true rfl) (Nat.le_of_ble_eq_true rfl) dX2_init_2_21 (fun q2 hq2 zq2 r2 hr2 => ?_)
  have b2 : ∀ i, i < 7 → q2 + i ≠ a ∧ (q2 + i < q1 ∨ q1 + 7 ≤ q2 + i) ∧ h (q2 + i) = none := fun i hi => by
    obtain ⟨n1, n2⟩ := hup_none (hq2 i hi)
    obtain ⟨n3, n4⟩ := mulH_none n2
    exact ⟨n1, n3, n4⟩
  have a2 : a < q2 ∨ q2 + 7 ≤ a := by
    rcases Nat.lt_or_ge a q2 with g | g
    · exact Or.inl g
    · refine Or.inr (Nat.le_of_not_lt fun g2 => ?_)
      exact (b2 (a - q2) (by omega)).1 (by omega)
  have a3 : q2 + 7 ≤ q1 ∨ q1 + 7 ≤ q2 := by
    have c0 := (b2 0 (by omega)).2.1
    have c1 := (b2 1 (by omega)).2.1
    have c2 := (b2 2 (by omega)).2.1
    have c3 := (b2 3 (by omega)).2.1
    have c4 := (b2 4 (by omega)).2.1
    have c5 := (b2 5 (by omega)).2.1
    have c6 := (b2 6 (by omega)).2.1
    omega
  refine j_putF C hm (fs := tfz.set 0 (.ref q1)) (by rw [mulH_out a2, hup_self]) rfl in_X2 tyX2 tyX2_ok nmX2 1 (by decide) q156 rfl rfl hname rfl rfl rfl (Nat.le_of_ble_eq_true rfl) dX2_init_2_25 ?_
  refine j_aload_n C dX2_init_2_28 rfl 0 rfl ?_
  refine j_bipush (v := 6) C dX2_init_2_29 rfl ?_
  refine j_newa (atype := .int) (ty := .int) C hm (di := 0) (N' := 6) rfl (fun _ h => by cases h) (fun _ => rfl) q199 (6, .inl (cut6 fun _ => 0)) (fun _ => rfl) (by decide) (by decide) (by decide) (bc' := 2) (bs' := 12) (by omega) (by omega) dX2_init_2_31 (fun q3 hq3 zq3 => ?_)
  obtain ⟨n3, m3⟩ := hup_none hq3
  obtain ⟨n3b, m3⟩ := mulH_none m3
  obtain ⟨-, m3⟩ := hup_none m3
  obtain ⟨n3c, m3⟩ := mulH_none m3
  refine j_putF C hm (fs := (tfz.set 0 (.ref q1)).set 1 (.ref q2)) (by rw [hup_ne (fun e => n3 e.symm), hup_self]) rfl in_X2 tyX2 tyX2_ok nmX2 2 (by decide) q158 rfl rfl hname rfl rfl rfl (Nat.le_of_ble_eq_true rfl) dX2_init_2_33 ?_
  refine j_aload_n C dX2_init_2_36 rfl 0 rfl ?_
  refine j_bipush (v := 6) C dX2_init_2_37 rfl ?_
  refine j_newa (atype := .int) (ty := .int) C hm (di := 0) (N' := 6) rfl (fun _ h => by cases h) (fun _ => rfl) q199 (6, .inl (cut6 fun _ => 0)) (fun _ => rfl) (by decide) (by decide) (by decide) (bc' := 1) (bs' := 6) (by omega) (by omega) dX2_init_2_39 (fun q4 hq4 zq4 => ?_)
  obtain ⟨n4, m4⟩ := hup_none hq4
  obtain ⟨n4a, m4⟩ := hup_none m4
  obtain ⟨-, m4⟩ := hup_none m4
  obtain ⟨n4b, m4⟩ := mulH_none m4
  obtain ⟨-, m4⟩ := hup_none m4
  obtain ⟨n4c, m4⟩ := mulH_none m4
  refine j_putF C hm (fs := ((tfz.set 0 (.ref q1)).set 1 (.ref q2)).set 2 (.ref q3)) (by rw [hup_ne (fun e => n4 e.symm), hup_self]) rfl in_X2 tyX2 tyX2_ok nmX2 3 (by decide) q161 rfl rfl hname rfl rfl rfl (Nat.le_of_ble_eq_true rfl) dX2_init_2_41 ?_
  refine j_aload_n C dX2_init_2_44 rfl 0 rfl ?_
  refine j_bipush (v := 6) C dX2_init_2_45 rfl ?_
  refine j_newa (atype := .int) (ty := .int) C hm (di := 0) (N' := 6) rfl (fun _ h => by cases h) (fun _ => rfl) q199 (6, .inl (cut6 fun _ => 0)) (fun _ => rfl) (by decide) (by decide) (by decide) (bc' := 0) (bs' := 0) (by omega) (by omega) dX2_init_2_47 (fun q5 hq5 zq5 => ?_)
  obtain ⟨n5, m5⟩ := hup_none hq5
  obtain ⟨n5a, m5⟩ := hup_none m5
  obtain ⟨-, m5⟩ := hup_none m5
  obtain ⟨n5d, m5⟩ := hup_none m5
  obtain ⟨-, m5⟩ := hup_none m5
  obtain ⟨n5b, m5⟩ := mulH_none m5
  obtain ⟨-, m5⟩ := hup_none m5
  obtain ⟨n5c, m5⟩ := mulH_none m5
  refine j_putF C hm (fs := (((tfz.set 0 (.ref q1)).set 1 (.ref q2)).set 2 (.ref q3)).set 3 (.ref q4)) (by rw [hup_ne (fun e => n5 e.symm), hup_self]) rfl in_X2 tyX2 tyX2_ok nmX2 4 (by decide) q163 rfl rfl hname rfl rfl rfl (Nat.le_of_ble_eq_true rfl) dX2_init_2_49 ?_
  have hA : Apart a q1 q2 q3 q4 q5 := ⟨a1, a2, a3, by omega, by omega, by omega, by omega, by omega, by omega, fun e => n3 e.symm, fun e => n4 e.symm, fun e => n5 e.symm, fun e => n4a e.symm, fun e => n5d e.symm, fun e => n5a e.symm⟩
  have hg := adf_g hA
  have hout : ∀ k, k < 18 → k ≠ 0 → h (adf a q1 q2 q3 q4 q5 k) = none ∧ G.1 ≤ adf a q1 q2 q3 q4 q5 k := by
    intro k hk hk0
    unfold adf
    rw [if_neg hk0]
    by_cases k1 : k = 1
    · rw [if_pos k1]; exact ⟨by have := hq1 0 (by omega); simpa using this, zq1⟩
    rw [if_neg k1]
    by_cases k2 : k = 2
    · rw [if_pos k2]; exact ⟨by have := (b2 0 (by omega)).2.2; simpa using this, zq2⟩
    rw [if_neg k2]
    by_cases k3 : k = 3
    · rw [if_pos k3]; exact ⟨m3, zq3⟩
    rw [if_neg k3]
    by_cases k4 : k = 4
    · rw [if_pos k4]; exact ⟨m4, zq4⟩
    rw [if_neg k4]
    by_cases k5 : k = 5
    · rw [if_pos k5]; exact ⟨m5, zq5⟩
    rw [if_neg k5]
    by_cases k6 : k < 12
    · rw [if_pos k6]; exact ⟨by have := hq1 (1 + (k - 6)) (by omega); rwa [← Nat.add_assoc] at this, by omega⟩
    · rw [if_neg k6]; exact ⟨by have := (b2 (1 + (k - 12)) (by omega)).2.2; rwa [← Nat.add_assoc] at this, by omega⟩
  have hch : ∀ {L st pcx}, J G p l e ({ frames := 1, cells := 17, slots := 102, locals := 260 } : Room) s m args below meth c 3 Q 0 0 (TH G.2.2.1 h (adf a q1 q2 q3 q4 q5) T0z) pcx L st → J G p l e ({ frames := 1, cells := 17, slots := 102, locals := 260 } : Room) s m args below meth c 3 Q 0 0 (ctorH G.2.2.1 h a q1 q2 q3 q4 q5 r1 r2) pcx L st := by
    intro L st pcx k
    have hA' := hA
    obtain ⟨h1, h2, h3, h4, h5, h6, h7, h8, h9, h10, h11, h12, h13, h14, h15⟩ := hA'
    have o1 : ctorH G.2.2.1 h a q1 q2 q3 q4 q5 r1 r2 q2 = some (va_E_outer G.2.2.1 r2) := by
      unfold ctorH
      rw [hup_ne (ne_q h2), hup_ne (ne_q h9), hup_ne (ne_q h2), hup_ne (ne_q h7), hup_ne (ne_q h2), hup_ne (ne_q h5), hup_ne (ne_q h2), mulH_q]
    refine J.recell (a := q2) (x' := .inr (.inr (.inr (.inr fun i => some (q2 + 1 + i))))) o1 (outer_same fun i hi => hr2 i hi) ?_
    have e2 : hup (ctorH G.2.2.1 h a q1 q2 q3 q4 q5 r1 r2) q2 (.inl (G.2.2.1 6, 6, .inr (.inr (.inr (.inr fun i => some (q2 + 1 + i)))))) = ctorH G.2.2.1 h a q1 q2 q3 q4 q5 r1 (fun i => some (q2 + 1 + i)) := by
      funext b
      by_cases hb : b = q2
      · subst hb
        rw [hup_self]
        unfold ctorH
        rw [hup_ne (ne_q h2), hup_ne (ne_q h9), hup_ne (ne_q h2), hup_ne (ne_q h7), hup_ne (ne_q h2), hup_ne (ne_q h5), hup_ne (ne_q h2), mulH_q]
        rfl
      · rw [hup_ne hb]
        unfold ctorH
        exact hup_congr (hup_congr (hup_congr (hup_congr (hup_congr (hup_congr (hup_congr (mulH_r hb)))))))
    rw [e2]
    have o2 : ctorH G.2.2.1 h a q1 q2 q3 q4 q5 r1 (fun i => some (q2 + 1 + i)) q1 = some (va_E_outer G.2.2.1 r1) := by
      unfold ctorH
      rw [hup_ne (ne_q h1), hup_ne (ne_q h8), hup_ne (ne_q h1), hup_ne (ne_q h6), hup_ne (ne_q h1), hup_ne (ne_q h4), hup_ne (ne_q h1), mulH_out (q_out h3), hup_ne (ne_q h1), mulH_q]
    refine J.recell (a := q1) (x' := .inr (.inr (.inr (.inr fun i => some (adf a q1 q2 q3 q4 q5 (6 + i)))))) o2 (outer_same fun i hi => by rw [hr1 i hi, adf_c hi]) ?_
    rw [ctor_TH hA]
    exact k
  refine hch ?_
  have hs : ∀ j k, j < 18 → k < 18 → adf a q1 q2 q3 q4 q5 k ≠ ad' j := by
    intro j k hj hk e
    by_cases hk0 : k = 0
    · subst hk0; exact hna j hj e.symm
    · have := (hout k hk hk0).1
      rw [e, ho j hj] at this
      cases this
  refine j_iconst (v := 0) C dX2_init_2_52 rfl ?_
  refine j_istore_n (L2 := [(2, .int 0), (0, .ref a), (1, .ref (ad' 0))]) C dX2_init_2_53 rfl (by decide) rfl ?_
  refine J.locals (L' := [(0, .ref (adf a q1 q2 q3 q4 q5 0)), (1, .ref (ad' 0)), (2, .int 0)]) [1, 2, 0] ?_ rfl
  refine copy_step C hm hg ho hs (r := 0) (by decide) (by unfold vp_in; decide) rfl ?_
  refine copy_step C hm hg ho hs (r := 1) (by decide) (by unfold vp_in; decide) rfl ?_
  refine copy_step C hm hg ho hs (r := 2) (by decide) (by unfold vp_in; decide) rfl ?_
  refine copy_step C hm hg ho hs (r := 3) (by decide) (by unfold vp_in; decide) rfl ?_
  refine copy_step C hm hg ho hs (r := 4) (by decide) (by unfold vp_in; decide) rfl ?_
  refine copy_step C hm hg ho hs (r := 5) (by decide) (by unfold vp_in; decide) rfl ?_
  refine j_iload_n C dX2_init_2_54 rfl 2 rfl ?_
  refine j_bipush (v := 6) C dX2_init_2_55 rfl ?_
  refine j_icmp_ge (tgt := 104) C dX2_init_2_57 (by decide) (fun _ => ?_) (fun hc => absurd (by decide) hc)
  refine j_aload_n C dX2_init_2_104 rfl 1 rfl ?_
  refine j_get C (oth ho hs _ 0 (by decide)) rfl in_X2 2 (by decide) q158 rfl rfl dX2_init_2_105 ?_
  refine j_iconst (v := 0) C dX2_init_2_108 rfl ?_
  refine j_aload_n C dX2_init_2_109 rfl 0 rfl ?_
  refine jtG2 C hg dX2_init_2_110 ?_
  refine j_iconst (v := 0) C dX2_init_2_113 rfl ?_
  refine j_bipush (v := 6) C dX2_init_2_114 rfl ?_
  refine j_copyrow C hm hg (oth ho hs _) (k := 3) (by decide) (by decide) (Nat.le_of_ble_eq_true rfl) (Nat.le_of_ble_eq_true rfl) dX2_init_2_116 ?_
  refine j_aload_n C dX2_init_2_119 rfl 1 rfl ?_
  refine j_get C (oth ho hs _ 0 (by decide)) rfl in_X2 3 (by decide) q161 rfl rfl dX2_init_2_120 ?_
  refine j_iconst (v := 0) C dX2_init_2_123 rfl ?_
  refine j_aload_n C dX2_init_2_124 rfl 0 rfl ?_
  refine jtG3 C hg dX2_init_2_125 ?_
  refine j_iconst (v := 0) C dX2_init_2_128 rfl ?_
  refine j_bipush (v := 6) C dX2_init_2_129 rfl ?_
  refine j_copyrow C hm hg (oth ho hs _) (k := 4) (by decide) (by decide) (Nat.le_of_ble_eq_true rfl) (Nat.le_of_ble_eq_true rfl) dX2_init_2_131 ?_
  refine j_aload_n C dX2_init_2_134 rfl 1 rfl ?_
  refine j_get C (oth ho hs _ 0 (by decide)) rfl in_X2 4 (by decide) q163 rfl rfl dX2_init_2_135 ?_
  refine j_iconst (v := 0) C dX2_init_2_138 rfl ?_
  refine j_aload_n C dX2_init_2_139 rfl 0 rfl ?_
  refine jtG4 C hg dX2_init_2_140 ?_
  refine j_iconst (v := 0) C dX2_init_2_143 rfl ?_
  refine j_bipush (v := 6) C dX2_init_2_144 rfl ?_
  refine j_copyrow C hm hg (oth ho hs _) (k := 5) (by decide) (by decide) (Nat.le_of_ble_eq_true rfl) (Nat.le_of_ble_eq_true rfl) dX2_init_2_146 ?_
  refine j_aload_n C dX2_init_2_149 rfl 0 rfl ?_
  refine j_aload_n C dX2_init_2_150 rfl 1 rfl ?_
  refine j_get C (oth ho hs _ 0 (by decide)) rfl in_X2 5 (by decide) q167 rfl rfl dX2_init_2_151 ?_
  refine jtP5 C hg hm dX2_init_2_154 ?_
  refine j_aload_n C dX2_init_2_157 rfl 0 rfl ?_
  refine j_aload_n C dX2_init_2_158 rfl 1 rfl ?_
  refine j_get C (oth ho hs _ 0 (by decide)) rfl in_X2 6 (by decide) q170 rfl rfl dX2_init_2_159 ?_
  refine jtP6 C hg hm dX2_init_2_162 ?_
  refine j_aload_n C dX2_init_2_165 rfl 0 rfl ?_
  refine j_aload_n C dX2_init_2_166 rfl 1 rfl ?_
  refine j_get C (oth ho hs _ 0 (by decide)) rfl in_X2 7 (by decide) q172 rfl rfl dX2_init_2_167 ?_
  refine jtP7 C hg hm dX2_init_2_170 ?_
  refine j_aload_n C dX2_init_2_173 rfl 0 rfl ?_
  refine j_aload_n C dX2_init_2_174 rfl 1 rfl ?_
  refine j_get C (oth ho hs _ 0 (by decide)) rfl in_X2 8 (by decide) q174 rfl rfl dX2_init_2_175 ?_
  refine jtP8 C hg hm dX2_init_2_178 ?_
  refine j_aload_n C dX2_init_2_181 rfl 0 rfl ?_
  refine j_aload_n C dX2_init_2_182 rfl 1 rfl ?_
  refine j_get C (oth ho hs _ 0 (by decide)) rfl in_X2 9 (by decide) q176 rfl rfl dX2_init_2_183 ?_
  refine jtP9 C hg hm dX2_init_2_186 ?_
  rw [hQ]
  refine j_vret C ⟨rfl, _, T', rfl, hg, hout, TH_T3 (fun i hi h3 => ?_), rfl⟩ dX2_init_2_189
  refine ag_upd (ag_upd (ag_upd (ag_upd (ag_upd (ag_cpy (ag_cpy (ag_cpy (ag_cpy (ag_cpy (ag_cpy (ag_cpy (ag_cpy (ag_cpy (ag_cpy (ag_cpy (ag_cpy (ag_cpy (ag_cpy (ag_cpy (S := fun _ => False) (fun i hi => hi.elim)))))))))))))))))))) i ?_
  simp only [show co (6 + 0) = 6 from rfl, show co (6 + 1) = 12 from rfl, show co (6 + 2) = 18 from rfl, show co (6 + 3) = 24 from rfl, show co (6 + 4) = 30 from rfl, show co (6 + 5) = 36 from rfl, show co (12 + 0) = 42 from rfl, show co (12 + 1) = 48 from rfl, show co (12 + 2) = 54 from rfl, show co (12 + 3) = 60 from rfl, show co (12 + 4) = 66 from rfl, show co (12 + 5) = 72 from rfl, show co 3 = 78 from rfl, show co 4 = 90 from rfl, show co 5 = 84 from rfl]
  clear hs hout hch hA hg b2
  omega
