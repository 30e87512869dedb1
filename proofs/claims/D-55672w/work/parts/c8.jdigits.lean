/-! Integer.stringSize, getChars of a number below 1000 -/
set_option maxRecDepth 100000
theorem hup_same {h : AH} {a : Nat} {e : va_E} (ha : h a = some e) : hup h a e = h := by
  funext b; unfold hup; by_cases hb : b = a
  · rw [if_pos hb, hb, ha]
  · rw [if_neg hb]
section SD
variable {G : GT} {h : AH} {c s : Nat}
theorem s_sizeL {P : Int32 → AH → Prop} {v : Nat} (hv : v < 1000) (hP : P (nI (sb_dg v)) h) (n : Nat) : L_gJ20_stringSize_16 G P (-nI v) 0 (n + 4) (h, c, s) (-10) 1 := by
  have t1 : (-nI v).toInt = -(v : Int) := sb_negT (by omega)
  have cmp : ∀ k : Nat, k < 2 ^ 31 → (-nI v ≤ -nI k ↔ k ≤ v) := fun k hk => sb_nle (by omega) hk
  rw [L_gJ20_stringSize_16]
  refine br_f (by decide) ?_
  by_cases h1 : v < 10
  · refine br_f (fun q => ?_) ?_
    · have := (cmp 10 (by decide)).mp (show -nI v ≤ -nI 10 from q); omega
    · rw [show (1 : Int32) + 0 = nI 1 by decide]
      rw [show sb_dg v = 1 by unfold sb_dg; rw [if_pos h1]] at hP; exact hP
  refine br_t ((cmp 10 (by decide)).mpr (by omega)) ?_
  rw [show (10 : Int32) * (-10) = -nI 100 by decide, show (1 : Int32) + 1 = 2 by decide, L_gJ20_stringSize_16]
  refine br_f (by decide) ?_
  by_cases h2 : v < 100
  · refine br_f (fun q => ?_) ?_
    · have := (cmp 100 (by decide)).mp q; omega
    · rw [show (2 : Int32) + 0 = nI 2 by decide]
      rw [show sb_dg v = 2 by unfold sb_dg; rw [if_neg h1, if_pos h2]] at hP; exact hP
  refine br_t ((cmp 100 (by decide)).mpr (by omega)) ?_
  rw [show (10 : Int32) * (-nI 100) = -nI 1000 by decide, show (2 : Int32) + 1 = 3 by decide, L_gJ20_stringSize_16]
  refine br_f (by decide) (br_f (fun q => ?_) ?_)
  · have := (cmp 1000 (by decide)).mp q; omega
  · rw [show (3 : Int32) + 0 = nI 3 by decide]
    rw [show sb_dg v = 3 by unfold sb_dg; rw [if_neg h1, if_neg h2, if_pos hv]] at hP; exact hP
theorem s_stringSize {P : Int32 → AH → Prop} {v : Nat} (hv : v < 1000) (hP : P (nI (sb_dg v)) h) : F_gJ20_stringSize G (h, c, s) (nI v) P :=
  jn_i (br_f (nI_pos (by omega)) (s_sizeL hv hP 99996))
theorem s_tabs : ∀ k, k < 100 → vp_nar .byte (nI (48 + k % 10)) = sb_b (48 + k % 10) ∧ vp_nar .byte (nI (48 + k / 10)) = sb_b (48 + k / 10) := by decide +kernel
/-- what getChars leaves -/
def digs (v n p : Nat) (a a' : Nat → Int32) : Prop := (∀ j, j < n ∨ p ≤ j → a' j = a j) ∧ (∀ i, i < sb_dg v → a' (p - 1 - i) = sb_b (48 + v / 10 ^ i % 10)) ∧ (sb_Fit a → sb_Fit a')
set_option maxHeartbeats 1000000 in
theorem s_getChars (hB : BaseF G) {P : Int32 → AH → Prop} {b m v n p : Nat} {a : Nat → Int32} (hb : h b = some (.inl (G.2.2.1 2, m, .inl a))) (hm : m < 2 ^ 30) (hv : v < 1000) (hp : p = n + sb_dg v) (hpm : p ≤ m)
    (hP : ∀ a', digs v n p a a' → P (nI n) (hup h b (.inl (G.2.2.1 2, m, .inl a')))) : F_gJ20_getChars G (h, c, s) (nI v) (nI p) b P := by
  obtain ⟨-, -, -, -, -, ⟨o, b6, b7⟩, ⟨t, b8, b9⟩, -⟩ := hB
  have hd := (sb_dg_in v).1
  -- the tail, for what is left below 100
  have tail : ∀ (w p' : Nat) (a1 : Nat → Int32), w < 100 → p' = n + sb_dg w → p' ≤ m → (∀ a', digs w n p' a1 a' → P (nI n) (hup h b (.inl (G.2.2.1 2, m, .inl a')))) → ∃ v_94 : Nat, StV G "java/lang/Integer" "DigitOnes" "[B" (.ref v_94) ∧ (∃ (n_95 : Nat) (f_96 : Nat → Int32) (v_97 : Int32), aB G (hup h b (.inl (G.2.2.1 2, m, .inl a1))) v_94 n_95 f_96 ∧ vp_in (-(-nI w)) n_95 ∧ f_96 (Int32.toNatClampNeg (-(-nI w))) = v_97 ∧ (∃ (n_98 : Nat) (f_99 : Nat → Int32), (hup h b (.inl (G.2.2.1 2, m, .inl a1))) b = some (.inl (G.2.2.1 2, n_98, .inl f_99)) ∧ vp_in (nI p' + (-1)) n_98 ∧ (nm (α := GZ) (hup (hup h b (.inl (G.2.2.1 2, m, .inl a1))) b (.inl (G.2.2.1 2, n_98, .inl (upd f_99 (Int32.toNatClampNeg (nI p' + (-1))) (vp_nar .byte v_97)))), c, s) (fun S_100 => jn (α := GZ → Int32 → Prop) (fun S_102 y5_103 => ((0 : Int32) = 0 → P y5_103 S_102.1) ∧ (¬ (0 : Int32) = 0 → ∃ (n_105 : Nat) (f_106 : Nat → Int32), S_102.1 b = some (.inl (G.2.2.1 2, n_105, .inl f_106)) ∧ vp_in (y5_103 + (-1)) n_105 ∧ (nm (α := GZ) (hup S_102.1 b (.inl (G.2.2.1 2, n_105, .inl (upd f_106 (Int32.toNatClampNeg (y5_103 + (-1))) (vp_nar .byte 45)))), S_102.2.1, S_102.2.2) (fun S_107 => P (y5_103 + (-1)) S_107.1)))) (fun K_101 => ((-9) ≤ -nI w → K_101 S_100 (nI p' + (-1))) ∧ (¬ (-9) ≤ -nI w → ∃ v_109 : Nat, StV G "java/lang/Integer" "DigitTens" "[B" (.ref v_109) ∧ (∃ (n_110 : Nat) (f_111 : Nat → Int32) (v_112 : Int32), aB G S_100.1 v_109 n_110 f_111 ∧ vp_in (-(-nI w)) n_110 ∧ f_111 (Int32.toNatClampNeg (-(-nI w))) = v_112 ∧ (∃ (n_113 : Nat) (f_114 : Nat → Int32), S_100.1 b = some (.inl (G.2.2.1 2, n_113, .inl f_114)) ∧ vp_in ((nI p' + (-1)) + (-1)) n_113 ∧ (nm (α := GZ) (hup S_100.1 b (.inl (G.2.2.1 2, n_113, .inl (upd f_114 (Int32.toNatClampNeg ((nI p' + (-1)) + (-1))) (vp_nar .byte v_112)))), S_100.2.1, S_100.2.2) (fun S_115 => K_101 S_115 ((nI p' + (-1)) + (-1)))))))))))) := by
    intro w p' a1 hw hp' hpm' hP'
    have hd' := (sb_dg_in w).1
    have e1 : -(-nI w) = nI w := Int32.neg_neg
    have ew : (nI w).toNatClampNeg = w := nI_clamp (by omega)
    obtain ⟨t1, t2⟩ := s_tabs w hw
    refine ⟨o, b6, 100, _, nI (48 + w % 10), Or.inr b7, by rw [e1]; exact vp_in_nI hw (by decide), by rw [e1, ew], m, a1, hup_self, by rw [sb_m1 (by omega)]; exact vp_in_nI (by omega) (by omega), nm_i (jn_i ?_)⟩
    rw [sb_m1 (by omega), nI_clamp (by omega), t1, hup_hup]
    by_cases h9 : w < 10
    · have hd1 : sb_dg w = 1 := if_pos h9
      refine br_t ((sb_nle (a := 9) (b := w) (by decide) (by omega)).mpr (by omega)) (br_t rfl ?_)
      rw [show nI (p' - 1) = nI n from congrArg nI (by omega)]
      refine hP' _ ⟨fun j hj => pk_un (by omega), fun i hi => ?_, fun hf => sb_fitU hf (sb_fitB _)⟩
      obtain rfl : i = 0 := by omega
      rw [Nat.sub_zero, pk_us, Nat.pow_zero, Nat.div_one]
    · have hd2 : sb_dg w = 2 := by rw [sb_dg, if_neg h9, if_pos hw]
      have d2 : w / 10 % 10 = w / 10 := by omega
      refine br_f (fun z => by have := (sb_nle (a := 9) (b := w) (by decide) (by omega)).mp z; omega) ?_
      refine ⟨t, b8, 100, _, nI (48 + w / 10), Or.inr b9, by rw [e1]; exact vp_in_nI hw (by decide), by rw [e1, ew], m, _, hup_self, by rw [sb_m1 (by omega)]; exact vp_in_nI (by omega) (by omega), nm_i (br_t rfl ?_)⟩
      rw [sb_m1 (by omega), nI_clamp (by omega), t2, show nI (p' - 1 - 1) = nI n from congrArg nI (by omega)]
      dsimp only
      rw [hup_hup]
      refine hP' _ ⟨fun j hj => by rw [pk_un (by omega), pk_un (by omega)], fun i hi => ?_, fun hf => sb_fitU (sb_fitU hf (sb_fitB _)) (sb_fitB _)⟩
      obtain rfl | rfl : i = 0 ∨ i = 1 := by omega
      · rw [Nat.sub_zero, pk_un (by omega), pk_us, Nat.pow_zero, Nat.div_one]
      · rw [pk_us, Nat.pow_one, d2]
  unfold F_gJ20_getChars
  refine jn_i (br_t (nI_pos' (by omega)) (br_t rfl ?_))
  show L_gJ20_getChars_22 G _ P b 0 (99998 + 1 + 1) _ _ _
  rw [L_gJ20_getChars_22]
  by_cases h100 : v < 100
  · refine br_t ((sb_nlt (a := 100) (b := v) (by decide) (by omega)).mpr h100) ?_
    have := tail v p a h100 hp hpm hP
    rw [hup_same hb] at this
    exact this
  · obtain ⟨t1, t2⟩ := s_tabs (v % 100) (Nat.mod_lt _ (by decide))
    have hdv := sb_dg100 (w := v) (by omega) (by omega)
    have hd2 := (sb_dg_in (v / 100)).1
    have er : (nI (v % 100)).toNatClampNeg = v % 100 := nI_clamp (by omega)
    rw [show v % 100 % 10 = v % 10 by omega] at t1
    rw [show v % 100 / 10 = v / 10 % 10 by omega] at t2
    have q1 : -nI v / 100 = -nI (v / 100) := sb_ndiv (by omega)
    have q2 : (-nI v / 100) * 100 - -nI v = nI (v % 100) := by rw [q1]; exact sb_nrem (by omega)
    refine br_f (fun z => h100 ((sb_nlt (a := 100) (b := v) (by decide) (by omega)).mp z)) ?_
    rw [q2, q1]
    refine ⟨o, b6, 100, _, nI (48 + v % 100 % 10), Or.inr b7, vp_in_nI (by omega) (by decide), by rw [er], m, a, hb, by rw [sb_m1 (by omega)]; exact vp_in_nI (by omega) (by omega), nm_i ?_⟩
    rw [show v % 100 % 10 = v % 10 by omega, sb_m1 (by omega), nI_clamp (by omega), t1]
    refine ⟨t, b8, 100, _, nI (48 + v % 100 / 10), Or.inr b9, vp_in_nI (by omega) (by decide), by rw [er], m, _, hup_self, by rw [sb_m1 (by omega)]; exact vp_in_nI (by omega) (by omega), nm_i ?_⟩
    rw [show v % 100 / 10 = v / 10 % 10 by omega, sb_m1 (by omega), nI_clamp (by omega), t2]
    dsimp only
    rw [hup_hup, L_gJ20_getChars_22]
    refine br_t ((sb_nlt (a := 100) (b := v / 100) (by decide) (by omega)).mpr (by omega)) ?_
    refine tail (v / 100) (p - 1 - 1) _ (by omega) (by omega) (by omega) (fun a' hd' => hP a' ⟨fun j hj => ?_, fun i hi => ?_, fun hf => hd'.2.2 (sb_fitU (sb_fitU hf (sb_fitB _)) (sb_fitB _))⟩)
    · rw [hd'.1 j (by omega), pk_un (by omega), pk_un (by omega)]
    · match i, hi with
      | 0, _ => rw [Nat.sub_zero, hd'.1 _ (by omega), pk_un (by omega), pk_us, Nat.pow_zero, Nat.div_one]
      | 1, _ => rw [hd'.1 _ (by omega), pk_us, Nat.pow_one]
      | k + 2, hi =>
        rw [show p - 1 - (k + 2) = p - 1 - 1 - 1 - k by omega, hd'.2.1 k (by omega), Nat.div_div_eq_div_mul, show 100 * 10 ^ k = 10 ^ (k + 2) by rw [show k + 2 = k + 1 + 1 from rfl, Nat.pow_succ, Nat.pow_succ]; omega]
end SD
