/-! ArrayDeque of 17 places, at most 8 used -/
set_option maxRecDepth 100000
abbrev RF (f : Nat → Option Nat) : (Nat → Int32) ⊕ (Nat → Int64) ⊕ (Nat → UInt32) ⊕ (Nat → UInt64) ⊕ (Nat → Option Nat) := .inr (.inr (.inr (.inr f)))
def DQ (G : GT) (h : AH) (a e hd n : Nat) (q : Nat → Nat) : Prop := h a = some (.inr (11, [.ref e, .int (nI hd), .int (nI ((hd + n) % 17))])) ∧ (∃ f : Nat → Option Nat, h e = some (.inl (G.2.2.1 7, 17, RF f)) ∧ ∀ i, i < n → f ((hd + i) % 17) = some (q i)) ∧ hd < 17 ∧ n ≤ 8
theorem DQ.ne {G : GT} {h : AH} {a e hd n : Nat} {q : Nat → Nat} (x : DQ G h a e hd n q) : a ≠ e := fun z => by
  obtain ⟨x1, ⟨f, x2, -⟩, -⟩ := x
  rw [← z, x1] at x2; cases x2
theorem DQ.keep {G : GT} {W : Nat → Prop} {h h' : AH} {a e hd n : Nat} {q : Nat → Nat} (x : DQ G h a e hd n q) (kp : Keep W h h') (ha : ¬ W a) (he : ¬ W e) : DQ G h' a e hd n q := by
  obtain ⟨x1, ⟨f, x2, x3⟩, x4⟩ := x
  exact ⟨kp a _ x1 ha, ⟨f, kp e _ x2 he, x3⟩, x4⟩
theorem vu_s {f : Nat → Option Nat} {k : Nat} {v : Option Nat} : va_up f k v k = v := va_up_self f k v
theorem vu_n {f : Nat → Option Nat} {k j : Nat} {v : Option Nat} (h : j ≠ k) : va_up f k v j = f j := if_neg h
section SQ1
variable {G : GT} {h : AH} {c s a e hd n : Nat} {q : Nat → Nat}
theorem s_dqInit {P : AH → Prop} {q : Nat → Nat} (ha : h a = some (.inr (11, [.null, .int 0, .int 0]))) (hc : 1 ≤ c) (hs : 17 ≤ s) (hP : ∀ (h' : AH) (e : Nat), DQ G h' a e 0 0 q → Keep (fun y => y = a) h h' → h e = none → P h') : F_gJ1_init G (h, c, s) a P := by
  refine ⟨0, 0, Nat.zero_le _, Nat.zero_le _, nm_i (nm_i ⟨by decide, ?_, ?_, by decide, fun e h1 h2 => nm_i ?_⟩)⟩
  · show 1 ≤ c - 0; omega
  · show 17 ≤ s - 0; omega
  have h1 : h e = none := h1
  have hae : a ≠ e := fun z => by rw [z, h1] at ha; cases ha
  refine ⟨_, (hup_ne hae).trans ha, Nat.lt_of_sub_eq_succ rfl, nm_i ?_⟩
  exact hP _ e ⟨hup_self, ⟨_, (hup_ne hae.symm).trans hup_self, fun i hi => absurd hi (Nat.not_lt_zero i)⟩, by omega, by omega⟩ ((Keep.new h1).put (Or.inl rfl)) h1
theorem s_dqSize {P : Int32 → AH → Prop} (x : DQ G h a e hd n q) (hP : P (nI n) h) : F_gJ1_size G (h, c, s) a P := by
  obtain ⟨x1, ⟨f, x2, x3⟩, x4, x5⟩ := x
  refine ⟨_, Or.inl ⟨_, x1, rfl⟩, _, Or.inl ⟨_, x1, rfl⟩, e, Or.inl ⟨_, x1, rfl⟩, 17, Or.inl ⟨7, .object "java/lang/Object", _, rfl, x2⟩, 0, 0, Nat.zero_le _, Nat.zero_le _, ?_⟩
  have e1 : (nI ((hd + n) % 17) - nI hd).toInt = (((hd + n) % 17 : Nat) : Int) - hd := pk_sub_toInt (by omega) (by omega)
  by_cases hw : hd + n < 17
  · refine br_t (by rw [Int32.le_iff_toInt_le, e1, Int32.toInt_zero]; omega) (nm_i ?_)
    have g0 : nI (hd + n) - nI hd = nI (hd + n - hd) := pk_sub (by omega)
    rw [show (hd + n) % 17 = hd + n by omega, g0, show hd + n - hd = n by omega]
    exact hP
  · refine br_f (fun z => by rw [Int32.le_iff_toInt_le, e1, Int32.toInt_zero] at z; omega) (nm_i ?_)
    rw [show nI ((hd + n) % 17) - nI hd + Int32.ofNat 17 = nI n from ?_]
    · exact hP
    · have g1 : nI ((hd + n) % 17) + nI 17 = nI (n + hd) := by rw [nI_add]; congr 1; omega
      have g2 : nI (n + hd) - nI hd = nI n := by rw [pk_sub (by omega)]; congr 1; omega
      rw [← g2, ← g1, Int32.sub_eq_add_neg, Int32.sub_eq_add_neg, Int32.add_assoc, Int32.add_assoc, Int32.add_comm (-nI hd)]
      rfl
theorem s_dqEmpty {P : Int32 → AH → Prop} (x : DQ G h a e hd n q) (hP : P (if n = 0 then 1 else 0) h) : F_gJ1_isEmpty G (h, c, s) a P := by
  obtain ⟨x1, -, x4, x5⟩ := x
  refine ⟨_, Or.inl ⟨_, x1, rfl⟩, _, Or.inl ⟨_, x1, rfl⟩, ?_⟩
  by_cases h0 : n = 0
  · rw [if_pos h0] at hP
    exact br_t (by rw [h0]; congr 1; omega) hP
  · rw [if_neg h0] at hP
    exact br_f (fun z => by have := (nI_eq (by omega) (by omega)).mp z; omega) hP
theorem s_inc {P : Int32 → AH → Prop} {i : Nat} (hi : i < 17) (hP : P (nI ((i + 1) % 17)) h) : F_gJ1_inc G (h, c, s) (nI i) (Int32.ofNat 17) P := by
  unfold F_gJ1_inc
  rw [nI_1]
  by_cases hw : i + 1 < 17
  · exact br_t (nI_lt (b := 17) hw (by decide)) (by rw [show (i + 1) % 17 = i + 1 by omega] at hP; exact hP)
  · refine br_f (nI_nlt (a := i + 1) (b := 17) (by omega) (by omega)) ?_
    rw [show (i + 1) % 17 = 0 by omega] at hP; exact hP
theorem s_addLast {P : AH → Prop} {v : Nat} (x : DQ G h a e hd n q) (hn : n < 8) (hv : gEl G h v)
    (hP : ∀ h' : AH, DQ G h' a e hd (n + 1) (fun i => if i < n then q i else v) → Keep (fun y => y = a ∨ y = e) h h' → P h') : F_gJ1_addLast G (h, c, s) a v P := by
  have hae := x.ne
  obtain ⟨x1, ⟨f, x2, x3⟩, x4, x5⟩ := x
  have y1 : (hup h e (.inl (G.2.2.1 7, 17, RF (va_up f (Int32.toNatClampNeg (nI ((hd + n) % 17))) (some v))))) a = _ := (hup_ne hae).trans x1
  refine ⟨e, Or.inl ⟨_, x1, rfl⟩, _, Or.inl ⟨_, x1, rfl⟩, 17, f, x2, vp_in_nI (by omega) (by decide), hv, nm_i ⟨_, Or.inl ⟨_, y1, rfl⟩, _, Or.inl ⟨_, y1, rfl⟩, 17, Or.inl ⟨7, .object "java/lang/Object", _, rfl, hup_self⟩, 0, 0, Nat.zero_le _, Nat.zero_le _, s_inc (by omega) (nm_i ⟨_, y1, Nat.lt_of_sub_eq_succ rfl, nm_i (br_f (fun z => ?_) ?_)⟩)⟩⟩
  · have := (nI_eq (by omega) (by omega)).mp z; omega
  · refine hP _ ⟨hup_self.trans (by rw [show (hd + (n + 1)) % 17 = ((hd + n) % 17 + 1) % 17 by omega]; rfl), ⟨_, (hup_ne hae.symm).trans hup_self, fun i hi => ?_⟩, x4, by omega⟩ ((Keep.up (Or.inr rfl)).put (Or.inl (Or.inl rfl)))
    rw [nI_clamp (by omega)]
    dsimp only
    by_cases hin : i < n
    · rw [if_pos hin, vu_n (by omega)]; exact x3 i hin
    · rw [if_neg hin, show i = n by omega]; exact vu_s
theorem s_removeFirst {P : Nat → AH → Prop} (x : DQ G h a e hd n q) (hn : 0 < n)
    (hP : ∀ (h' : AH) (hd' : Nat), DQ G h' a e hd' (n - 1) (fun i => q (i + 1)) → Keep (fun y => y = a ∨ y = e) h h' → P (q 0) h') : F_gJ1_removeFirst G (h, c, s) a P := by
  have hae := x.ne
  obtain ⟨x1, ⟨f, x2, x3⟩, x4, x5⟩ := x
  have e0 : f hd = some (q 0) := by have := x3 0 hn; rw [show (hd + 0) % 17 = hd by omega] at this; exact this
  have y1 : (hup h e (.inl (G.2.2.1 7, 17, RF (va_up f (Int32.toNatClampNeg (nI hd)) none)))) a = _ := (hup_ne hae).trans x1
  refine ⟨Or.inl ⟨_, x1⟩, 0, 0, Nat.zero_le _, Nat.zero_le _, e, Or.inl ⟨_, x1, rfl⟩, _, Or.inl ⟨_, x1, rfl⟩, 0, 0, Nat.zero_le _, Nat.zero_le _, 17, f, some (q 0), Or.inl ⟨7, "java/lang/Object", rfl, x2⟩, vp_in_nI x4 (by decide), by rw [nI_clamp (by omega)]; exact e0, nm_i ⟨(fun z => nomatch z), fun p hp => ?_⟩⟩
  cases hp
  refine ⟨17, f, x2, vp_in_nI x4 (by decide), nm_i ⟨17, Or.inl ⟨7, .object "java/lang/Object", _, rfl, hup_self⟩, 0, 0, Nat.zero_le _, Nat.zero_le _, s_inc x4 (nm_i ⟨_, y1, Nat.lt_of_sub_eq_succ rfl, nm_i (nm_i ⟨(fun z => nomatch z), fun p hp => ?_⟩)⟩)⟩⟩
  cases hp
  refine hP _ ((hd + 1) % 17) ⟨hup_self.trans (by rw [show ((hd + 1) % 17 + (n - 1)) % 17 = (hd + n) % 17 by omega]; rfl), ⟨_, (hup_ne hae.symm).trans hup_self, fun i hi => ?_⟩, by omega, by omega⟩ ((Keep.up (Or.inr rfl)).put (Or.inl (Or.inl rfl)))
  rw [nI_clamp (by omega), vu_n (by omega), show ((hd + 1) % 17 + i) % 17 = (hd + (i + 1)) % 17 by omega]
  exact x3 (i + 1) (by omega)
theorem s_removeLast {P : Nat → AH → Prop} (x : DQ G h a e hd n q) (hn : 0 < n)
    (hP : ∀ h' : AH, DQ G h' a e hd (n - 1) q → Keep (fun y => y = a ∨ y = e) h h' → P (q (n - 1)) h') : F_gJ1_removeLast G (h, c, s) a P := by
  have hae := x.ne
  obtain ⟨x1, ⟨f, x2, x3⟩, x4, x5⟩ := x
  have e0 : f ((hd + (n - 1)) % 17) = some (q (n - 1)) := x3 (n - 1) (by omega)
  refine ⟨Or.inl ⟨_, x1⟩, 0, 0, Nat.zero_le _, Nat.zero_le _, e, Or.inl ⟨_, x1, rfl⟩, _, Or.inl ⟨_, x1, rfl⟩, 17, Or.inl ⟨7, .object "java/lang/Object", _, rfl, x2⟩, 0, 0, Nat.zero_le _, Nat.zero_le _, ?_⟩
  have dec : ∀ P' : Int32 → AH → Prop, P' (nI ((hd + (n - 1)) % 17)) h → F_gJ1_dec G (h, 0, 0) (nI ((hd + n) % 17)) (Int32.ofNat 17) P' := by
    intro P' hp
    unfold F_gJ1_dec
    by_cases h0 : (hd + n) % 17 = 0
    · rw [h0]
      refine br_f (by decide) ?_
      rw [show (hd + (n - 1)) % 17 = 16 by omega] at hp; exact hp
    · rw [sb_m1 (by omega)]
      refine br_t (nI_pos' (by omega)) ?_
      rw [show (hd + n) % 17 - 1 = (hd + (n - 1)) % 17 by omega]; exact hp
  refine dec _ (nm_i ⟨0, 0, Nat.zero_le _, Nat.zero_le _, 17, f, some (q (n - 1)), Or.inl ⟨7, "java/lang/Object", rfl, x2⟩, vp_in_nI (by omega) (by decide), by rw [nI_clamp (by omega)]; exact e0, nm_i ⟨(fun z => nomatch z), fun p hp => ?_⟩⟩)
  cases hp
  refine ⟨_, x1, Nat.lt_of_sub_eq_succ rfl, nm_i ⟨17, f, (hup_ne hae.symm).trans x2, vp_in_nI (by omega) (by decide), nm_i (nm_i ⟨(fun z => nomatch z), fun p hp => ?_⟩)⟩⟩
  cases hp
  refine hP _ ⟨(hup_ne hae).trans hup_self, ⟨_, hup_self, fun i hi => ?_⟩, x4, by omega⟩ ((Keep.up (Or.inl rfl)).put (Or.inl (Or.inr rfl)))
  rw [nI_clamp (by omega), vu_n (by omega)]
  exact x3 i (by omega)
theorem s_ccL {P : AH → Prop} {tl z : Nat} (hz : z ≤ 17) : ∀ (d k : Nat) (f : Nat → Option Nat), k + d = z → ∀ m, (∀ f', L_gJ1_circularClear_12 G P e (nI tl) (m + 1) (hup h e (.inl (G.2.2.1 7, 17, RF f')), c, s) (nI z) (nI z)) → L_gJ1_circularClear_12 G P e (nI tl) (d + 1 + m) (hup h e (.inl (G.2.2.1 7, 17, RF f)), c, s) (nI k) (nI z) := by
  intro d
  induction d with
  | zero =>
    intro k f hk m hK
    rw [show 0 + 1 + m = m + 1 by omega, show k = z by omega]
    exact hK f
  | succ d ih =>
    intro k f hk m hK
    rw [show d + 1 + 1 + m = (d + 1 + m) + 1 by omega, L_gJ1_circularClear_12]
    refine br_f (nI_ge (by omega) (by omega)) ⟨17, f, hup_self, vp_in_nI (by omega) (by decide), nm_i ?_⟩
    rw [hup_hup, nI_1]
    exact ih (k + 1) _ (by omega) m hK
theorem s_dqClear {P : AH → Prop} {q' : Nat → Nat} (x : DQ G h a e hd n q) (hP : ∀ h' : AH, DQ G h' a e 0 0 q' → Keep (fun y => y = a ∨ y = e) h h' → P h') : F_gJ1_clear G (h, c, s) a P := by
  have hae := x.ne
  obtain ⟨x1, ⟨f, x2, x3⟩, x4, x5⟩ := x
  have hh : h = hup h e (.inl (G.2.2.1 7, 17, RF f)) := (hup_same x2).symm
  have key : ∀ (tl : Nat) (PP : AH → Prop), tl < 17 → (∀ f' : Nat → Option Nat, PP (hup h e (.inl (G.2.2.1 7, 17, RF f')))) → F_gJ1_circularClear G (h, 0, 0) e (nI hd) (nI tl) PP := by
    intro tl PP htl' fin
    refine jn_i ?_
    by_cases hw : tl < hd
    · refine br_t (nI_lt hw (by omega)) ⟨17, Or.inl ⟨7, .object "java/lang/Object", _, rfl, x2⟩, ?_⟩
      rw [show NF = (17 - hd) + 1 + (99999 - (17 - hd)) by show 100000 = _; omega]
      have := s_ccL (G := G) (h := h) (c := 0) (s := 0) (e := e) (P := PP) (tl := tl) (z := 17) (Nat.le_refl _) (17 - hd) hd f (by omega) (99999 - (17 - hd)) (fun f' => by
        rw [L_gJ1_circularClear_12]
        refine br_t (nI_le (Nat.le_refl _) (by decide)) (br_f (fun z => by have := (nI_eq (by decide) (by omega)).mp z; omega) ?_)
        rw [show 99999 - (17 - hd) = tl + 1 + (99998 - (17 - hd) - tl) by omega]
        refine s_ccL (by omega) tl 0 f' (by omega) _ (fun f'' => ?_)
        rw [L_gJ1_circularClear_12]
        exact br_t (nI_le (Nat.le_refl _) (by omega)) (br_t rfl (fin f'')))
      rw [← hh] at this
      exact this
    · refine br_f (nI_nlt (by omega) (by omega)) ?_
      rw [show NF = (tl - hd) + 1 + (99999 - (tl - hd)) by show 100000 = _; omega]
      have := s_ccL (G := G) (h := h) (c := 0) (s := 0) (e := e) (P := PP) (tl := tl) (z := tl) (by omega) (tl - hd) hd f (by omega) (99999 - (tl - hd)) (fun f' => by
        rw [L_gJ1_circularClear_12]
        exact br_t (nI_le (Nat.le_refl _) (by omega)) (br_t rfl (fin f')))
      rw [← hh] at this
      exact this
  refine ⟨e, Or.inl ⟨_, x1, rfl⟩, _, Or.inl ⟨_, x1, rfl⟩, _, Or.inl ⟨_, x1, rfl⟩, 0, 0, Nat.zero_le _, Nat.zero_le _, key _ _ (by omega) (fun f' => nm_i ⟨_, (hup_ne hae).trans x1, Nat.lt_of_sub_eq_succ rfl, nm_i ⟨_, hup_self, Nat.lt_of_sub_eq_succ rfl, nm_i ?_⟩⟩)⟩
  dsimp only
  rw [hup_hup]
  exact hP _ ⟨hup_self, ⟨f', (hup_ne hae.symm).trans hup_self, fun i hi => absurd hi (Nat.not_lt_zero i)⟩, by omega, by omega⟩ ((Keep.up (Or.inr rfl)).put (Or.inl (Or.inl rfl)))
end SQ1
