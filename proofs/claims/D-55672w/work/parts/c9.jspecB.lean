/-! texts in builders: capacity, letters, inflate -/
set_option maxRecDepth 100000
/-- bytes f hold the first n letters of t, by coder k -/
def txB (k : Nat) (t : Nat → Nat) (n : Nat) (f : Nat → Int32) : Prop := (k = 0 ∧ ∀ i, i < n → t i < 256 ∧ f i = sb_b (t i)) ∨ (k = 1 ∧ ∀ i, i < n → t i < 65536 ∧ f (2 * i) = sb_b (t i) ∧ f (2 * i + 1) = sb_b (t i / 256))
theorem txB.k {k : Nat} {t : Nat → Nat} {n : Nat} {f : Nat → Int32} (x : txB k t n f) : k = 0 ∨ k = 1 := x.imp And.left And.left
theorem txB.keep {k : Nat} {t : Nat → Nat} {n : Nat} {f f' : Nat → Int32} (x : txB k t n f) (h : ∀ j, j < (k + 1) * n → f' j = f j) : txB k t n f' := by
  rcases x with ⟨rfl, x⟩ | ⟨rfl, x⟩
  · exact Or.inl ⟨rfl, fun i hi => ⟨(x i hi).1, by rw [h i (by omega)]; exact (x i hi).2⟩⟩
  · exact Or.inr ⟨rfl, fun i hi => ⟨(x i hi).1, by rw [h _ (by omega)]; exact (x i hi).2.1, by rw [h _ (by omega)]; exact (x i hi).2.2⟩⟩
theorem txB.lt {k : Nat} {t : Nat → Nat} {n : Nat} {f : Nat → Int32} (x : txB k t n f) {i : Nat} (hi : i < n) : t i < 65536 := by
  rcases x with ⟨rfl, x⟩ | ⟨rfl, x⟩
  · have := (x i hi).1; omega
  · exact (x i hi).1
theorem txB.congr {k : Nat} {t t' : Nat → Nat} {n : Nat} {f : Nat → Int32} (x : txB k t n f) (h : ∀ j, j < n → t' j = t j) : txB k t' n f := by
  rcases x with ⟨rfl, x⟩ | ⟨rfl, x⟩
  · exact Or.inl ⟨rfl, fun i hi => by rw [h i hi]; exact x i hi⟩
  · exact Or.inr ⟨rfl, fun i hi => by rw [h i hi]; exact x i hi⟩
/-- a builder at a, its bytes at b: m letters' room, n of them used -/
def SBA (G : GT) (h : AH) (a b k : Nat) (ml : Int32) (m n : Nat) (f : Nat → Int32) (t : Nat → Nat) : Prop := h a = some (.inr (13, [.ref b, .int (nI k), .int ml, .int (nI n)])) ∧ h b = some (.inl (G.2.2.1 2, (k + 1) * m, .inl f)) ∧ n ≤ m ∧ (16 ≤ m ∧ m ≤ 120) ∧ txB k t n f ∧ sb_Fit f
theorem SBA.ne {G : GT} {h : AH} {a b k : Nat} {ml : Int32} {m n : Nat} {f : Nat → Int32} {t : Nat → Nat} (x : SBA G h a b k ml m n f t) : a ≠ b := fun q => by
  obtain ⟨x1, x2, -⟩ := x
  rw [← q, x1] at x2; cases x2
theorem SBA.keep {G : GT} {W : Nat → Prop} {h h' : AH} {a b k : Nat} {ml : Int32} {m n : Nat} {f : Nat → Int32} {t : Nat → Nat} (x : SBA G h a b k ml m n f t) (kp : Keep W h h') (ha : ¬ W a) (hb : ¬ W b) : SBA G h' a b k ml m n f t := ⟨kp a _ x.1 ha, kp b _ x.2.1 hb, x.2.2⟩
theorem g_shlk {k m : Nat} (hk : k = 0 ∨ k = 1) : nI m <<< (nI k &&& 31) = nI ((k + 1) * m) := by
  rcases hk with rfl | rfl
  · rw [show nI 0 = 0 from rfl, sb_shl0]; congr 1; omega
  · rw [show nI 1 = 1 from rfl, g_shl1]
theorem g_shrk {k m : Nat} (hk : k = 0 ∨ k = 1) (hm : m < 2 ^ 29) : nI ((k + 1) * m) >>> (nI k &&& 31) = nI m := by
  rcases hk with rfl | rfl
  · rw [show nI 0 = 0 from rfl, sb_shr0]; congr 1; omega
  · rw [show nI 1 = 1 from rfl, g_shr1 (by omega)]; congr 1; omega
theorem va_cpy0 {f g : Nat → Int32} {n j : Nat} (h : j < n) : va_cpy f g 0 0 n j = f j := sb_cpy0 h
section SB
variable {G : GT} {h : AH} {c s : Nat}
theorem s_isLatin1 (hB : BaseF G) {P : Int32 → AH → Prop} {a b k : Nat} {ml : Int32} {m n : Nat} {f : Nat → Int32} {t : Nat → Nat} (x : SBA G h a b k ml m n f t) (hP : P (if k = 0 then 1 else 0) h) : F_gJ2_isLatin1 G (h, c, s) a P := by
  obtain ⟨b1, -⟩ := hB
  refine ⟨1, b1, br_f (by decide) ⟨nI k, Or.inl ⟨_, x.1, rfl⟩, ?_⟩⟩
  rcases x.2.2.2.2.1.k with rfl | rfl
  · exact br_t rfl hP
  · exact br_f (by decide) hP
theorem s_sbLen {P : Int32 → AH → Prop} {a b k : Nat} {ml : Int32} {m n : Nat} {f : Nat → Int32} {t : Nat → Nat} (x : SBA G h a b k ml m n f t) (hP : P (nI n) h) : F_gJ3_length G (h, c, s) a P :=
  ⟨Or.inl ⟨_, x.1⟩, 0, 0, Nat.zero_le _, Nat.zero_le _, nI n, Or.inl ⟨_, x.1, rfl⟩, nm_i hP⟩
theorem s_copyOfB {P : Nat → AH → Prop} {b m q : Nat} {f : Nat → Int32} (hb : h b = some (.inl (G.2.2.1 2, m, .inl f))) (hf : sb_Fit f) (hmq : m < q) (hq : q ≤ 65536) (hc : 1 ≤ c) (hs : q ≤ s) (hP : ∀ b', h b' = none → G.1 ≤ b' → P b' (hup h b' (.inl (G.2.2.1 2, q, .inl (va_cpy f (fun _ => 0) 0 0 m))))) : F_gJ12_copyOf_3 G (h, c, s) b (nI q) P := by
  refine ⟨m, Or.inl ⟨2, .byte, _, rfl, hb⟩, br_f (fun z => by have := (nI_eq (by omega) (by omega)).mp (show nI q = nI m from z); omega) ⟨nI_pos (by omega), hc, by rw [nI_clamp (by omega)]; exact hs, by rw [nI_clamp (by omega)]; show q * 1 ≤ _; omega, fun b' h1 h2 => nm_i ?_⟩⟩
  have h1 : h b' = none := h1
  have hne : b ≠ b' := fun z => by rw [z, h1] at hb; cases hb
  have hb2 : (hup h b' (.inl (G.2.2.1 2, (nI q).toNatClampNeg, .inl (fun _ => 0)))) b = some (.inl (G.2.2.1 2, m, .inl f)) := by rw [hup_ne hne]; exact hb
  refine ⟨m, Or.inl ⟨2, .byte, _, rfl, hb2⟩, m, q, f, fun _ => 0, Or.inl hb2, by rw [nI_clamp (by omega)]; exact hup_self, by decide, by decide, ?_⟩
  have ei : (if nI q < Int32.ofNat m then nI q else Int32.ofNat m) = nI m := if_neg (nI_nlt (by omega) (by omega))
  rw [ei, nI_clamp (n := m) (by omega), sb_cl0, nI_clamp (n := q) (by omega)]
  refine ⟨nI_pos (by omega), by omega, by omega, fun i _ => hf _, nm_i ?_⟩
  rw [hup_hup]
  exact hP b' h1 h2
theorem s_newCap {P : Int32 → AH → Prop} {a b k : Nat} {ml : Int32} {m n q : Nat} {f : Nat → Int32} {t : Nat → Nat} (x : SBA G h a b k ml m n f t) (hq : q ≤ 60) (hmq : m < q) (hq2 : q ≤ 2 * m + 2) (hP : P (nI (2 * m + 2)) h) : F_gJ2_newCapacity G (h, c, s) a (nI q) P := by
  have hk := x.2.2.2.2.1.k
  have hm := x.2.2.2.1
  have f1 : aF G h a 13 1 (.int (nI k)) := Or.inl ⟨_, x.1, rfl⟩
  refine ⟨b, Or.inl ⟨_, x.1, rfl⟩, (k + 1) * m, Or.inl ⟨2, .byte, _, rfl, x.2.1⟩, nI k, f1, nI k, f1, 0, 0, Nat.zero_le _, Nat.zero_le _, ?_⟩
  have e1 : nI q <<< (nI k &&& 31) - Int32.ofNat ((k + 1) * m) = nI ((k + 1) * q - (k + 1) * m) := by
    rw [g_shlk hk]; exact pk_sub (Nat.mul_le_mul_left _ (by omega))
  have e2 : Int32.ofNat ((k + 1) * m) + (2 : Int32) <<< (nI k &&& 31) = nI ((k + 1) * m + 2 * (k + 1)) := by
    rw [show (2 : Int32) = nI 2 from rfl, g_shlk hk, show (k + 1) * 2 = 2 * (k + 1) by omega]; exact nI_add _ _
  rw [e1, e2]
  rcases hk with rfl | rfl
  · have e3 : (0 + 1) * m + 2 * (0 + 1) = (0 + 1) * m + 2 := by omega
    rw [e3]
    refine s_newLength (a := (0 + 1) * m) (by omega) (by omega) (nm_i (br_f (fun z => ?_) ⟨nI 0, f1, ?_⟩))
    · have := (nI_eq (a := (0 + 1) * m + max ((0 + 1) * q - (0 + 1) * m) ((0 + 1) * m + 2)) (b := 2147483647) (by omega) (by decide)).mp z; omega
    · rw [show nI 0 = 0 from rfl, sb_shr0, show (0 + 1) * m + max ((0 + 1) * q - (0 + 1) * m) ((0 + 1) * m + 2) = 2 * m + 2 by omega]; exact hP
  · -- growth by m + 2 letters, 2 bytes each
    unfold F_gJ21_newLength
    have e4 : nI ((1 + 1) * m) + (if nI ((1 + 1) * q - (1 + 1) * m) < nI ((1 + 1) * m + 2 * (1 + 1)) then nI ((1 + 1) * m + 2 * (1 + 1)) else nI ((1 + 1) * q - (1 + 1) * m)) = nI ((1 + 1) * (2 * m + 2)) := by
      by_cases z : (1 + 1) * q - (1 + 1) * m < (1 + 1) * m + 2 * (1 + 1)
      · rw [if_pos (nI_lt z (by omega)), nI_add]; congr 1; omega
      · rw [if_neg (nI_nlt (by omega) (by omega)), nI_add]; congr 1; omega
    refine jn_i (br_f ?_ (br_f ?_ ?_))
    · rw [show Int32.ofNat ((1 + 1) * m) = nI ((1 + 1) * m) from rfl, e4]; exact nI_nle (by omega) (by omega)
    · rw [show Int32.ofNat ((1 + 1) * m) = nI ((1 + 1) * m) from rfl, e4]; exact nI_nlt (a := 2147483639) (b := (1 + 1) * (2 * m + 2)) (by omega) (by omega)
    · rw [show Int32.ofNat ((1 + 1) * m) = nI ((1 + 1) * m) from rfl, e4]
      refine nm_i (br_f (fun z => ?_) ⟨nI 1, f1, ?_⟩)
      · have := (nI_eq (a := (1 + 1) * (2 * m + 2)) (b := 2147483647) (by omega) (by decide)).mp z; omega
      · rw [g_shrk (Or.inr rfl) (by omega)]; exact hP
/-- ensureCapacityInternal: room for q letters -/
theorem s_ensure {P : AH → Prop} {a b k : Nat} {ml : Int32} {m n q : Nat} {f : Nat → Int32} {t : Nat → Nat} (x : SBA G h a b k ml m n f t) (hq : q ≤ 60) (hq2 : q ≤ 2 * m + 2) (hc : 1 ≤ c) (hs : 240 ≤ s)
    (hP : ∀ (h' : AH) (b' m' : Nat) (f' : Nat → Int32), SBA G h' a b' k ml m' n f' t → q ≤ m' → Keep (fun y => y = a) h h' → (b' = b ∨ h b' = none) → P h') : F_gJ2_ensureCapacityInternal G (h, c, s) a (nI q) P := by
  have hk := x.2.2.2.2.1.k
  have hm := x.2.2.2.1
  have hnm := x.2.2.1
  have f1 : aF G h a 13 1 (.int (nI k)) := Or.inl ⟨_, x.1, rfl⟩
  refine ⟨b, Or.inl ⟨_, x.1, rfl⟩, (k + 1) * m, Or.inl ⟨2, .byte, _, rfl, x.2.1⟩, nI k, f1, ?_⟩
  rw [show Int32.ofNat ((k + 1) * m) = nI ((k + 1) * m) from rfl, g_shrk hk (by omega)]
  have e1 : (nI q - nI m).toInt = (q : Int) - m := pk_sub_toInt (by omega) (by omega)
  by_cases hqm : q ≤ m
  · exact br_t (by rw [Int32.le_iff_toInt_le, e1, Int32.toInt_zero]; omega) (hP h b m f x hqm Keep.rfl' (Or.inl rfl))
  · refine br_f (fun z => by rw [Int32.le_iff_toInt_le, e1, Int32.toInt_zero] at z; omega) ⟨b, Or.inl ⟨_, x.1, rfl⟩, Or.inl ⟨_, x.1⟩, 0, 0, Nat.zero_le _, Nat.zero_le _, s_newCap x hq (by omega) hq2 (nm_i ⟨nI k, f1, 1, 240, hc, hs, ?_⟩)⟩
    dsimp only
    rw [g_shlk hk]
    have hle : (k + 1) * m < (k + 1) * (2 * m + 2) := Nat.mul_lt_mul_of_pos_left (by omega) (by omega)
    have hle2 : (k + 1) * (2 * m + 2) ≤ 240 := by rcases hk with rfl | rfl <;> omega
    refine s_copyOfB x.2.1 x.2.2.2.2.2 hle (by omega) (Nat.le_refl _) hle2 (fun b' h1 h2 => nm_i ?_)
    have hab : a ≠ b' := fun z => by have := x.1; rw [z, h1] at this; cases this
    refine ⟨_, (hup_ne hab).trans x.1, Nat.lt_of_sub_eq_succ rfl, nm_i ?_⟩
    refine hP _ b' (2 * m + 2) _ ⟨hup_self, (hup_ne hab.symm).trans hup_self, by omega, by omega, ?_, sb_fitC x.2.2.2.2.2 sb_fit0⟩ (by omega) ?_ (Or.inr h1)
    · exact x.2.2.2.2.1.keep (fun j hj => va_cpy0 (Nat.lt_of_lt_of_le hj (Nat.mul_le_mul_left _ hnm)))
    · exact (Keep.new h1).trans (Keep.up rfl)
end SB
