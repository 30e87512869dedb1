/-! Strings: of the world, or constants below z -/
set_option maxRecDepth 100000
def StrH (G : GT) (h : AH) (a b k n : Nat) (f : Nat → Int32) (t : Nat → Nat) : Prop := (∃ x y : Value, h a = some (.inr (14, [.ref b, .int (nI k), x, y]))) ∧ h b = some (.inl (G.2.2.1 2, (k + 1) * n, .inl f)) ∧ txB k t n f ∧ sb_Fit f
def StrL (G : GT) (a b k n : Nat) (f : Nat → Int32) (t : Nat → Nat) : Prop := LoC G a 14 ∧ LoF G a 14 0 (.ref b) ∧ LoF G a 14 1 (.int (nI k)) ∧ LoT G .byte b ((k + 1) * n) (fun j => .int (f j)) ∧ txB k t n f ∧ sb_Fit f
def StrA (G : GT) (h : AH) (a b k n : Nat) (f : Nat → Int32) (t : Nat → Nat) : Prop := StrH G h a b k n f t ∨ StrL G a b k n f t
section ST
variable {G : GT} {h : AH} {c s a b k n : Nat} {f : Nat → Int32} {t : Nat → Nat}
theorem StrA.xc (x : StrA G h a b k n f t) : aC G h a 14 := x.elim (fun ⟨⟨_, _, z⟩, _⟩ => Or.inl ⟨_, z⟩) (fun z => Or.inr z.1)
theorem StrA.xv (x : StrA G h a b k n f t) : aF G h a 14 0 (.ref b) := x.elim (fun ⟨⟨_, _, z⟩, _⟩ => Or.inl ⟨_, z, rfl⟩) (fun z => Or.inr z.2.1)
theorem StrA.xk (x : StrA G h a b k n f t) : aF G h a 14 1 (.int (nI k)) := x.elim (fun ⟨⟨_, _, z⟩, _⟩ => Or.inl ⟨_, z, rfl⟩) (fun z => Or.inr z.2.2.1)
theorem StrA.xb (x : StrA G h a b k n f t) : aB G h b ((k + 1) * n) f := x.elim (fun z => Or.inl z.2.1) (fun z => Or.inr z.2.2.2.1)
theorem StrA.xt (x : StrA G h a b k n f t) : txB k t n f := x.elim (fun z => z.2.2.1) (fun z => z.2.2.2.2.1)
theorem StrA.xf (x : StrA G h a b k n f t) : sb_Fit f := x.elim (fun z => z.2.2.2) (fun z => z.2.2.2.2.2)
theorem StrH.keep {W : Nat → Prop} {h' : AH} (x : StrH G h a b k n f t) (kp : Keep W h h') (ha : ¬ W a) (hb : ¬ W b) : StrH G h' a b k n f t := ⟨by obtain ⟨⟨p, q, z⟩, -⟩ := x; exact ⟨p, q, kp a _ z ha⟩, kp b _ x.2.1 hb, x.2.2⟩
theorem narB {k : Nat} (hk : k = 0 ∨ k = 1) : narrow .byte (.int (nI k)) = .int (nI k) ∧ fits .byte (.int (nI k)) = true := by
  rcases hk with rfl | rfl <;> exact ⟨by decide +kernel, by decide +kernel⟩
theorem s_coder (hB : BaseF G) {P : Int32 → AH → Prop} (x : StrA G h a b k n f t) (hP : P (nI k) h) : F_gJ4_coder G (h, c, s) a P :=
  ⟨1, hB.1, br_f (by decide) ⟨nI k, x.xk, (narB x.xt.k).1, hP⟩⟩
theorem s_strLen (hB : BaseF G) {P : Int32 → AH → Prop} (x : StrA G h a b k n f t) (hn : n < 2 ^ 28) (hP : P (nI n) h) : F_gJ4_length G (h, c, s) a P := by
  refine ⟨b, x.xv, (k + 1) * n, x.xb.len, x.xc, 0, 0, Nat.zero_le _, Nat.zero_le _, s_coder hB x (nm_i ?_)⟩
  rw [show Int32.ofNat ((k + 1) * n) = nI ((k + 1) * n) from rfl, g_shrk x.xt.k (by omega)]; exact hP
theorem s_strCharAt (hB : BaseF G) {P : Int32 → AH → Prop} {i : Nat} (x : StrA G h a b k n f t) (hn : n < 2 ^ 28) (hi : i < n) (hP : P (nI (t i)) h) : F_gJ4_charAt G (h, c, s) a (nI i) P := by
  have hti := x.xt.lt hi
  have hch := (pk_charN hti).1
  refine ⟨x.xc, 0, 0, Nat.zero_le _, Nat.zero_le _, 1, hB.1, br_f (by decide) ⟨nI k, x.xk, ?_⟩⟩
  rcases x.xt with ⟨rfl, xt⟩ | ⟨rfl, xt⟩
  · obtain ⟨t1, t2⟩ := xt i hi
    refine br_t rfl (nm_i (br_f (by decide) ⟨b, x.xv, 0, 0, Nat.zero_le _, Nat.zero_le _, (0 + 1) * n, x.xb.len, 0, 0, Nat.zero_le _, Nat.zero_le _, ?_⟩))
    refine s_checkIndex hB (n := (0 + 1) * n) (by omega) (by omega) (nm_i ⟨(0 + 1) * n, f, sb_b (t i), x.xb, vp_in_nI (by omega) (by omega), by rw [nI_clamp (by omega)]; exact t2, ?_⟩)
    rw [sb_and, Nat.mod_eq_of_lt t1, g_i2c hti]
    exact ⟨hch, nm_i ⟨hch, hP⟩⟩
  · obtain ⟨t1, t2, t3⟩ := xt i hi
    refine br_f (by decide) (nm_i (br_t rfl ⟨b, x.xv, 0, 0, Nat.zero_le _, Nat.zero_le _, 0, 0, Nat.zero_le _, Nat.zero_le _, ?_⟩))
    refine s_checkIndexB hB (m := n) x.xb.len hi (by omega) (nm_i ⟨0, 0, Nat.zero_le _, Nat.zero_le _, ?_⟩)
    exact s_getChar hB x.xb (by omega) (by omega) hti t2 t3 (nm_i ⟨hch, nm_i ⟨hch, hP⟩⟩)
theorem s_sbCharAt (hB : BaseF G) {P : Int32 → AH → Prop} {a b k m n i : Nat} {ml : Int32} {f : Nat → Int32} {t : Nat → Nat} (x : SBA G h a b k ml m n f t) (hi : i < n) (hP : P (nI (t i)) h) : F_gJ3_charAt G (h, c, s) a (nI i) P := by
  obtain ⟨x1, x2, x3, x4, x5, x6⟩ := x
  have hti := x5.lt hi
  have hch := (pk_charN hti).1
  have hk := x5.k
  refine ⟨Or.inl ⟨_, x1⟩, 0, 0, Nat.zero_le _, Nat.zero_le _, nI k, Or.inl ⟨_, x1, rfl⟩, b, Or.inl ⟨_, x1, rfl⟩, nI n, Or.inl ⟨_, x1, rfl⟩, (k + 1) * m, Or.inl ⟨2, .byte, _, rfl, x2⟩, 0, 0, Nat.zero_le _, Nat.zero_le _, ?_⟩
  have e : (if Int32.ofNat ((k + 1) * m) >>> (nI k &&& 31) < nI n then Int32.ofNat ((k + 1) * m) >>> (nI k &&& 31) else nI n) = nI n := by
    rw [show Int32.ofNat ((k + 1) * m) = nI ((k + 1) * m) from rfl, g_shrk hk (by omega)]; exact if_neg (nI_nlt x3 (by omega))
  rw [e]
  refine s_checkIndex hB hi (by omega) (nm_i ?_)
  rcases x5 with ⟨rfl, xt⟩ | ⟨rfl, xt⟩
  · obtain ⟨t1, t2⟩ := xt i hi
    refine br_t rfl ⟨(0 + 1) * m, f, sb_b (t i), Or.inl x2, vp_in_nI (by omega) (by omega), by rw [nI_clamp (by omega)]; exact t2, ?_⟩
    rw [sb_and, Nat.mod_eq_of_lt t1, g_i2c hti]
    exact ⟨hch, nm_i ⟨hch, hP⟩⟩
  · obtain ⟨t1, t2, t3⟩ := xt i hi
    refine br_f (by decide) ⟨0, 0, Nat.zero_le _, Nat.zero_le _, ?_⟩
    exact s_getChar hB (Or.inl x2) (by omega) (by omega) hti t2 t3 (nm_i ⟨hch, nm_i ⟨hch, hP⟩⟩)
theorem s_sbInit (hB : BaseF G) {P : AH → Prop} {a : Nat} {t : Nat → Nat} (ha : h a = some (.inr (13, [.null, .int 0, .int 0, .int 0]))) (hc : 1 ≤ c) (hs : 16 ≤ s)
    (hP : ∀ (h' : AH) (b : Nat) (f : Nat → Int32), SBA G h' a b 0 0 16 0 f t → Keep (fun y => y = a) h h' → h b = none → P h') : F_gJ3_init G (h, c, s) a P := by
  refine ⟨c, s, Nat.le_refl _, Nat.le_refl _, 1, hB.1, br_f (by decide) ⟨by decide, hc, hs, by decide, fun b h1 h2 => nm_i ?_⟩⟩
  have h1 : h b = none := h1
  have hab : a ≠ b := fun z => by rw [z, h1] at ha; cases ha
  refine ⟨_, (hup_ne hab).trans ha, Nat.lt_of_sub_eq_succ rfl, nm_i ⟨_, hup_self, Nat.lt_of_sub_eq_succ rfl, nm_i (nm_i ?_)⟩⟩
  dsimp only
  rw [hup_hup]
  exact hP _ b (fun _ => 0) ⟨hup_self, (hup_ne hab.symm).trans hup_self, by omega, by omega, Or.inl ⟨rfl, fun i hi => absurd hi (Nat.not_lt_zero i)⟩, sb_fit0⟩ ((Keep.new h1).put (Or.inl rfl)) h1
theorem s_append3 (hB : BaseF G) {P : Nat → AH → Prop} {a b k ch : Nat} {ml : Int32} {m n : Nat} {f : Nat → Int32} {t : Nat → Nat} (x : SBA G h a b k ml m n f t) (hn : n < 60) (hch : ch < 65536) (hc : 2 ≤ c) (hs : 480 ≤ s)
    (hP : ∀ (h' : AH) (b' k' m' : Nat) (f' : Nat → Int32), SBA G h' a b' k' ml m' (n + 1) f' (tcat t n ch) → (k = 0 → ch < 256 → k' = 0) → Keep (fun y => y = a ∨ y = b) h h' → (b' = b ∨ h b' = none) → P a h') : F_gJ3_append_3 G (h, c, s) a (nI ch) P :=
  ⟨Or.inl ⟨_, x.1⟩, c, s, Nat.le_refl _, Nat.le_refl _, s_appendC hB x hn hch hc hs (fun h' b' k' m' f' q1 q2 q3 q4 => nm_i (hP h' b' k' m' f' q1 q2 q3 q4))⟩
theorem s_setLength (hB : BaseF G) {P : AH → Prop} {a b k : Nat} {ml : Int32} {m n : Nat} {f : Nat → Int32} {t : Nat → Nat} (x : SBA G h a b k ml m n f t)
    (hP : ∀ (h' : AH) (ml' : Int32), SBA G h' a b k ml' m 0 f t → (n = 0 → ml' = ml) → Keep (fun y => y = a) h h' → P h') : F_gJ3_setLength G (h, c, s) a 0 P := by
  obtain ⟨x1, x2, x3, x4, x5, x6⟩ := id x
  have hab := x.ne
  refine ⟨Or.inl ⟨_, x1⟩, 0, 0, Nat.zero_le _, Nat.zero_le _, br_t (by decide) ⟨Or.inl ⟨_, x1⟩, 0, 0, Nat.zero_le _, Nat.zero_le _, ?_⟩⟩
  have hk := x5.k
  -- no room is wanted
  refine ⟨b, Or.inl ⟨_, x1, rfl⟩, (k + 1) * m, Or.inl ⟨2, .byte, _, rfl, x2⟩, nI k, Or.inl ⟨_, x1, rfl⟩, ?_⟩
  rw [show Int32.ofNat ((k + 1) * m) = nI ((k + 1) * m) from rfl, g_shrk hk (by omega)]
  have e1 : (nI 0 - nI m).toInt = ((0 : Nat) : Int) - m := pk_sub_toInt (by omega) (by omega)
  have t0 : txB k t 0 f := by
    rcases hk with rfl | rfl
    · exact Or.inl ⟨rfl, fun i hi => absurd hi (Nat.not_lt_zero i)⟩
    · exact Or.inr ⟨rfl, fun i hi => absurd hi (Nat.not_lt_zero i)⟩
  refine br_t (by rw [show (0 : Int32) = nI 0 from rfl, Int32.le_iff_toInt_le, e1, nI_toInt (by decide)]; omega) (nm_i ⟨nI n, Or.inl ⟨_, x1, rfl⟩, br_t (nI_pos' (by omega)) ⟨nI n, Or.inl ⟨_, x1, rfl⟩, ?_⟩⟩)
  by_cases h0 : n = 0
  · subst h0
    refine br_t (by decide) ⟨_, x1, Nat.lt_of_sub_eq_succ rfl, nm_i (nm_i ?_)⟩
    exact hP _ ml ⟨hup_self, (hup_ne hab.symm).trans x2, by omega, x4, t0, x6⟩ (fun _ => rfl) (Keep.up rfl)
  · refine br_f (nI_nle (by omega) (by omega)) ⟨_, x1, Nat.lt_of_sub_eq_succ rfl, nm_i ⟨_, hup_self, Nat.lt_of_sub_eq_succ rfl, nm_i (nm_i ?_)⟩⟩
    dsimp only
    rw [hup_hup]
    exact hP _ 1 ⟨hup_self, (hup_ne hab.symm).trans x2, by omega, x4, t0, x6⟩ (fun z => absurd z h0) (Keep.up rfl)
end ST
