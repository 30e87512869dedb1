/-! letters in and out of bytes; inflate -/
set_option maxRecDepth 100000
theorem g_two_i {i : Nat} (hi : i < 2 ^ 29) : nI i <<< ((1 : Int32) &&& 31) = nI (2 * i) ∧ nI i <<< ((1 : Int32) &&& 31) + 1 = nI (2 * i + 1) := by
  rw [g_shl1]; exact ⟨rfl, nI_1 _⟩
section SC
variable {G : GT} {h : AH} {c s : Nat}
theorem s_putChar (hB : BaseF G) {P : AH → Prop} {b M i ch : Nat} {f : Nat → Int32} (hb : h b = some (.inl (G.2.2.1 2, M, .inl f))) (hi : 2 * i + 1 < M) (hM : M < 2 ^ 29) (hch : ch < 65536)
    (hP : P (hup h b (.inl (G.2.2.1 2, M, .inl (upd (upd f (2 * i) (sb_b ch)) (2 * i + 1) (sb_b (ch / 256))))))) : F_gJ5_putChar G (h, c, s) b (nI i) (nI ch) P := by
  obtain ⟨-, b2, b3, b4, -⟩ := hB
  obtain ⟨e1, e2⟩ := g_two_i (i := i) (by omega)
  refine ⟨1, b2, jn_i (br_f (by decide) ⟨0, b3, M, f, hb, ?_, nm_i ⟨8, b4, M, _, hup_self, ?_, nm_i ?_⟩⟩)⟩
  · rw [e1]; exact vp_in_nI (by omega) (by omega)
  · rw [e2]; exact vp_in_nI (by omega) (by omega)
  · dsimp only
    rw [e2, e1, nI_clamp (by omega), nI_clamp (by omega), sb_shr0, g_shr8 (by omega), hup_hup]
    rw [show vp_nar .byte (nI ch).toInt8.toInt32 = sb_b ch from g_nb ch, show vp_nar .byte (nI (ch / 256)).toInt8.toInt32 = sb_b (ch / 256) from g_nb _]
    exact hP
theorem s_getChar (hB : BaseF G) {P : Int32 → AH → Prop} {b M i ch : Nat} {f : Nat → Int32} (hb : aB G h b M f) (hi : 2 * i + 1 < M) (hM : M < 2 ^ 29) (hch : ch < 65536) (h1 : f (2 * i) = sb_b ch) (h2 : f (2 * i + 1) = sb_b (ch / 256)) (hP : P (nI ch) h) : F_gJ5_getChar G (h, c, s) b (nI i) P := by
  obtain ⟨-, b2, b3, b4, -⟩ := hB
  obtain ⟨e1, e2⟩ := g_two_i (i := i) (by omega)
  refine ⟨1, b2, jn_i (br_f (by decide) ⟨M, f, sb_b ch, hb, ?_, ?_, 0, b3, M, f, sb_b (ch / 256), hb, ?_, ?_, 8, b4, ?_⟩)⟩
  · rw [e1]; exact vp_in_nI (by omega) (by omega)
  · rw [e1, nI_clamp (by omega)]; exact h1
  · rw [e2]; exact vp_in_nI (by omega) (by omega)
  · rw [e2, nI_clamp (by omega)]; exact h2
  · rw [g_two hch]; exact ⟨(pk_charN hch).1, hP⟩
theorem s_utfLen {P : Int32 → AH → Prop} {b m : Nat} (hb : aL G h b (2 * m)) (hm : m < 2 ^ 29) (hP : P (nI m) h) : F_gJ5_length G (h, c, s) b P :=
  ⟨2 * m, hb, by rw [show Int32.ofNat (2 * m) = nI (2 * m) from rfl, g_shr1 (by omega), show 2 * m / 2 = m by omega]; exact hP⟩
theorem s_checkIndex (hB : BaseF G) {P : AH → Prop} {i n : Nat} (hi : i < n) (hn : n < 2 ^ 31) (hP : P h) : F_gJ4_checkIndex G (h, c, s) (nI i) (nI n) P := by
  obtain ⟨-, -, -, -, -, -, -, -, -, ⟨v, b⟩, -⟩ := hB
  exact ⟨v, b, 0, 0, Nat.zero_le _, Nat.zero_le _, s_pcheckIndex hi hn (nm_i hP)⟩
theorem s_checkIndexB (hB : BaseF G) {P : AH → Prop} {i b m : Nat} (hb : aL G h b (2 * m)) (hi : i < m) (hm : m < 2 ^ 29) (hP : P h) : F_gJ5_checkIndex G (h, c, s) (nI i) b P :=
  ⟨0, 0, Nat.zero_le _, Nat.zero_le _, s_utfLen hb hm (nm_i ⟨0, 0, Nat.zero_le _, Nat.zero_le _, s_checkIndex hB hi (by omega) (nm_i hP)⟩)⟩
theorem s_putCharSB (hB : BaseF G) {P : AH → Prop} {b m i ch : Nat} {f : Nat → Int32} (hb : h b = some (.inl (G.2.2.1 2, 2 * m, .inl f))) (hi : i < m) (hM : m < 2 ^ 28) (hch : ch < 65536)
    (hP : P (hup h b (.inl (G.2.2.1 2, 2 * m, .inl (upd (upd f (2 * i) (sb_b ch)) (2 * i + 1) (sb_b (ch / 256))))))) : F_gJ5_putCharSB G (h, c, s) b (nI i) (nI ch) P :=
  ⟨0, 0, Nat.zero_le _, Nat.zero_le _, s_checkIndexB hB (Or.inl ⟨2, .byte, _, rfl, hb⟩) hi (by omega) (nm_i ⟨0, 0, Nat.zero_le _, Nat.zero_le _, s_putChar hB hb (by omega) (by omega) hch (nm_i hP)⟩)⟩
theorem s_boundsOff (hB : BaseF G) {P : AH → Prop} {o n b m : Nat} (hb : aL G h b (2 * m)) (hon : o + n ≤ m) (hm : m < 2 ^ 29) (hP : P h) : F_gJ5_checkBoundsOffCount G (h, c, s) (nI o) (nI n) b P := by
  obtain ⟨-, -, -, -, -, -, -, -, -, ⟨v, bb⟩, -⟩ := hB
  refine ⟨0, 0, Nat.zero_le _, Nat.zero_le _, s_utfLen hb hm (nm_i ⟨0, 0, Nat.zero_le _, Nat.zero_le _, v, bb, 0, 0, Nat.zero_le _, Nat.zero_le _, ?_⟩)⟩
  unfold F_gJ23_checkFromIndexSize
  have l1 : m ||| o < 2 ^ 31 := Nat.or_lt_two_pow (by omega) (by omega)
  have l2 : (m ||| o) ||| n < 2 ^ 31 := Nat.or_lt_two_pow l1 (by omega)
  refine jn_i (br_f ?_ (br_t ?_ (nm_i (nm_i hP))))
  · rw [g_or, g_or]; exact nI_pos l2
  · rw [show nI m - nI o = nI (m - o) from pk_sub (by omega)]; exact nI_le (by omega) (by omega)
/-- StringUTF16.inflate: the first n letters, from bytes to pairs of bytes -/
theorem s_inflL (hB : BaseF G) {P : AH → Prop} {b0 b m0 m n : Nat} {t : Nat → Nat} {f0 : Nat → Int32} (hb0 : h b0 = some (.inl (G.2.2.1 2, m0, .inl f0))) (hne : b0 ≠ b) (ht : ∀ i, i < n → t i < 256 ∧ f0 i = sb_b (t i)) (hnm0 : n ≤ m0) (hnm : n ≤ m) (hm : m < 2 ^ 28) (hm0 : m0 < 2 ^ 28)
    (hP : ∀ f : Nat → Int32, (∀ i, i < n → f (2 * i) = sb_b (t i) ∧ f (2 * i + 1) = sb_b (t i / 256)) → sb_Fit f → P (hup h b (.inl (G.2.2.1 2, 2 * m, .inl f)))) :
    ∀ (d k : Nat) (f : Nat → Int32), k + d = n → (∀ i, i < k → f (2 * i) = sb_b (t i) ∧ f (2 * i + 1) = sb_b (t i / 256)) → sb_Fit f → ∀ e, L_gJ5_inflate_10 G P b0 b (nI n) (d + 1 + e) (hup h b (.inl (G.2.2.1 2, 2 * m, .inl f)), c, s) (nI k) (nI k) (nI k) := by
  intro d
  induction d with
  | zero =>
    intro k f hk hf hfit e
    rw [show 0 + 1 + e = e + 1 by omega, L_gJ5_inflate_10]
    exact br_t (nI_le (by omega) (by omega)) (hP f (fun i hi => hf i (by omega)) hfit)
  | succ d ih =>
    intro k f hk hf hfit e
    obtain ⟨t1, t2⟩ := ht k (by omega)
    rw [show d + 1 + 1 + e = (d + 1 + e) + 1 by omega, L_gJ5_inflate_10]
    refine br_f (nI_ge (by omega) (by omega)) ⟨m0, f0, sb_b (t k), Or.inl ((hup_ne hne).trans hb0), vp_in_nI (by omega) (by omega), by rw [nI_clamp (by omega)]; exact t2, 0, 0, Nat.zero_le _, Nat.zero_le _, ?_⟩
    rw [sb_and, Nat.mod_eq_of_lt t1]
    refine s_putChar hB (ch := t k) hup_self (by omega) (by omega) (by omega) (nm_i ?_)
    rw [hup_hup, nI_1]
    refine ih (k + 1) _ (by omega) (fun i hi => ?_) (sb_fitU (sb_fitU hfit (sb_fitB _)) (sb_fitB _)) e
    by_cases hik : i = k
    · subst hik
      exact ⟨by rw [pk_un (by omega), pk_us], pk_us⟩
    · obtain ⟨g1, g2⟩ := hf i (by omega)
      exact ⟨by rw [pk_un (by omega), pk_un (by omega)]; exact g1, by rw [pk_un (by omega), pk_un (by omega)]; exact g2⟩
end SC
