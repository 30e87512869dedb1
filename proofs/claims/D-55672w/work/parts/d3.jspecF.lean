/-! builders: append of a number, of a text; a number's text; ranges -/
set_option maxRecDepth 100000
theorem sb_dg3 {v : Nat} (hv : v < 1000) : sb_dg v ≤ 3 := by
  unfold sb_dg
  by_cases h1 : v < 10
  · rw [if_pos h1]; omega
  · rw [if_neg h1]
    by_cases h2 : v < 100
    · rw [if_pos h2]; omega
    · rw [if_neg h2, if_pos hv]; omega
section SG
variable {G : GT} {h : AH} {c s : Nat}
/-- append of a number below 1000 to a builder of single bytes -/
theorem s_appendI (hB : BaseF G) {P : Nat → AH → Prop} {a b v : Nat} {ml : Int32} {m n : Nat} {f : Nat → Int32} {t : Nat → Nat} (x : SBA G h a b 0 ml m n f t) (hn : n + sb_dg v ≤ 60) (hv : v < 1000) (hc : 1 ≤ c) (hs : 240 ≤ s)
    (hP : ∀ (h' : AH) (b' m' : Nat) (f' : Nat → Int32), SBA G h' a b' 0 ml m' (n + sb_dg v) f' (sb_cat t n (sb_dec v)) → Keep (fun y => y = a ∨ y = b) h h' → (b' = b ∨ h b' = none) → P a h') : F_gJ3_append_2 G (h, c, s) a (nI v) P := by
  have hm := x.2.2.2.1
  have hnm := x.2.2.1
  have hd := sb_dg_in v
  have hd3 := sb_dg3 hv
  refine ⟨Or.inl ⟨_, x.1⟩, c, s, Nat.le_refl _, Nat.le_refl _, nI n, Or.inl ⟨_, x.1, rfl⟩, 0, 0, Nat.zero_le _, Nat.zero_le _, s_stringSize hv (nm_i ⟨Or.inl ⟨_, x.1⟩, 1, 240, hc, hs, ?_⟩)⟩
  rw [nI_add]
  refine s_ensure x hn (by omega) (Nat.le_refl _) (Nat.le_refl _) (fun h1 b1 m1 f1 x1 hq1 kp1 hb1 => nm_i ?_)
  have ha1 := x1.1
  refine ⟨Or.inl ⟨_, ha1⟩, 0, 0, Nat.zero_le _, Nat.zero_le _, s_isLatin1 hB x1 (nm_i (jn_i (br_f (by decide) ⟨b1, Or.inl ⟨_, ha1, rfl⟩, 0, 0, Nat.zero_le _, Nat.zero_le _, ?_⟩)))⟩
  have hab := x1.ne
  obtain ⟨y1, y2, y3, y4, y5, y6⟩ := x1
  refine s_getChars hB (n := n) y2 (by omega) hv rfl (by omega) (fun f' hd' => nm_i ⟨_, (hup_ne hab).trans y1, Nat.lt_of_sub_eq_succ rfl, nm_i (nm_i ?_)⟩)
  have kp1' : Keep (fun y => y = a ∨ y = b) h h1 := kp1.mono (fun _ _ _ z => Or.inl z)
  refine hP _ b1 m1 f' ⟨hup_self, (hup_ne hab.symm).trans hup_self, hq1, y4, ?_, hd'.2.2 y6⟩ ((kp1'.put (hb1.imp Or.inr id)).put (Or.inl (Or.inl rfl))) hb1
  rcases y5 with ⟨-, y5⟩ | ⟨z, -⟩
  · refine Or.inl ⟨rfl, fun i hi => ?_⟩
    unfold sb_cat
    by_cases hin : i < n
    · rw [if_pos hin]
      exact ⟨(y5 i hin).1, by rw [hd'.1 i (Or.inl hin)]; exact (y5 i hin).2⟩
    · rw [if_neg hin]
      have := hd'.2.1 (sb_dg v - 1 - (i - n)) (by omega)
      rw [show n + sb_dg v - 1 - (sb_dg v - 1 - (i - n)) = i by omega] at this
      exact ⟨by unfold sb_dec; omega, this⟩
  · cases z
/-- append of a text of single bytes to a builder of single bytes -/
theorem s_appendS (hB : BaseF G) {P : Nat → AH → Prop} {a b q bs w : Nat} {ml : Int32} {m n : Nat} {f fs : Nat → Int32} {t ts : Nat → Nat} (x : SBA G h a b 0 ml m n f t) (xs : StrA G h q bs 0 w fs ts) (hn : n + w ≤ 60) (hw : w ≤ 16) (hc : 1 ≤ c) (hs : 240 ≤ s)
    (hP : ∀ (h' : AH) (b' m' : Nat) (f' : Nat → Int32), SBA G h' a b' 0 ml m' (n + w) f' (sb_cat t n ts) → Keep (fun y => y = a ∨ y = b) h h' → (b' = b ∨ h b' = none) → P a h') : F_gJ3_append G (h, c, s) a q P := by
  have hm := x.2.2.2.1
  have hnm := x.2.2.1
  refine ⟨Or.inl ⟨_, x.1⟩, c, s, Nat.le_refl _, Nat.le_refl _, xs.xc, 0, 0, Nat.zero_le _, Nat.zero_le _, s_strLen hB xs (by omega) (nm_i ⟨nI n, Or.inl ⟨_, x.1, rfl⟩, Or.inl ⟨_, x.1⟩, 1, 240, hc, hs, ?_⟩)⟩
  rw [nI_add]
  refine s_ensure x hn (by omega) (Nat.le_refl _) (Nat.le_refl _) (fun h1 b1 m1 f1 x1 hq1 kp1 hb1 => nm_i ?_)
  have ha1 := x1.1
  have hqa : StrH G h q bs 0 w fs ts → q ≠ a ∧ bs ≠ a := fun z => by
    obtain ⟨⟨p1, p2, z1⟩, z2, -⟩ := z
    have xa := x.1
    refine ⟨fun e => ?_, fun e => ?_⟩
    · rw [e, xa] at z1; cases z1
    · rw [e, xa] at z2; cases z2
  have xs1 : StrA G h1 q bs 0 w fs ts := xs.elim (fun z => Or.inl (z.keep kp1 (hqa z).1 (hqa z).2)) Or.inr
  have hab := x1.ne
  obtain ⟨y1, y2, y3, y4, y5, y6⟩ := x1
  refine ⟨nI n, Or.inl ⟨_, y1, rfl⟩, Or.inl ⟨_, y1⟩, 0, 0, Nat.zero_le _, Nat.zero_le _, Or.inl ⟨_, y1⟩, 0, 0, Nat.zero_le _, Nat.zero_le _, 1, hB.1, br_f (by decide) ⟨nI 0, Or.inl ⟨_, y1, rfl⟩, xs1.xc, 0, 0, Nat.zero_le _, Nat.zero_le _, s_coder hB xs1 (nm_i (br_t rfl (nm_i ⟨b1, Or.inl ⟨_, y1, rfl⟩, nI 0, Or.inl ⟨_, y1, rfl⟩, xs1.xc, 0, 0, Nat.zero_le _, Nat.zero_le _, xs1.xc, 0, 0, Nat.zero_le _, Nat.zero_le _, s_coder hB xs1 (nm_i (br_t rfl ?_))⟩)))⟩⟩
  have en : (Int32.ofNat ((0 + 1) * w)).toNatClampNeg = w := by rw [show (0 + 1) * w = w by omega]; exact nI_clamp (by omega)
  have e0 : nI n <<< (nI 0 &&& 31) = nI n := sb_shl0 _
  refine ⟨bs, xs1.xv, bs, xs1.xv, (0 + 1) * w, xs1.xb.len, (0 + 1) * w, (0 + 1) * m1, fs, f1, xs1.xb, y2, by decide, by rw [e0]; exact nI_pos (by omega), nI_pos (by omega), by rw [en]; show 0 + w ≤ _; omega, by rw [en, e0, nI_clamp (by omega)]; omega, fun i _ => xs.xf _, nm_i (nm_i (nm_i ?_))⟩
  dsimp only
  rw [en, e0, nI_clamp (by omega), sb_cl0]
  refine ⟨nI n, Or.inl ⟨_, (hup_ne hab).trans y1, rfl⟩, _, (hup_ne hab).trans y1, Nat.lt_of_sub_eq_succ rfl, nm_i (nm_i ?_)⟩
  have kp1' : Keep (fun y => y = a ∨ y = b) h h1 := kp1.mono (fun _ _ _ z => Or.inl z)
  refine hP _ b1 m1 _ ⟨hup_self.trans (by rw [nI_add]; rfl), (hup_ne hab.symm).trans hup_self, hq1, y4, ?_, sb_fitC xs.xf y6⟩ ((kp1'.put (hb1.imp Or.inr id)).put (Or.inl (Or.inl rfl))) hb1
  rcases y5 with ⟨-, y5⟩ | ⟨z, -⟩
  · rcases xs.xt with ⟨-, xt⟩ | ⟨z, -⟩
    · refine Or.inl ⟨rfl, fun i hi => ?_⟩
      unfold sb_cat
      by_cases hin : i < n
      · rw [if_pos hin]
        exact ⟨(y5 i hin).1, by rw [pk_cpy_out (by omega)]; exact (y5 i hin).2⟩
      · rw [if_neg hin]
        have := xt (i - n) (by omega)
        exact ⟨this.1, by rw [pk_cpy_in (by omega) (by omega), show 0 + (i - n) = i - n by omega]; exact this.2⟩
    · cases z
  · cases z
/-- String.valueOf of a number below 1000 -/
theorem s_valueOfS (hB : BaseF G) {P : Nat → AH → Prop} {v : Nat} (hv : v < 1000) (hc : 2 ≤ c) (hs : 8 ≤ s)
    (hP : ∀ (h' : AH) (q b : Nat) (f : Nat → Int32), StrH G h' q b 0 (sb_dg v) f (sb_dec v) → Keep (fun _ => False) h h' → h q = none → h b = none → P q h') : F_gJ4_valueOf G (h, c, s) (nI v) P := by
  have hd3 : 1 ≤ sb_dg v ∧ sb_dg v ≤ 3 := ⟨(sb_dg_in v).1, sb_dg3 hv⟩
  refine ⟨2, 8, hc, hs, 0, 0, Nat.zero_le _, Nat.zero_le _, s_stringSize hv (nm_i ⟨1, hB.1, br_f (by decide) ⟨nI_pos (by omega), ?_, ?_, ?_, fun b h1 h2 => nm_i ?_⟩⟩)⟩
  · show 1 ≤ 2; omega
  · rw [nI_clamp (by omega)]; show sb_dg v ≤ 8; omega
  · rw [nI_clamp (by omega)]; show sb_dg v * 1 ≤ _; omega
  have h1 : h b = none := h1
  dsimp only
  rw [nI_clamp (n := sb_dg v) (by omega)]
  refine ⟨0, 0, Nat.zero_le _, Nat.zero_le _, s_getChars hB (n := 0) hup_self (by omega) hv (by omega) (Nat.le_refl _) (fun f' hd' => nm_i ⟨?_, ?_, fun q h3 h4 => nm_i ⟨0, 0, Nat.zero_le _, Nat.zero_le _, ?_⟩⟩)⟩
  · show 1 ≤ 2 - 0 - 1 - 0; omega
  · show 4 ≤ 8 - 0 - sb_dg v - 0; omega
  dsimp only at h3 ⊢
  rw [hup_hup] at h3 ⊢
  have hqb : q ≠ b := fun e => by rw [e, hup_self] at h3; cases h3
  rw [hup_ne hqb] at h3
  refine ⟨_, hup_self, Nat.lt_of_sub_eq_succ rfl, nm_i ⟨_, hup_self, Nat.lt_of_sub_eq_succ rfl, by decide +kernel, by decide +kernel, nm_i (nm_i (nm_i ?_))⟩⟩
  dsimp only
  rw [hup_hup, hup_hup]
  refine hP _ q b f' ⟨⟨_, _, hup_self⟩, (hup_ne hqb.symm).trans (by rw [hup_self, show (0 + 1) * sb_dg v = sb_dg v by omega]), Or.inl ⟨rfl, fun i hi => ?_⟩, hd'.2.2 sb_fit0⟩ ((Keep.new h1).put (Or.inr h3)) h3 h1
  have := hd'.2.1 (sb_dg v - 1 - i) (by omega)
  rw [show sb_dg v - 1 - (sb_dg v - 1 - i) = i by omega] at this
  exact ⟨by unfold sb_dec; omega, this⟩
/-- Arrays.copyOfRange from 0 -/
theorem s_copyRange {P : Nat → AH → Prop} {b M N : Nat} {f : Nat → Int32} (hb : h b = some (.inl (G.2.2.1 2, M, .inl f))) (hf : sb_Fit f) (hNM : N ≤ M) (hM : M < 65536) (hc : 1 ≤ c) (hs : N ≤ s)
    (hP : ∀ (b' : Nat) (f' : Nat → Int32), h b' = none → (∀ j, j < N → f' j = f j) → sb_Fit f' → P b' (hup h b' (.inl (G.2.2.1 2, N, .inl f')))) : F_gJ12_copyOfRange G (h, c, s) b 0 (nI N) P := by
  unfold F_gJ12_copyOfRange
  refine jn_i (br_t rfl ⟨M, Or.inl ⟨2, .byte, _, rfl, hb⟩, ?_, ?_⟩)
  · intro e
    have e : N = M := (nI_eq (by omega) (by omega)).mp e
    subst e
    exact ⟨N, f, hb, fun i _ => hf i, hc, hs, fun b' h1 h2 => nm_i ⟨N, f, hup_self, hP b' f h1 (fun _ _ => rfl) hf⟩⟩
  · intro e
    have e : N ≠ M := fun z => e (by rw [z]; rfl)
    have e1 : nI N - 0 = nI N := pk_sub (a := N) (b := 0) (by omega)
    refine ⟨c, s, Nat.le_refl _, Nat.le_refl _, 0, 0, Nat.zero_le _, Nat.zero_le _, br_t (nI_pos' (by omega)) (nm_i ?_)⟩
    rw [e1]
    refine ⟨nI_pos (by omega), hc, by rw [nI_clamp (by omega)]; exact hs, by rw [nI_clamp (by omega)]; show N * 1 ≤ _; omega, fun b' h1 h2 => nm_i ?_⟩
    have h1 : h b' = none := h1
    have hne : b ≠ b' := fun z => by rw [z, h1] at hb; cases hb
    have hb2 : (hup h b' (.inl (G.2.2.1 2, (nI N).toNatClampNeg, .inl (fun _ => 0)))) b = some (.inl (G.2.2.1 2, M, .inl f)) := by rw [hup_ne hne]; exact hb
    have ei : (if nI N < (Int32.ofNat M - 0) then nI N else (Int32.ofNat M - 0)) = nI N := by
      rw [show Int32.ofNat M - 0 = nI M from pk_sub (a := M) (b := 0) (by omega)]
      exact if_pos (nI_lt (by omega) (by omega))
    refine ⟨M, Or.inl ⟨2, .byte, _, rfl, hb2⟩, M, N, f, fun _ => 0, Or.inl hb2, by rw [nI_clamp (by omega)]; exact hup_self, by decide, by decide, ?_⟩
    rw [ei, nI_clamp (n := N) (by omega), sb_cl0]
    refine ⟨nI_pos (by omega), by omega, by omega, fun i _ => hf _, nm_i (nm_i ?_)⟩
    dsimp only
    rw [hup_hup]
    exact hP b' _ h1 (fun j hj => va_cpy0 hj) (sb_fitC hf sb_fit0)
end SG
