/-! builders: inflate, append of a letter, setLength -/
set_option maxRecDepth 100000
theorem Keep.put {W : Nat → Prop} {h h2 : AH} {a : Nat} {e : va_E} (k : Keep W h h2) (ha : W a ∨ h a = none) : Keep W h (hup h2 a e) := fun x e' p q => (hup_ne (fun z : x = a => ha.elim (fun w => q (z ▸ w)) (fun n => by rw [z, n] at p; cases p))).trans (k x e' p q)
section SE
variable {G : GT} {h : AH} {c s : Nat}
theorem s_newBytes {P : Nat → AH → Prop} {m : Nat} (hm : m < 65536) (hc : 1 ≤ c) (hs : 2 * m ≤ s) (hP : ∀ b : Nat, h b = none → G.1 ≤ b → P b (hup h b (.inl (G.2.2.1 2, 2 * m, .inl (fun _ => 0))))) : F_gJ5_newBytesFor G (h, c, s) (nI m) P := by
  refine ⟨0, 0, Nat.zero_le _, Nat.zero_le _, br_t (nI_pos' (by omega)) (br_t (nI_lt (b := 1073741823) (by omega) (by decide)) (nm_i ?_))⟩
  dsimp only
  rw [g_shl1, nI_clamp (by omega)]
  exact ⟨nI_pos (by omega), hc, hs, by show 2 * m * 1 ≤ _; omega, fun b h1 h2 => nm_i (hP b h1 h2)⟩
theorem s_inflate24 (hB : BaseF G) {P : AH → Prop} {b0 b m0 m n : Nat} {t : Nat → Nat} {f0 f : Nat → Int32} (hb0 : h b0 = some (.inl (G.2.2.1 2, m0, .inl f0))) (hb : h b = some (.inl (G.2.2.1 2, 2 * m, .inl f))) (hf : sb_Fit f) (hne : b0 ≠ b) (ht : ∀ i, i < n → t i < 256 ∧ f0 i = sb_b (t i)) (hnm0 : n ≤ m0) (hnm : n ≤ m) (hm : m < 65536) (hm0 : m0 < 65536)
    (hP : ∀ f : Nat → Int32, (∀ i, i < n → f (2 * i) = sb_b (t i) ∧ f (2 * i + 1) = sb_b (t i / 256)) → sb_Fit f → P (hup h b (.inl (G.2.2.1 2, 2 * m, .inl f)))) : F_gJ24_inflate G (h, c, s) b0 0 b 0 (nI n) P := by
  refine ⟨0, 0, Nat.zero_le _, Nat.zero_le _, 0, 0, Nat.zero_le _, Nat.zero_le _, s_boundsOff (o := 0) hB (Or.inl ⟨2, .byte, _, rfl, hb⟩) (by omega) (by omega) (nm_i ?_)⟩
  rw [show NF = n + 1 + (99999 - n) by show 100000 = _; omega]
  have := s_inflL (c := 0 - 0) (s := 0 - 0) hB (P := fun h_9 => nm (α := GZ) (h_9, c - 0, s - 0) (fun S_10 => P S_10.1)) hb0 hne ht hnm0 hnm (by omega) (by omega) (fun f' q1 q2 => nm_i (hP f' q1 q2)) n 0 f (by omega) (fun i hi => absurd hi (Nat.not_lt_zero i)) hf (99999 - n)
  rw [hup_same hb] at this
  exact this
theorem s_inflate (hB : BaseF G) {P : AH → Prop} {a b : Nat} {ml : Int32} {m n : Nat} {f : Nat → Int32} {t : Nat → Nat} (x : SBA G h a b 0 ml m n f t) (hc : 1 ≤ c) (hs : 240 ≤ s)
    (hP : ∀ (h' : AH) (b' : Nat) (f' : Nat → Int32), SBA G h' a b' 1 ml m n f' t → Keep (fun y => y = a) h h' → h b' = none → P h') : F_gJ2_inflate G (h, c, s) a P := by
  have hm := x.2.2.2.1.2
  have hnm := x.2.2.1
  have e0 : (0 + 1) * m = m := by omega
  obtain ⟨x1, x2, -, x3, x4, x5⟩ := id x
  rcases x4 with ⟨-, x4⟩ | ⟨z, -⟩
  · refine ⟨Or.inl ⟨_, x1⟩, 0, 0, Nat.zero_le _, Nat.zero_le _, s_isLatin1 hB x (nm_i (br_f (by decide) ⟨b, Or.inl ⟨_, x1, rfl⟩, (0 + 1) * m, Or.inl ⟨2, .byte, _, rfl, x2⟩, 1, 240, hc, hs, ?_⟩))⟩
    rw [e0]
    refine s_newBytes (by omega) (Nat.le_refl _) (by omega) (fun b' h1 h2 => nm_i ?_)
    have h1 : h b' = none := h1
    have hab : a ≠ b' := fun z => by rw [z, h1] at x1; cases x1
    have hbb : b ≠ b' := fun z => by rw [z, h1] at x2; cases x2
    have xa : (hup h b' (.inl (G.2.2.1 2, 2 * m, .inl (fun _ => 0)))) a = _ := (hup_ne hab).trans x1
    have xb : (hup h b' (.inl (G.2.2.1 2, 2 * m, .inl (fun _ => 0)))) b = _ := (hup_ne hbb).trans x2
    refine ⟨b, Or.inl ⟨_, xa, rfl⟩, nI n, Or.inl ⟨_, xa, rfl⟩, 0, 0, Nat.zero_le _, Nat.zero_le _, s_inflate24 hB xb hup_self sb_fit0 hbb x4 (by omega) hnm (by omega) (by omega) (fun f' q1 q2 => nm_i ?_)⟩
    have xa' : (hup (hup h b' (.inl (G.2.2.1 2, 2 * m, .inl (fun _ => 0)))) b' (.inl (G.2.2.1 2, 2 * m, .inl f'))) a = _ := (hup_ne hab).trans xa
    refine ⟨_, xa', Nat.lt_of_sub_eq_succ rfl, nm_i ⟨_, hup_self, Nat.lt_of_sub_eq_succ rfl, nm_i ?_⟩⟩
    dsimp only
    rw [hup_hup, hup_hup]
    refine hP _ b' f' ⟨hup_self, (hup_ne hab.symm).trans hup_self, hnm, x3, Or.inr ⟨rfl, fun i hi => ⟨by have := (x4 i hi).1; omega, (q1 i hi).1, (q1 i hi).2⟩⟩, q2⟩ ((Keep.new h1).trans (Keep.up rfl)) h1
  · cases z
/-- the first n letters of t, then a letter -/
def tcat (t : Nat → Nat) (n ch : Nat) : Nat → Nat := fun j => if j < n then t j else ch
theorem s_appendC (hB : BaseF G) {P : Nat → AH → Prop} {a b k ch : Nat} {ml : Int32} {m n : Nat} {f : Nat → Int32} {t : Nat → Nat} (x : SBA G h a b k ml m n f t) (hn : n < 60) (hch : ch < 65536) (hc : 2 ≤ c) (hs : 480 ≤ s)
    (hP : ∀ (h' : AH) (b' k' m' : Nat) (f' : Nat → Int32), SBA G h' a b' k' ml m' (n + 1) f' (tcat t n ch) → (k = 0 → ch < 256 → k' = 0) → Keep (fun y => y = a ∨ y = b) h h' → (b' = b ∨ h b' = none) → P a h') : F_gJ2_append_3 G (h, c, s) a (nI ch) P := by
  have hm := x.2.2.2.1
  have hnm := x.2.2.1
  have hkk := x.2.2.2.2.1.k
  refine ⟨nI n, Or.inl ⟨_, x.1, rfl⟩, Or.inl ⟨_, x.1⟩, 1, 240, show 1 ≤ c by omega, show 240 ≤ s by omega, ?_⟩
  rw [nI_1]
  refine s_ensure x (by omega) (by omega) (Nat.le_refl _) (Nat.le_refl _) (fun h1 b1 m1 f1 x1 hq1 kp1 hb1 => nm_i ?_)
  have ha1 := x1.1
  have hm1 := x1.2.2.2.1
  refine ⟨Or.inl ⟨_, ha1⟩, 0, 0, Nat.zero_le _, Nat.zero_le _, s_isLatin1 hB x1 (nm_i (jn_i ?_))⟩
  -- the way of pairs of bytes, from a world h2
  have wide : ∀ (h2 : AH) (b2 m2 : Nat) (f2 : Nat → Int32) (cc ss : Nat), SBA G h2 a b2 1 ml m2 n f2 t → n + 1 ≤ m2 → (k = 0 → ¬ ch < 256) → Keep (fun y => y = a ∨ y = b) h h2 → (b2 = b ∨ h b2 = none) → ∃ v_63 : Nat, aF G h2 a 13 0 (.ref v_63) ∧ (∃ v_64 : Int32, aF G h2 a 13 3 (.int v_64) ∧ (∃ fs_65 : List Value, h2 a = some (.inr (13, fs_65)) ∧ 3 < fs_65.length ∧ (nm (α := GZ) (hup h2 a (.inr (13, List.set fs_65 3 (.int (v_64 + 1)))), cc, ss) (fun S_66 => ∃ c_67 s_68 : Nat, c_67 ≤ S_66.2.1 ∧ s_68 ≤ S_66.2.2 ∧ F_gJ5_putCharSB G (S_66.1, c_67, s_68) v_63 v_64 (nI ch) (fun h_70 => nm (α := GZ) (h_70, S_66.2.1 - c_67, S_66.2.2 - s_68) (fun S_71 => P a S_71.1)))))) := by
    intro h2 b2 m2 f2 cc ss x2 hq2 hlat kp2 hb2
    have hab := x2.ne
    obtain ⟨y1, y2, y3, y4, y5, y6⟩ := x2
    refine ⟨b2, Or.inl ⟨_, y1, rfl⟩, nI n, Or.inl ⟨_, y1, rfl⟩, _, y1, Nat.lt_of_sub_eq_succ rfl, nm_i ⟨0, 0, Nat.zero_le _, Nat.zero_le _, s_putCharSB hB ((hup_ne hab.symm).trans y2) (by omega) (by omega) hch (nm_i ?_)⟩⟩
    refine hP _ b2 1 m2 _ ⟨(hup_ne hab).trans (hup_self.trans (by rw [nI_1]; rfl)), hup_self, by omega, y4, ?_, sb_fitU (sb_fitU y6 (sb_fitB _)) (sb_fitB _)⟩ (fun z1 z2 => absurd z2 (hlat z1)) ?_ hb2
    · rcases y5 with ⟨z, -⟩ | ⟨-, y5⟩
      · cases z
      refine Or.inr ⟨rfl, fun i hi => ?_⟩
      by_cases hin : i < n
      · obtain ⟨g1, g2, g3⟩ := y5 i hin
        unfold tcat; rw [if_pos hin]
        exact ⟨g1, by rw [pk_un (by omega), pk_un (by omega)]; exact g2, by rw [pk_un (by omega), pk_un (by omega)]; exact g3⟩
      · obtain rfl : i = n := by omega
        unfold tcat; rw [if_neg hin]
        exact ⟨hch, by rw [pk_un (by omega), pk_us], pk_us⟩
    · exact (kp2.put (Or.inl (Or.inl rfl))).put (hb2.imp Or.inr id)
  have kp1' : Keep (fun y => y = a ∨ y = b) h h1 := kp1.mono (fun _ _ _ z => Or.inl z)
  -- inflate, then pairs of bytes
  have infl : ∀ (cc ss : Nat), 1 ≤ cc → 240 ≤ ss → k = 0 → ¬ ch < 256 → F_gJ2_inflate G (h1, 1, 240) a (fun h_76 => ∃ v_63 : Nat, aF G h_76 a 13 0 (.ref v_63) ∧ (∃ v_64 : Int32, aF G h_76 a 13 3 (.int v_64) ∧ (∃ fs_65 : List Value, h_76 a = some (.inr (13, fs_65)) ∧ 3 < fs_65.length ∧ (nm (α := GZ) (hup h_76 a (.inr (13, List.set fs_65 3 (.int (v_64 + 1)))), cc - 1, ss - 240) (fun S_66 => ∃ c_67 s_68 : Nat, c_67 ≤ S_66.2.1 ∧ s_68 ≤ S_66.2.2 ∧ F_gJ5_putCharSB G (S_66.1, c_67, s_68) v_63 v_64 (nI ch) (fun h_70 => nm (α := GZ) (h_70, S_66.2.1 - c_67, S_66.2.2 - s_68) (fun S_71 => P a S_71.1))))))) := by
    intro cc ss _ _ hk0 hbig
    subst hk0
    refine s_inflate hB x1 (Nat.le_refl _) (Nat.le_refl _) (fun h2 b2 f2 x2 kp2 hb2 => ?_)
    refine wide h2 b2 m1 f2 _ _ x2 hq1 (fun _ => hbig) ?_ ?_
    · intro z e hz hw
      exact kp2 z e (kp1' z e hz hw) (fun q => hw (Or.inl q))
    · cases hz : h b2 with
      | none => exact Or.inr rfl
      | some e =>
        by_cases hbb : b2 = b
        · exact Or.inl hbb
        · have hab2 : b2 ≠ a := fun q => by rw [q, ha1] at hb2; cases hb2
          have := kp1' b2 e hz (fun w => w.elim hab2 hbb)
          rw [hb2] at this; cases this
  rcases hkk with rfl | rfl
  · refine br_f (by decide) ⟨0, 0, Nat.zero_le _, Nat.zero_le _, ?_⟩
    by_cases hl : ch < 256
    · refine br_f (nI_nlt (a := 255) (b := ch) (by omega) (by decide)) (nm_i (br_f (by decide) ?_))
      have hab := x1.ne
      obtain ⟨y1, y2, y3, y4, y5, y6⟩ := x1
      refine ⟨b1, Or.inl ⟨_, y1, rfl⟩, nI n, Or.inl ⟨_, y1, rfl⟩, _, y1, Nat.lt_of_sub_eq_succ rfl, nm_i ⟨_, _, (hup_ne hab.symm).trans y2, vp_in_nI (by omega) (by omega), nm_i ?_⟩⟩
      dsimp only
      rw [nI_clamp (by omega), show vp_nar .byte (nI ch).toInt8.toInt32 = sb_b ch from g_nb ch]
      refine hP _ b1 0 m1 _ ⟨(hup_ne hab).trans (hup_self.trans (by rw [nI_1]; rfl)), hup_self, by omega, y4, ?_, sb_fitU y6 (sb_fitB _)⟩ (fun _ _ => rfl) ((kp1'.put (Or.inl (Or.inl rfl))).put (hb1.imp Or.inr id)) hb1
      rcases y5 with ⟨-, y5⟩ | ⟨z, -⟩
      · refine Or.inl ⟨rfl, fun i hi => ?_⟩
        by_cases hin : i < n
        · obtain ⟨g1, g2⟩ := y5 i hin
          unfold tcat; rw [if_pos hin]
          exact ⟨g1, by rw [pk_un (by omega)]; exact g2⟩
        · obtain rfl : i = n := by omega
          unfold tcat; rw [if_neg hin]
          exact ⟨hl, pk_us⟩
      · cases z
    · refine br_t (nI_lt (a := 255) (b := ch) (by omega) (by omega)) (nm_i (br_t rfl ⟨Or.inl ⟨_, ha1⟩, 0, 0, Nat.zero_le _, Nat.zero_le _, s_isLatin1 hB x1 (nm_i (jn_i (br_f (by decide) ⟨Or.inl ⟨_, ha1⟩, 1, 240, ?_, ?_, ?_⟩)))⟩))
      · show 1 ≤ c - 1 - 0 - 0 - 0; omega
      · show 240 ≤ s - 240 - 0 - 0 - 0; omega
      · exact infl _ _ (show 1 ≤ c - 1 - 0 - 0 - 0 by omega) (show 240 ≤ s - 240 - 0 - 0 - 0 by omega) rfl hl
  · refine br_t rfl ⟨Or.inl ⟨_, ha1⟩, 0, 0, Nat.zero_le _, Nat.zero_le _, s_isLatin1 hB x1 (nm_i (jn_i (br_t rfl ?_)))⟩
    exact wide h1 b1 m1 f1 _ _ x1 hq1 (fun z => by cases z) kp1' hb1
end SE
