/-! StringBuilder.toString -/
set_option maxRecDepth 100000
theorem g_cod0 (n : Nat) : ((((nI n - Int32.ofNat n : Int32).toUInt32 >>> ((31 : Int32).toUInt32 &&& Int32.toUInt32 31)).toInt32).toInt8.toInt32) = 0 := by
  rw [show Int32.ofNat n = nI n from rfl, Int32.sub_self]; decide
theorem g_cod1 : ∀ n, n ≤ 60 → 0 < n → ((((nI n - Int32.ofNat (2 * n) : Int32).toUInt32 >>> ((31 : Int32).toUInt32 &&& Int32.toUInt32 31)).toInt32).toInt8.toInt32) = 1 := by decide +kernel
section SH
variable {G : GT} {h : AH} {c s : Nat}
theorem s_comprL (hB : BaseF G) {P : Int32 → AH → Prop} {b q m n : Nat} {t : Nat → Nat} {f : Nat → Int32} (hb : h b = some (.inl (G.2.2.1 2, 2 * m, .inl f))) (hne : b ≠ q) (ht : ∀ i, i < n → t i < 65536 ∧ f (2 * i) = sb_b (t i) ∧ f (2 * i + 1) = sb_b (t i / 256)) (hnm : n ≤ m) (hm : m < 2 ^ 27)
    (hP : ∀ (r : Nat) (g : Nat → Int32), r ≤ n → (∀ i, i < r → t i < 256 ∧ g i = sb_b (t i)) → (r < n → 256 ≤ t r) → sb_Fit g → P (nI r) (hup h q (.inl (G.2.2.1 2, n, .inl g)))) :
    ∀ (d k : Nat) (g : Nat → Int32), k + d = n → (∀ i, i < k → t i < 256 ∧ g i = sb_b (t i)) → sb_Fit g → ∀ e, L_gJ5_compress_2_10 G P b q (nI n) (d + 1 + e) (hup h q (.inl (G.2.2.1 2, n, .inl g)), c, s) (nI k) (nI k) (nI k) := by
  intro d
  induction d with
  | zero =>
    intro k g hk hg hfit e
    rw [show 0 + 1 + e = e + 1 by omega, L_gJ5_compress_2_10]
    exact br_t (nI_le (by omega) (by omega)) (hP n g (Nat.le_refl _) (fun i hi => hg i (by omega)) (fun z => absurd z (Nat.lt_irrefl _)) hfit)
  | succ d ih =>
    intro k g hk hg hfit e
    obtain ⟨t1, t2, t3⟩ := ht k (by omega)
    rw [show d + 1 + 1 + e = (d + 1 + e) + 1 by omega, L_gJ5_compress_2_10]
    refine br_f (nI_ge (by omega) (by omega)) ⟨0, 0, Nat.zero_le _, Nat.zero_le _, s_getChar hB (M := 2 * m) (Or.inl ((hup_ne hne).trans hb)) (by omega) (by omega) t1 t2 t3 (nm_i ?_)⟩
    by_cases hl : t k < 256
    · refine br_t (nI_le (a := t k) (b := 255) (by omega) (by decide)) ⟨n, g, hup_self, vp_in_nI (by omega) (by omega), nm_i ?_⟩
      dsimp only
      rw [hup_hup, nI_1, nI_clamp (by omega), show vp_nar .byte (nI (t k)).toInt8.toInt32 = sb_b (t k) from g_nb _]
      refine ih (k + 1) _ (by omega) (fun i hi => ?_) (sb_fitU hfit (sb_fitB _)) e
      by_cases hik : i = k
      · subst hik; exact ⟨hl, pk_us⟩
      · exact ⟨(hg i (by omega)).1, by rw [pk_un (by omega)]; exact (hg i (by omega)).2⟩
    · exact br_f (nI_ge (a := 255) (b := t k) (by omega) (by omega)) (hP k g (by omega) hg (fun _ => by omega) hfit)
theorem s_compr2 (hB : BaseF G) {P : Int32 → AH → Prop} {b q m n : Nat} {t : Nat → Nat} {f g : Nat → Int32} (hb : h b = some (.inl (G.2.2.1 2, 2 * m, .inl f))) (hq : h q = some (.inl (G.2.2.1 2, n, .inl g))) (hg : sb_Fit g) (hne : b ≠ q) (ht : ∀ i, i < n → t i < 65536 ∧ f (2 * i) = sb_b (t i) ∧ f (2 * i + 1) = sb_b (t i / 256)) (hnm : n ≤ m) (hm : m < 65536)
    (hP : ∀ (r : Nat) (g : Nat → Int32), r ≤ n → (∀ i, i < r → t i < 256 ∧ g i = sb_b (t i)) → (r < n → 256 ≤ t r) → sb_Fit g → P (nI r) (hup h q (.inl (G.2.2.1 2, n, .inl g)))) : F_gJ5_compress_2 G (h, c, s) b 0 q 0 (nI n) P := by
  refine ⟨0, 0, Nat.zero_le _, Nat.zero_le _, s_boundsOff (o := 0) hB (Or.inl ⟨2, .byte, _, rfl, hb⟩) (by omega) (by omega) (nm_i ?_)⟩
  rw [show NF = n + 1 + (99999 - n) by show 100000 = _; omega]
  have := s_comprL (c := c - 0) (s := s - 0) hB (P := P) hb hne ht hnm (by omega) hP n 0 g (by omega) (fun i hi => absurd hi (Nat.not_lt_zero i)) hg (99999 - n)
  rw [hup_same hq] at this
  exact this
/-- StringUTF16.compress: the letters' bytes, if all fit, else a copy -/
theorem s_compress (hB : BaseF G) {P : Nat → AH → Prop} {b m n : Nat} {t : Nat → Nat} {f : Nat → Int32} (hb : h b = some (.inl (G.2.2.1 2, 2 * m, .inl f))) (hf : sb_Fit f) (ht : ∀ i, i < n → t i < 65536 ∧ f (2 * i) = sb_b (t i) ∧ f (2 * i + 1) = sb_b (t i / 256)) (hnm : n ≤ m) (hm : m ≤ 120) (hc : 2 ≤ c) (hs : 3 * n ≤ s)
    (hP : ∀ (h' : AH) (b' k : Nat) (g : Nat → Int32), h b' = none → h' b' = some (.inl (G.2.2.1 2, (k + 1) * n, .inl g)) → txB k t n g → sb_Fit g → (k = 1 → 0 < n) → Keep (fun _ => False) h h' → P b' h') : F_gJ5_compress G (h, c, s) b 0 (nI n) P := by
  refine ⟨nI_pos (by omega), by show 1 ≤ c; omega, by rw [nI_clamp (by omega)]; show n ≤ s; omega, by rw [nI_clamp (by omega)]; show n * 1 ≤ _; omega, fun q h1 h2 => nm_i ?_⟩
  have h1 : h q = none := h1
  have hbq : b ≠ q := fun z => by rw [z, h1] at hb; cases hb
  dsimp only
  rw [nI_clamp (n := n) (by omega)]
  refine ⟨0, 0, Nat.zero_le _, Nat.zero_le _, s_compr2 hB ((hup_ne hbq).trans hb) hup_self sb_fit0 hbq ht hnm (by omega) (fun r g hr hg hrn hfit => nm_i ⟨fun e => ?_, fun e => ?_⟩)⟩
  · have e : r = n := (nI_eq (by omega) (by omega)).mp e
    subst e
    dsimp only
    rw [hup_hup]
    exact hP _ q 0 g h1 (hup_self.trans (by rw [show (0 + 1) * r = r by omega])) (Or.inl ⟨rfl, hg⟩) hfit (fun z => by cases z) (Keep.new h1)
  · have hrn' : r < n := by
      rcases Nat.lt_or_ge r n with z | z
      · exact z
      · exact absurd (by rw [show r = n by omega]) e
    refine ⟨0, 0, Nat.zero_le _, Nat.zero_le _, ?_⟩
    rw [show (0 : Int32) + nI n = nI n from Int32.zero_add _]
    refine br_t (nI_pos' (by omega)) (br_t (nI_lt (b := 1073741823) (by omega) (by decide)) (nm_i ⟨1, 2 * n, ?_, ?_, ?_⟩))
    · show 1 ≤ c - 1 - 0 - 0; omega
    · show 2 * n ≤ s - n - 0 - 0; omega
    dsimp only
    rw [g_shl1, hup_hup, show (0 : Int32) <<< ((1 : Int32) &&& 31) = 0 by decide]
    refine s_copyRange (M := 2 * m) ((hup_ne hbq).trans hb) hf (by omega) (by omega) (Nat.le_refl _) (Nat.le_refl _) (fun b2 f2 g1 g2 g3 => nm_i ?_)
    have hb2q : b2 ≠ q := fun z => by rw [z, hup_self] at g1; cases g1
    have hb2 : h b2 = none := by rw [hup_ne hb2q] at g1; exact g1
    obtain ⟨t1, t2, t3⟩ := ht r hrn'
    refine ⟨0, 0, Nat.zero_le _, Nat.zero_le _, s_getChar hB (M := 2 * n) (Or.inl hup_self) (by omega) (by omega) t1 ((g2 _ (by omega)).trans t2) ((g2 _ (by omega)).trans t3) (nm_i (br_t (nI_lt (a := 255) (b := t r) (by have := hrn hrn'; omega) (by omega)) ?_))⟩
    refine hP _ b2 1 f2 hb2 hup_self (Or.inr ⟨rfl, fun i hi => ?_⟩) g3 (fun _ => by omega) ((Keep.new h1).put (Or.inr hb2))
    obtain ⟨u1, u2, u3⟩ := ht i hi
    exact ⟨u1, (g2 _ (by omega)).trans u2, (g2 _ (by omega)).trans u3⟩
theorem s_toString (hB : BaseF G) {P : Nat → AH → Prop} {a b k : Nat} {ml : Int32} {m n : Nat} {f : Nat → Int32} {t : Nat → Nat} (x : SBA G h a b k ml m n f t) (hn : n ≤ 60) (hc : 3 ≤ c) (hs : 400 ≤ s)
    (hP : ∀ (h' : AH) (q b' k' : Nat) (f' : Nat → Int32), StrH G h' q b' k' n f' t → Keep (fun _ => False) h h' → h q = none → h b' = none → P q h') : F_gJ3_toString G (h, c, s) a P := by
  have hm := x.2.2.2.1
  have hnm := x.2.2.1
  refine ⟨by show 1 ≤ c; omega, by show 4 ≤ s; omega, fun q h1 h2 => nm_i ⟨2, 300, by show 2 ≤ c - 1; omega, by show 300 ≤ s - 4; omega, 2, 300, Nat.le_refl _, Nat.le_refl _, ?_⟩⟩
  have h1 : h q = none := h1
  have hx := x
  obtain ⟨x1, x2, x3, x4, x5, x6⟩ := x
  have hqa : a ≠ q := fun z => by rw [z, h1] at x1; cases x1
  have hqb : b ≠ q := fun z => by rw [z, h1] at x2; cases x2
  have y1 : (hup h q (.inr (14, [.null, .int 0, .int 0, .int 0]))) a = _ := (hup_ne hqa).trans x1
  have y2 : (hup h q (.inr (14, [.null, .int 0, .int 0, .int 0]))) b = _ := (hup_ne hqb).trans x2
  have y : SBA G (hup h q (.inr (14, [.null, .int 0, .int 0, .int 0]))) a b k ml m n f t := ⟨y1, y2, x3, x4, x5, x6⟩
  refine ⟨Or.inl ⟨_, y1⟩, 0, 0, Nat.zero_le _, Nat.zero_le _, b, Or.inl ⟨_, y1, rfl⟩, nm_i ⟨Or.inl ⟨_, y1⟩, 0, 0, Nat.zero_le _, Nat.zero_le _, s_sbLen y (nm_i ⟨Or.inl ⟨_, y1⟩, 0, 0, Nat.zero_le _, Nat.zero_le _, s_isLatin1 hB y (nm_i ?_)⟩)⟩⟩
  -- the string's end: its bytes at b', after the world hh
  rcases x5 with ⟨rfl, xt⟩ | ⟨rfl, xt⟩
  · refine br_f (by decide) ⟨_, hup_self, Nat.lt_of_sub_eq_succ rfl, nm_i ⟨1, 300, by show 1 ≤ 2 - 0 - 0 - 0; omega, by show 300 ≤ 300 - 0 - 0 - 0; omega, ?_⟩⟩
    dsimp only
    rw [hup_hup]
    refine s_copyRange (M := (0 + 1) * m) ((hup_ne hqb).trans x2) x6 (by omega) (by omega) (Nat.le_refl _) (by omega) (fun b2 f2 g1 g2 g3 => nm_i ?_)
    have hb2q : q ≠ b2 := fun z => by rw [← z, hup_self] at g1; cases g1
    have hb2 : h b2 = none := by rw [hup_ne hb2q.symm] at g1; exact g1
    refine ⟨_, (hup_ne hb2q).trans hup_self, Nat.lt_of_sub_eq_succ rfl, nm_i (nm_i (nm_i ?_))⟩
    refine hP _ q b2 0 f2 ⟨⟨_, _, hup_self⟩, (hup_ne hb2q.symm).trans (hup_self.trans (by rw [show (0 + 1) * n = n by omega])), Or.inl ⟨rfl, fun i hi => ⟨(xt i hi).1, (g2 i hi).trans (xt i hi).2⟩⟩, g3⟩ (((Keep.new h1).put (Or.inr hb2)).put (Or.inr h1)) h1 hb2
  · refine br_t rfl ⟨1, hB.1, jn_i (br_f (by decide) ⟨ml, Or.inl ⟨_, y1, rfl⟩, ?_, ?_⟩)⟩
    · intro _
      refine ⟨_, hup_self, Nat.lt_of_sub_eq_succ rfl, nm_i ⟨1, 300, by show 1 ≤ 2 - 0 - 0 - 0; omega, by show 300 ≤ 300 - 0 - 0 - 0; omega, ?_⟩⟩
      dsimp only
      rw [hup_hup, g_shl1]
      refine s_copyRange (M := (1 + 1) * m) ((hup_ne hqb).trans x2) x6 (by omega) (by omega) (Nat.le_refl _) (by omega) (fun b2 f2 g1 g2 g3 => nm_i ?_)
      have hb2q : q ≠ b2 := fun z => by rw [← z, hup_self] at g1; cases g1
      have hb2 : h b2 = none := by rw [hup_ne hb2q.symm] at g1; exact g1
      refine ⟨_, (hup_ne hb2q).trans hup_self, Nat.lt_of_sub_eq_succ rfl, nm_i (nm_i (nm_i ?_))⟩
      refine hP _ q b2 1 f2 ⟨⟨_, _, hup_self⟩, (hup_ne hb2q.symm).trans hup_self, Or.inr ⟨rfl, fun i hi => ⟨(xt i hi).1, (g2 _ (by omega)).trans (xt i hi).2.1, (g2 _ (by omega)).trans (xt i hi).2.2⟩⟩, g3⟩ (((Keep.new h1).put (Or.inr hb2)).put (Or.inr h1)) h1 hb2
    · intro _
      refine ⟨2, 300, by show 2 ≤ 2 - 0 - 0 - 0; omega, by show 300 ≤ 300 - 0 - 0 - 0; omega, ?_⟩
      refine s_compress hB (m := m) y2 x6 xt x3 hm.2 (Nat.le_refl _) (by omega) (fun h3 b2 k2 g g1 g2 g3 g4 g5 kp => nm_i ?_)
      dsimp only at g1
      have hb2q : q ≠ b2 := fun z => by rw [← z, hup_self] at g1; cases g1
      have hb2 : h b2 = none := by rw [hup_ne hb2q.symm] at g1; exact g1
      have h3q : h3 q = _ := kp q _ hup_self (fun z => z)
      refine ⟨_, h3q, Nat.lt_of_sub_eq_succ rfl, nm_i ⟨b2, Or.inl ⟨_, hup_self, rfl⟩, 0, 0, Nat.zero_le _, Nat.zero_le _, (k2 + 1) * n, Or.inl ⟨2, .byte, _, rfl, (hup_ne hb2q.symm).trans g2⟩, ?_⟩⟩
      have ek : ((((nI n - Int32.ofNat ((k2 + 1) * n) : Int32).toUInt32 >>> ((31 : Int32).toUInt32 &&& Int32.toUInt32 31)).toInt32).toInt8.toInt32) = nI k2 := by
        rcases g3.k with rfl | rfl
        · rw [show (0 + 1) * n = n by omega]; exact g_cod0 n
        · exact g_cod1 n hn (g5 rfl)
      rw [ek]
      have nb := narB g3.k
      refine ⟨nb.1, nm_i ⟨_, hup_self, Nat.lt_of_sub_eq_succ rfl, nb.1, nb.2, nm_i (nm_i (nm_i ?_))⟩⟩
      dsimp only
      rw [hup_hup]
      have kp0 : Keep (fun _ => False) h h3 := (Keep.new h1).trans kp
      exact hP _ q b2 k2 g ⟨⟨_, _, hup_self⟩, (hup_ne hb2q.symm).trans g2, g3, g4⟩ (kp0.put (Or.inr h1)) h1 hb2
end SH
