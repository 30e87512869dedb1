/-! PURE: isBalanced, ranked -/
theorem s_tisBalanced {Y : Int} {n k : Nat} {T : TS} (hI : IT Y n k T) {P : Int32 → TS → Prop} (h : P 1 T) : F_tisBalanced T P := by
  have hn := hI.n6
  have hk := hI.k6
  unfold F_tisBalanced
  refine s_tleast hI ⟨rfl, s_known hI fun K hK => ?_⟩
  have e79 : K 79 = lsI n k T := ofInt_of (by rw [hK.2.1]; exact gfold_least _)
  rw [e79]
  refine ⟨fun _ => ?_, fun q => (q rfl).elim⟩
  unfold F_tisBal
  refine loop_i (σ := Nat) (fun f i u => L_tisBalanced_28 P f T (nI u) 1 (nI i)) (fun i u => u < 64 ∧ ∀ m, m < 6 → u.testBit m = true → ∃ a, a < i ∧ T (84 + a) = nI m) n (fun f u hx => ?_) (fun f i u hi hx ih => ?_) NF 0 0 (Nat.zero_le _) (by unfold NF; omega) ⟨by decide, fun m _ q => by rw [Nat.zero_testBit] at q; cases q⟩
  · unfold L_tisBalanced_28
    exact ⟨fun _ => ⟨rfl, h⟩, fun q => absurd (hI.t0 ▸ nI_le (Nat.le_refl n) (by omega)) q⟩
  · have hi6 : i < 6 := by omega
    have one : (1 &&& 1 : Int32) = 1 := by decide
    unfold L_tisBalanced_28
    refine ⟨fun q => absurd q (hI.t0 ▸ nI_ge hi (by omega)), fun _ => ⟨vp_in_nI hi6 (by decide), jn_i (jn_i ?_)⟩⟩
    rw [ix hi6 (by decide), nI_1, one]
    refine ⟨fun q => ⟨fun _ => ?_, fun q2 => (q2 q).elim⟩, fun q => jn_i ?_⟩
    · rw [show nI u ||| 0 = nI u from Int32.or_zero]
      exact ih u ⟨hx.1, fun m hm hb => by obtain ⟨a, a1, a2⟩ := hx.2 m hm hb; exact ⟨a, by omega, a2⟩⟩
    · obtain ⟨-, m, hm, hme, hok⟩ := (hI.pair hi6).resolve_left q
      have hm6 : m < 6 := by omega
      rw [hme, mask_bit u hx.1 m hm6]
      have hb : ¬ u.testBit m = true := fun hb => by
        obtain ⟨a, a1, a2⟩ := hx.2 m hm6 hb
        have := hI.inj (show a < 6 by omega) hi6 (a2.trans hme.symm) (by rw [a2]; exact nI_ne_m1 (by omega))
        omega
      rw [if_neg hb]
      refine ⟨fun _ => s_tcanBe hi6 hm6 (fun e => absurd hok (by simpa [okT] using e)) (fun e => ⟨fun q2 => absurd q2 (by decide), fun _ => ⟨fun q2 => absurd q2 (nI_ne_m1 (by omega)), fun _ => ?_⟩⟩), fun q2 => (q2 rfl).elim⟩
      obtain ⟨o1, o2⟩ := mask_or u hx.1 m hm6
      rw [o1]
      refine ih _ ⟨o2, fun m' hm' hb' => ?_⟩
      rw [mask_tb u hx.1 m hm6 m' hm', Bool.or_eq_true] at hb'
      rcases hb' with z | z
      · have : m' = m := by simpa using z
        subst this; exact ⟨i, by omega, hme⟩
      · obtain ⟨a, a1, a2⟩ := hx.2 m' hm' z; exact ⟨a, by omega, a2⟩
/-- how many masters stand ahead -/
def ahI (k : Nat) (wt : Nat → Int32) (m : Nat) : Int32 := sumI (fun j => if wt m < wt j ∨ (wt j = wt m ∧ j < m) then 1 else 0) k 0
def rkI (k : Nat) (wt : Nat → Int32) (pl : Int32) : Option Nat := fstA (fun m => decide (ahI k wt m = pl)) k 0
theorem s_tranked {k : Nat} {T : TS} {FW : FWT} {wt : Nat → Int32} (hk : k ≤ 6) (ht1 : T 1 = nI k) (hb : ∀ m, m < k → -1000000 ≤ (wt m).toInt ∧ (wt m).toInt ≤ 1000000) (hFW : ∀ m (P : Int32 → TS → Prop), m < k → P (wt m) T → FW T (nI m) P) {pl : Int32} {P : Int32 → TS → Prop} (h : P (enc (rkI k wt pl)) T) : F_tranked FW T pl P := by
  unfold F_tranked
  refine loop_i (σ := Unit) (fun f i _ => L_rank_2 FW P pl f T (nI i)) (fun i _ => fstA (fun m => decide (ahI k wt m = pl)) (k - i) i = rkI k wt pl) k (fun f _ hx => ?_) (fun f i _ hi hx ih => ?_) 7 0 () (Nat.zero_le _) (by omega) rfl
  · unfold L_rank_2
    rw [Nat.sub_self] at hx
    rw [← hx] at h
    exact ⟨fun _ => h, fun q => absurd (ht1 ▸ nI_le (Nat.le_refl k) (by omega)) q⟩
  · have ih := ih ()
    unfold L_rank_2
    refine ⟨fun q => absurd q (ht1 ▸ nI_ge hi (by omega)), fun _ => ?_⟩
    refine loop_i (σ := Unit) (fun g j _ => L_rank_16 FW (fun S z4 => (z4 = pl → P (nI i) S) ∧ (¬ z4 = pl → L_rank_2 FW P pl f S (nI i + 1))) (nI i) g T (sumI (fun j => if wt i < wt j ∨ (wt j = wt i ∧ j < i) then 1 else 0) j 0) (nI j)) (fun _ _ => True) k (fun g _ _ => ?_) (fun g j _ hj _ ihj => ?_) 7 0 () (Nat.zero_le _) (by omega) trivial
    · unfold L_rank_16
      refine ⟨fun _ => ?_, fun q => absurd (ht1 ▸ nI_le (Nat.le_refl k) (by omega)) q⟩
      rw [fstA_step hi] at hx
      show (ahI k wt i = pl → _) ∧ (¬ ahI k wt i = pl → _)
      refine ⟨fun e => ?_, fun e => ?_⟩
      · rw [if_pos (by simp [e])] at hx
        rw [← hx] at h; exact h
      · rw [if_neg (by simp [e])] at hx
        rw [nI_1]; exact ih hx
    · have ihj := ihj () trivial
      have e1 : sumI (fun j => if wt i < wt j ∨ (wt j = wt i ∧ j < i) then (1 : Int32) else 0) (j + 1) 0 = sumI (fun j => if wt i < wt j ∨ (wt j = wt i ∧ j < i) then 1 else 0) j 0 + if wt i < wt j ∨ (wt j = wt i ∧ j < i) then 1 else 0 := rfl
      rw [e1] at ihj
      unfold L_rank_16
      refine ⟨fun q => absurd q (ht1 ▸ nI_ge hj (by omega)), fun _ => hFW j _ hj (hFW i _ hi ?_)⟩
      have b1 := hb j hj
      have b2 := hb i hi
      have es : (wt j - wt i).toInt = (wt j).toInt - (wt i).toInt := i32_sub (by omega) (by omega)
      have z : (0 : Int32).toInt = 0 := by decide
      have h0 : 0 < wt j - wt i ↔ wt i < wt j := by rw [Int32.lt_iff_toInt_lt, es, z, Int32.lt_iff_toInt_lt]; omega
      have h1 : wt j - wt i = 0 ↔ wt j = wt i := by
        rw [← Int32.toInt_inj, es, z, ← Int32.toInt_inj]; omega
      rw [h0, h1, nI_1 j, nI_leI (by omega) (by omega)]
      refine ⟨fun q => ?_, fun q => ⟨fun q2 => ⟨fun q3 => ?_, fun q3 => ?_⟩, fun q2 => ?_⟩⟩
      · rw [if_pos (Or.inl q)] at ihj; exact ihj
      · rw [if_neg (by rintro (z1 | ⟨-, z2⟩); exact q z1; omega)] at ihj; exact ihj
      · rw [if_pos (Or.inr ⟨q2, by omega⟩)] at ihj; exact ihj
      · rw [if_neg (by rintro (z1 | ⟨z2, -⟩); exact q z1; exact q2 z2)] at ihj; exact ihj
/-- what masters are ranked by -/
def wtI (n : Nat) (T : TS) (kd m : Nat) : Int32 := if kd = 0 then T (78 + m) else if kd = 1 then yaI n T m else match atA n T (nI m) with
  | none => -1000000
  | some a => -(T (6 + 6 * a + m))
theorem yaI_bd {Y : Int} {n k : Nat} {T : TS} (hI : IT Y n k T) (hY : Y ≤ 100000) {m : Nat} (hm : m < 6) : 0 ≤ (yaI n T m).toInt ∧ (yaI n T m).toInt ≤ 600000 := by
  have hn := hI.n6
  have hY0 : 0 ≤ Y := by have := hI.srv (show 0 < 6 by omega) (show 0 < 6 by omega); omega
  obtain ⟨h1, h2, h3⟩ := sumI_toInt (v := fun a => T (42 + 6 * a + m)) (B := Y) hY0 hY (n := n) (by omega) (fun a ha => hI.srv (show a < 6 by omega) hm)
  unfold yaI
  have h4 : (n : Int) * Y ≤ 6 * 100000 := Int.mul_le_mul (by omega) hY hY0 (by omega)
  rw [h1]; omega
theorem neg_cost {Y : Int} {n k : Nat} {T : TS} (hI : IT Y n k T) {a m : Nat} (ha : a < 6) (hm : m < 6) : -60 ≤ (-(T (6 + 6 * a + m))).toInt ∧ (-(T (6 + 6 * a + m))).toInt ≤ 1 := by
  have hc : -1 ≤ (T (6 + 6 * a + m)).toInt ∧ (T (6 + 6 * a + m)).toInt ≤ 60 := by
    rcases hI.cost ha hm with e | e
    · rw [e]; decide
    · unfold cT at e; omega
  rw [Int32.toInt_neg, Int.bmod_eq_of_le (by omega) (by omega)]
  omega
theorem wtI_bd {Y : Int} {n k : Nat} {T : TS} (hI : IT Y n k T) (hY : Y ≤ 100000) {kd m : Nat} (hm : m < k) : -1000000 ≤ (wtI n T kd m).toInt ∧ (wtI n T kd m).toInt ≤ 1000000 := by
  have hk := hI.k6
  have hn := hI.n6
  unfold wtI
  split
  · have := hI.price (show m < 6 by omega)
    unfold pT at this; omega
  · split
    · have := yaI_bd hI hY (show m < 6 by omega); omega
    · cases ha : atA n T (nI m) with
      | none => exact (by decide : -1000000 ≤ (-1000000 : Int32).toInt ∧ (-1000000 : Int32).toInt ≤ 1000000)
      | some a =>
        have := (atA_some ha).1
        have := neg_cost hI (show a < 6 by omega) (show m < 6 by omega)
        show -1000000 ≤ (-(T (6 + 6 * a + m))).toInt ∧ (-(T (6 + 6 * a + m))).toInt ≤ 1000000
        omega
theorem s_worth1 {T : TS} {n m : Nat} {P : Int32 → TS → Prop} (hm : m < 6) (h : P (wtI n T 0 m) T) : F_worth1 T (nI m) P := by
  unfold F_worth1
  rw [ix hm (by decide)]
  exact ⟨vp_in_nI hm (by decide), h⟩
theorem s_worth2 {n k : Nat} {T : TS} (hn : n ≤ 6) (hk : k ≤ 6) (ht0 : T 0 = nI n) (ht1 : T 1 = nI k) {m : Nat} {P : Int32 → TS → Prop} (hm : m < k) (h : P (wtI n T 1 m) T) : F_worth2 T (nI m) P := by
  unfold F_worth2
  exact s_tyearsAt hn hk ht0 ht1 hm h
theorem s_worth3 {n : Nat} {T : TS} (hn : n ≤ 6) (ht0 : T 0 = nI n) {m : Nat} {P : Int32 → TS → Prop} (hm : m < 6) (h : P (wtI n T 2 m) T) : F_worth3 T (nI m) P := by
  unfold F_worth3
  refine s_tapprenticeAt hn ht0 ?_
  have e : wtI n T 2 m = match atA n T (nI m) with
    | none => -1000000
    | some a => -(T (6 + 6 * a + m)) := rfl
  rw [e] at h
  cases ha : atA n T (nI m) with
  | none => rw [ha] at h; exact ⟨fun _ => h, fun q => (q rfl).elim⟩
  | some a =>
    rw [ha] at h
    have := (atA_some ha).1
    refine ⟨fun q => absurd q (nI_ne_m1 (by omega)), fun _ => ⟨vp_in_nI (show a < 6 by omega) (by decide), vp_in_nI hm (by decide), ?_⟩⟩
    rw [ix hm (by decide), show (enc (some a)).toNatClampNeg = a from ix (show a < 6 by omega) (by decide)]
    exact h
