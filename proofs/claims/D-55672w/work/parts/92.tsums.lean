/-! PURE: the town's sums -/
def sumI (v : Nat → Int32) : Nat → Int32 → Int32
  | 0, s => s
  | i + 1, s => sumI v i s + v i
def sum2 (v : Nat → Nat → Int32) (k : Nat) : Nat → Int32 → Int32
  | 0, s => s
  | a + 1, s => sumI (v a) k (sum2 v k a s)
theorem sumI_congr {v w : Nat → Int32} {s : Int32} : ∀ {n : Nat}, (∀ i, i < n → v i = w i) → sumI v n s = sumI w n s
  | 0, _ => rfl
  | n + 1, h => by
    show sumI v n s + v n = sumI w n s + w n
    rw [sumI_congr (fun i hi => h i (by omega)), h n (by omega)]
theorem sumI_acc {v : Nat → Int32} {s : Int32} : ∀ {n : Nat}, sumI v n s = s + sumI v n 0
  | 0 => (Int32.add_zero _).symm
  | n + 1 => by
    show sumI v n s + v n = s + (sumI v n 0 + v n)
    rw [sumI_acc (n := n) (s := s), Int32.add_assoc]
theorem sumI_zero {v : Nat → Int32} {s : Int32} : ∀ {n : Nat}, (∀ i, i < n → v i = 0) → sumI v n s = s
  | 0, _ => rfl
  | n + 1, h => by
    show sumI v n s + v n = s
    rw [sumI_zero (fun i hi => h i (by omega)), h n (by omega)]; exact Int32.add_zero _
/-- all but one are zero -/
theorem sumI_one {v : Nat → Int32} {s : Int32} {j : Nat} : ∀ {n : Nat}, j < n → (∀ i, i < n → i ≠ j → v i = 0) → sumI v n s = s + v j
  | 0, h, _ => absurd h (Nat.not_lt_zero _)
  | n + 1, h, h0 => by
    show sumI v n s + v n = s + v j
    by_cases e : j = n
    · subst e; rw [sumI_zero fun i hi => h0 i (by omega) (by omega)]
    · rw [sumI_one (j := j) (by omega) (fun i hi => h0 i (by omega)), h0 n (by omega) (fun q => e q.symm)]; exact Int32.add_zero _
theorem sum2_sumI {v : Nat → Nat → Int32} {w : Nat → Int32} {k : Nat} {s : Int32} : ∀ {n : Nat}, (∀ a s, a < n → sumI (v a) k s = s + w a) → sum2 v k n s = sumI w n s
  | 0, _ => rfl
  | n + 1, h => by
    show sumI (v n) k (sum2 v k n s) = sumI w n s + w n
    rw [h n _ (by omega), sum2_sumI (fun a s ha => h a s (by omega))]
theorem s_tsum {n k : Nat} {T : TS} {FB : FBT} {v : Nat → Nat → Int32} (hn : n ≤ 6) (hk : k ≤ 6) (ht0 : T 0 = nI n) (ht1 : T 1 = nI k) (hFB : ∀ a m (P : Int32 → TS → Prop), a < n → m < k → P (v a m) T → FB T (nI a) (nI m) P) {P : Int32 → TS → Prop} (h : P (sum2 v k n 0) T) : F_tsum FB T P := by
  unfold F_tsum
  refine loop_i (σ := Unit) (fun f i _ => L_tsum_4 FB P f T (sum2 v k i 0) (nI i)) (fun _ _ => True) n (fun f _ _ => ?_) (fun f i _ hi _ ih => ?_) NF 0 () (Nat.zero_le _) (by unfold NF; omega) trivial
  · unfold L_tsum_4
    exact ⟨fun _ => h, fun q => absurd (ht0 ▸ nI_le (Nat.le_refl n) (by omega)) q⟩
  · have ih := ih () trivial
    unfold L_tsum_4
    refine ⟨fun q => absurd q (ht0 ▸ nI_ge hi (by omega)), fun _ => ?_⟩
    rw [nI_1]
    refine loop_i (σ := Unit) (fun g j _ => L_tsum_15 FB (fun T_5 w2_6 => L_tsum_4 FB P f T_5 w2_6 (nI (i + 1))) P (nI i) g T (sumI (v i) j (sum2 v k i 0)) (nI j)) (fun _ _ => True) k (fun g _ _ => ?_) (fun g j _ hj _ ihj => ?_) NF 0 () (Nat.zero_le _) (by unfold NF; omega) trivial
    · unfold L_tsum_15
      exact ⟨fun _ => ih, fun q => absurd (ht1 ▸ nI_le (Nat.le_refl k) (by omega)) q⟩
    · have ihj := ihj () trivial
      unfold L_tsum_15
      refine ⟨fun q => absurd q (ht1 ▸ nI_ge hj (by omega)), fun _ => hFB i j _ hi hj ?_⟩
      rw [nI_1]
      exact ihj
/-- the pairs' cost, the number of pairs -/
def pcI (n : Nat) (T : TS) : Int32 := sumI (fun a => match qT T a with
  | none => 0
  | some m => T (6 + 6 * a + m)) n 0
def cpI (n : Nat) (T : TS) : Int32 := sumI (fun a => match qT T a with
  | none => 0
  | some _ => 1) n 0
def cbI (n k : Nat) (T : TS) : Int32 := sum2 (fun a m => if okT T a m = true then 0 else 1) k n 0
def yaI (n : Nat) (T : TS) (m : Nat) : Int32 := sumI (fun a => T (42 + 6 * a + m)) n 0
def yoI (k : Nat) (T : TS) (a : Nat) : Int32 := sumI (fun m => T (42 + 6 * a + m)) k 0
def cmI (k : Nat) (T : TS) (a : Nat) : Int32 := sumI (fun m => if okT T a m = true then 1 else 0) k 0
theorem pair_nI {Y : Int} {n k : Nat} {T : TS} (hI : IT Y n k T) {a m : Nat} (ha : a < 6) (hm : m < k) : T (84 + a) = nI m ↔ qT T a = some m := by
  rw [qT_some hI ha]; exact ⟨fun h => ⟨hm, h⟩, fun h => h.2⟩
theorem row_pick {Y : Int} {n k : Nat} {T : TS} (hI : IT Y n k T) {a : Nat} (ha : a < n) {x : Nat → Int32} {s : Int32} : sumI (fun m => if T (84 + a) = nI m then x m else 0) k s = s + match qT T a with
    | none => 0
    | some m => x m := by
  have hn := hI.n6
  cases hq : qT T a with
  | none =>
    rw [sumI_zero fun m hm => if_neg fun e => by rw [pair_nI hI (by omega) hm, hq] at e; cases e]
    exact (Int32.add_zero _).symm
  | some m =>
    have hm := ((qT_some hI (by omega)).mp hq)
    rw [sumI_one (j := m) hm.1 (fun i hi hne => if_neg fun e => by rw [pair_nI hI (by omega) hi, hq] at e; cases e; exact hne rfl), if_pos hm.2]
theorem s_tcostOfPairs {Y : Int} {n k : Nat} {T : TS} (hI : IT Y n k T) {P : Int32 → TS → Prop} (h : P (pcI n T) T) : F_tcostOfPairs T P := by
  have hn := hI.n6
  have hk := hI.k6
  unfold F_tcostOfPairs
  refine s_tsum (v := fun a m => if T (84 + a) = nI m then T (6 + 6 * a + m) else 0) hn hk hI.t0 hI.t1 (fun a m P' ha hm hP => ?_) ?_
  · unfold F_tlambda_costOfPairs_1
    rw [ix (show a < 6 by omega) (by decide), ix (show m < 6 by omega) (by decide)]
    exact ⟨vp_in_nI (by omega) (by decide), fun e => ⟨vp_in_nI (by omega) (by decide), vp_in_nI (by omega) (by decide), by rw [if_pos e] at hP; exact hP⟩, fun e => by rw [if_neg e] at hP; exact hP⟩
  · rw [sum2_sumI fun a s ha => row_pick hI ha]; exact h
theorem s_tcountPairs {Y : Int} {n k : Nat} {T : TS} (hI : IT Y n k T) {P : Int32 → TS → Prop} (h : P (cpI n T) T) : F_tcountPairs T P := by
  have hn := hI.n6
  have hk := hI.k6
  unfold F_tcountPairs
  refine s_tsum (v := fun a m => if T (84 + a) = nI m then 1 else 0) hn hk hI.t0 hI.t1 (fun a m P' ha hm hP => ?_) ?_
  · unfold F_tlambda_countPairs_0
    rw [ix (show a < 6 by omega) (by decide)]
    exact ⟨vp_in_nI (by omega) (by decide), fun e => by rw [if_pos e] at hP; exact hP, fun e => by rw [if_neg e] at hP; exact hP⟩
  · rw [sum2_sumI fun a s ha => row_pick hI (x := fun _ => 1) ha]; exact h
theorem s_tcountBarred {n k : Nat} {T : TS} (hn : n ≤ 6) (hk : k ≤ 6) (ht0 : T 0 = nI n) (ht1 : T 1 = nI k) {P : Int32 → TS → Prop} (h : P (cbI n k T) T) : F_tcountBarred T P := by
  unfold F_tcountBarred
  refine s_tsum (v := fun a m => if okT T a m = true then 0 else 1) hn hk ht0 ht1 (fun a m P' ha hm hP => ?_) h
  unfold F_tlambda_countBarred_2
  refine s_tcanBe (by omega) (by omega) (fun e => ⟨fun _ => ?_, fun q => (q rfl).elim⟩) (fun e => ⟨fun q => absurd q (by decide), fun _ => ?_⟩)
  · simp [e] at hP; exact hP
  · simp [e] at hP; exact hP
theorem s_tyearsAt {n k : Nat} {T : TS} (hn : n ≤ 6) (hk : k ≤ 6) (ht0 : T 0 = nI n) (ht1 : T 1 = nI k) {w : Nat} (hw : w < k) {P : Int32 → TS → Prop} (h : P (yaI n T w) T) : F_tyearsAt T (nI w) P := by
  unfold F_tyearsAt
  refine s_tsum (v := fun a m => if m = w then T (42 + 6 * a + m) else 0) hn hk ht0 ht1 (fun a m P' ha hm hP => ?_) ?_
  · unfold F_tlambda_yearsAt_3
    rw [ix (show a < 6 by omega) (by decide), ix (show m < 6 by omega) (by decide), nI_eq (by omega) (by omega)]
    exact ⟨fun e => ⟨vp_in_nI (by omega) (by decide), vp_in_nI (by omega) (by decide), by simp only [if_pos e] at hP; exact hP⟩, fun e => by simp only [if_neg e] at hP; exact hP⟩
  · rw [sum2_sumI (w := fun a => T (42 + 6 * a + w)) fun a s ha => by
      rw [sumI_one (j := w) hw (fun i hi hne => if_neg hne), if_pos rfl]]
    exact h
theorem sum2_zero {v : Nat → Nat → Int32} {k : Nat} {s : Int32} : ∀ {n : Nat}, (∀ a m, a < n → m < k → v a m = 0) → sum2 v k n s = s
  | 0, _ => rfl
  | n + 1, h => by
    show sumI (v n) k (sum2 v k n s) = s
    rw [sumI_zero fun m hm => h n m (by omega) hm, sum2_zero fun a m ha hm => h a m (by omega) hm]
theorem sum2_one {v : Nat → Nat → Int32} {k j : Nat} {s : Int32} : ∀ {n : Nat}, j < n → (∀ a m, a < n → m < k → a ≠ j → v a m = 0) → sum2 v k n s = sumI (v j) k s
  | 0, h, _ => absurd h (Nat.not_lt_zero _)
  | n + 1, h, h0 => by
    show sumI (v n) k (sum2 v k n s) = _
    by_cases e : j = n
    · subst e; rw [sum2_zero fun a m ha hm => h0 a m (by omega) hm (by omega)]
    · rw [sumI_zero fun m hm => h0 n m (by omega) hm (fun q => e q.symm), sum2_one (j := j) (by omega) fun a m ha hm => h0 a m (by omega) hm]
theorem s_tyearsOf {n k : Nat} {T : TS} (hn : n ≤ 6) (hk : k ≤ 6) (ht0 : T 0 = nI n) (ht1 : T 1 = nI k) {w : Nat} (hw : w < n) {P : Int32 → TS → Prop} (h : P (yoI k T w) T) : F_tyearsOf T (nI w) P := by
  unfold F_tyearsOf
  refine s_tsum (v := fun a m => if a = w then T (42 + 6 * a + m) else 0) hn hk ht0 ht1 (fun a m P' ha hm hP => ?_) ?_
  · unfold F_tlambda_yearsOf_4
    rw [ix (show a < 6 by omega) (by decide), ix (show m < 6 by omega) (by decide), nI_eq (by omega) (by omega)]
    exact ⟨fun e => ⟨vp_in_nI (by omega) (by decide), vp_in_nI (by omega) (by decide), by simp only [if_pos e] at hP; exact hP⟩, fun e => by simp only [if_neg e] at hP; exact hP⟩
  · rw [sum2_one (j := w) hw (fun a m ha hm hne => if_neg hne), sumI_congr (w := fun m => T (42 + 6 * w + m)) fun m hm => if_pos rfl]
    exact h
theorem s_tcountMastersOf {n k : Nat} {T : TS} (hn : n ≤ 6) (hk : k ≤ 6) (ht0 : T 0 = nI n) (ht1 : T 1 = nI k) {w : Nat} (hw : w < n) {P : Int32 → TS → Prop} (h : P (cmI k T w) T) : F_tcountMastersOf T (nI w) P := by
  unfold F_tcountMastersOf
  refine s_tsum (v := fun a m => if a = w then (if okT T a m = true then 1 else 0) else 0) hn hk ht0 ht1 (fun a m P' ha hm hP => ?_) ?_
  · unfold F_tlambda_countMastersOf_5
    rw [nI_eq (by omega) (by omega)]
    refine ⟨fun e => s_tcanBe (by omega) (by omega) (fun e2 => ⟨fun _ => ?_, fun q => (q rfl).elim⟩) (fun e2 => ⟨fun q => absurd q (by decide), fun _ => ?_⟩), fun e => by simp only [if_neg e] at hP; exact hP⟩
    · simp [e, e2] at hP
      subst e; simp [e2] at hP; exact hP
    · subst e; simp [e2] at hP; exact hP
  · rw [sum2_one (j := w) hw (fun a m ha hm hne => if_neg hne), sumI_congr (w := fun m => if okT T w m = true then 1 else 0) fun m hm => if_pos rfl]
    exact h
theorem s_tsumOf3 {k : Nat} {T : TS} (hk : k ≤ 6) (ht1 : T 1 = nI k) {P : Int32 → TS → Prop} (h : P (sumI (fun m => T (78 + m)) k 0) T) : F_tsumOf3 T P := by
  unfold F_tsumOf3
  refine loop_i (σ := Unit) (fun f i _ => L_tsumOf3_4 P f T (sumI (fun m => T (78 + m)) i 0) (nI i)) (fun _ _ => True) k (fun f _ _ => ?_) (fun f i _ hi _ ih => ?_) NF 0 () (Nat.zero_le _) (by unfold NF; omega) trivial
  · unfold L_tsumOf3_4
    exact ⟨fun _ => h, fun q => absurd (ht1 ▸ nI_le (Nat.le_refl k) (by omega)) q⟩
  · have ih := ih () trivial
    unfold L_tsumOf3_4
    refine ⟨fun q => absurd q (ht1 ▸ nI_ge hi (by omega)), fun _ => ⟨vp_in_nI (by omega) (by decide), ?_⟩⟩
    rw [nI_1, ix (show i < 6 by omega) (by decide)]
    exact ih
theorem s_tsumOf4 {k : Nat} {T : TS} (hk : k ≤ 6) (ht1 : T 1 = nI k) {P : Int32 → TS → Prop} (h : P (sumI (fun m => T (90 + m)) k 0) T) : F_tsumOf4 T P := by
  unfold F_tsumOf4
  refine loop_i (σ := Unit) (fun f i _ => L_tsumOf4_4 P f T (sumI (fun m => T (90 + m)) i 0) (nI i)) (fun _ _ => True) k (fun f _ _ => ?_) (fun f i _ hi _ ih => ?_) NF 0 () (Nat.zero_le _) (by unfold NF; omega) trivial
  · unfold L_tsumOf4_4
    exact ⟨fun _ => h, fun q => absurd (ht1 ▸ nI_le (Nat.le_refl k) (by omega)) q⟩
  · have ih := ih () trivial
    unfold L_tsumOf4_4
    refine ⟨fun q => absurd q (ht1 ▸ nI_ge hi (by omega)), fun _ => ⟨vp_in_nI (by omega) (by decide), ?_⟩⟩
    rw [nI_1, ix (show i < 6 by omega) (by decide)]
    exact ih
def clI (n k : Nat) (T : TS) : Int32 := sumI (fun a => if T (84 + a) ≠ -1 ∧ T (84 + a) = enc (lk n k T a none) then 1 else 0) n 0
def cgI (n k : Nat) (T : TS) (m : Nat) : Int32 := sumI (fun a => if lk n k T a none = some m then 1 else 0) n 0
theorem s_tcountLiked {Y : Int} {n k : Nat} {T : TS} (hI : IT Y n k T) {P : Int32 → TS → Prop} (h : P (clI n k T) T) : F_tcountLiked T P := by
  have hn := hI.n6
  unfold F_tcountLiked
  refine loop_i (σ := Unit) (fun f i _ => L_tcountLiked_4 P f T (sumI (fun a => if T (84 + a) ≠ -1 ∧ T (84 + a) = enc (lk n k T a none) then 1 else 0) i 0) (nI i)) (fun _ _ => True) n (fun f _ _ => ?_) (fun f i _ hi _ ih => ?_) NF 0 () (Nat.zero_le _) (by unfold NF; omega) trivial
  · unfold L_tcountLiked_4
    exact ⟨fun _ => h, fun q => absurd (hI.t0 ▸ nI_le (Nat.le_refl n) (by omega)) q⟩
  · have ih := ih () trivial
    have e : sumI (fun a => if T (84 + a) ≠ -1 ∧ T (84 + a) = enc (lk n k T a none) then (1 : Int32) else 0) (i + 1) 0 = sumI (fun a => if T (84 + a) ≠ -1 ∧ T (84 + a) = enc (lk n k T a none) then 1 else 0) i 0 + if T (84 + i) ≠ -1 ∧ T (84 + i) = enc (lk n k T i none) then 1 else 0 := rfl
    rw [e] at ih
    unfold L_tcountLiked_4
    refine ⟨fun q => absurd q (hI.t0 ▸ nI_ge hi (by omega)), fun _ => ⟨vp_in_nI (by omega) (by decide), jn_i ?_⟩⟩
    rw [nI_1, ix (show i < 6 by omega) (by decide)]
    refine ⟨fun q => ?_, fun q => ⟨vp_in_nI (by omega) (by decide), s_tlikes hI (by omega) ⟨fun q2 => ?_, fun q2 => ?_⟩⟩⟩
    · rw [if_neg fun z => z.1 q] at ih; exact ih
    · rw [if_pos ⟨q, q2⟩] at ih; exact ih
    · rw [if_neg fun z => q2 z.2] at ih; exact ih
theorem s_tcountLiking {Y : Int} {n k : Nat} {T : TS} (hI : IT Y n k T) {m : Nat} (hm : m < k) {P : Int32 → TS → Prop} (h : P (cgI n k T m) T) : F_tcountLiking T (nI m) P := by
  have hn := hI.n6
  have hk := hI.k6
  unfold F_tcountLiking
  refine loop_i (σ := Unit) (fun f i _ => L_tcountLiking_4 P (nI m) f T (sumI (fun a => if lk n k T a none = some m then 1 else 0) i 0) (nI i)) (fun _ _ => True) n (fun f _ _ => ?_) (fun f i _ hi _ ih => ?_) NF 0 () (Nat.zero_le _) (by unfold NF; omega) trivial
  · unfold L_tcountLiking_4
    exact ⟨fun _ => h, fun q => absurd (hI.t0 ▸ nI_le (Nat.le_refl n) (by omega)) q⟩
  · have ih := ih () trivial
    have e : sumI (fun a => if lk n k T a none = some m then (1 : Int32) else 0) (i + 1) 0 = sumI (fun a => if lk n k T a none = some m then 1 else 0) i 0 + if lk n k T i none = some m then 1 else 0 := rfl
    rw [e] at ih
    unfold L_tcountLiking_4
    refine ⟨fun q => absurd q (hI.t0 ▸ nI_ge hi (by omega)), fun _ => s_tlikes hI (by omega) ?_⟩
    rw [nI_1]
    have e2 : enc (lk n k T i none) = nI m ↔ lk n k T i none = some m := by
      cases hl : lk n k T i none with
      | none => exact ⟨fun q => absurd q.symm (nI_ne_m1 (by omega)), fun q => by cases q⟩
      | some m' =>
        have := lk_lt hl
        rw [enc_some, nI_eq (by omega) (by omega)]
        exact ⟨fun q => by rw [q], fun q => by cases q; rfl⟩
    rw [e2]
    exact ⟨fun q => by rw [if_pos q] at ih; exact ih, fun q => by rw [if_neg q] at ih; exact ih⟩
