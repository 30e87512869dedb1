/-! PURE: what is asked of the model: the number of what is thrown, the answer -/
def Jq (S S' : MS) : Prop := (∀ j, j < 1056 → S' 1 j = S 1 j) ∧ S' 4 = S 4 ∧ S' 5 = S 5 ∧ S' 6 = S 6 ∧ ∀ j, j ≠ 11 → j ≠ 12 → j ≠ 13 → S' 0 j = S 0 j
theorem Jk.q {S S' : MS} (h : Jk S S') : Jq S S' := ⟨fun j _ => by rw [h.1], h.2⟩
theorem Jq.rf {S : MS} : Jq S S := Jk.rf.q
def qM (a : Nat × Int32) (S : MS) (P : Int32 → MS → Prop) : Prop := ∀ S', Jq (sput S 0 0 (nI a.1)) S' → P a.2 S'
theorem qM.k {a : Nat × Int32} {S : MS} {P : Int32 → MS → Prop} (h : qM a S P) : ∀ S', Jk (sput S 0 0 (nI a.1)) S' → P a.2 S' := fun S' hJ => h S' hJ.q
def costOfA (n k : Nat) (T : TS) (a m : Int32) : Nat × Int32 := if inR a n ∧ inR m k then (0, T (cix a m)) else (1, 0)
def burdenA (n k : Nat) (T : TS) (a m : Int32) : Nat × Int32 := if inR a n ∧ inR m k then (if T (cix a m) = -1 then (2, 0) else (0, hvI T a.toNatClampNeg m.toNatClampNeg)) else (1, 0)
def servedA (n k : Nat) (T : TS) (a m : Int32) : Nat × Int32 := if inR a n ∧ inR m k then (0, T (42 + 6 * a.toNatClampNeg + m.toNatClampNeg)) else (1, 0)
/-- the master whom an apprentice has in the first pairing of the least cost -/
def ffI (n k : Nat) (T : TS) (a : Nat) : Int32 := if rows n k T = [] then -1 else nI ((g0 n T (rows n k T)).2.2.2 a)
def appV (n k : Nat) (T : TS) (a : Nat) (what : Int32) : Int32 := if what = 0 then T (84 + a) else if what = 1 then enc (lk n k T a none) else if what = 2 then mvI n k T a else if what = 3 then yoI k T a else if what = 4 then cmI k T a else ffI n k T a
def appA (n k : Nat) (T : TS) (a what : Int32) : Nat × Int32 := if inR a n then (if 0 ≤ what.toInt ∧ what.toInt ≤ 5 then (0, appV n k T a.toNatClampNeg what) else (2, 0)) else (1, 0)
def masV (n k : Nat) (T : TS) (m : Nat) (what : Int32) : Int32 := if what = 0 then T (78 + m) else if what = 1 then enc (atA n T (nI m)) else if what = 2 then T (90 + m) else if what = 3 then yaI n T m else cgI n k T m
def masA (n k : Nat) (T : TS) (m what : Int32) : Nat × Int32 := if inR m k then (if 0 ≤ what.toInt ∧ what.toInt ≤ 4 then (0, masV n k T m.toNatClampNeg what) else (2, 0)) else (1, 0)
def leastA (n k : Nat) (T : TS) : Nat × Int32 := if rows n k T = [] then (1, 0) else (0, lsI n k T)
/-- the pairings that have a pair -/
def rowsW (n k : Nat) (T : TS) (a m : Nat) : List (Nat → Nat) := (rows n k T).filter fun w => w a == m
def withA (n k : Nat) (T : TS) (a m : Int32) : Nat × Int32 := if inR a n ∧ inR m k then (if rowsW n k T a.toNatClampNeg m.toNatClampNeg = [] then (2, 0) else (0, Int32.ofInt (lmin (rcs n T) DD (rowsW n k T a.toNatClampNeg m.toNatClampNeg)))) else (1, 0)
def needV (n k : Nat) (T : TS) (a m : Nat) : Bool := decide ((g0 n T (rows n k T)).1 ≠ 0) && decide ((g0 n T (rows n k T)).2.2.1 < lmin (rcs n T) DD ((rows n k T).filter fun w => !(w a == m)))
def needA (n k : Nat) (T : TS) (a m : Int32) : Nat × Int32 := if inR a n ∧ inR m k then (0, if needV n k T a.toNatClampNeg m.toNatClampNeg = true then 1 else 0) else (1, 0)
def rankA (n k : Nat) (T : TS) (kd pl : Int32) : Nat × Int32 := if 0 ≤ kd.toInt ∧ kd.toInt ≤ 2 then (match rkI k (wtI n T kd.toNatClampNeg) pl with
  | none => (2, 0)
  | some m => (0, nI m)) else (1, 0)
theorem bet_hi {x : Int32} {h : Nat} (hh : h ≤ 1000) : bet x 0 (nI h) = if 0 ≤ x.toInt ∧ x.toInt ≤ h then 1 else 0 := by
  have e : (0 ≤ x ∧ x ≤ nI h) ↔ (0 ≤ x.toInt ∧ x.toInt ≤ h) := by
    rw [Int32.le_iff_toInt_le, Int32.le_iff_toInt_le, nI_toInt (by omega)]; exact Iff.rfl
  unfold bet
  by_cases q : 0 ≤ x.toInt ∧ x.toInt ≤ h
  · rw [if_pos q, if_pos (e.mpr q)]
  · rw [if_neg q, if_neg (fun z => q (e.mp z))]
theorem IT.p0 {Y : Int} {n k : Nat} {S : MS} {j : Nat} {v : Int32} (h : IT Y n k (S 1)) : IT Y n k (sput S 0 j v 1) := by rw [sput0_1]; exact h
section MQ
variable {Y : Int} {n k : Nat} {S : MS} {P : Int32 → MS → Prop}
theorem s_mareThere (hn : n ≤ 6) (hk : k ≤ 6) (ht0 : S 1 0 = nI n) (ht1 : S 1 1 = nI k) {x y : Int32} (h0 : ¬ (inR x n ∧ inR y k) → P 0 (sput S 0 0 1)) (h1 : inR x n → inR y k → P 1 (sput S 0 0 0)) : F_mareThere S x y P := by
  unfold F_mareThere
  refine s_misApprentice hn ht0 (fun e => jn_i (jn_i ⟨fun _ => s_misThere0 ⟨rfl, h0 fun q => e q.1⟩, fun q => (q rfl).elim⟩)) (fun e => jn_i (jn_i ⟨fun q => absurd q (by decide), fun _ => ?_⟩))
  exact s_misMaster hk ht1 (fun e2 => ⟨fun _ => s_misThere0 ⟨rfl, h0 fun q => e2 q.2⟩, fun q => (q rfl).elim⟩) (fun e2 => ⟨fun q => absurd q (by decide), fun _ => s_misThere1 ⟨rfl, h1 e e2⟩⟩)
theorem s_mcostOf (hn : n ≤ 6) (hk : k ≤ 6) (ht0 : S 1 0 = nI n) (ht1 : S 1 1 = nI k) {a m : Int32} (h : qM (costOfA n k (S 1) a m) S P) : F_mcostOf S a m P := by
  unfold F_mcostOf
  unfold costOfA at h
  refine s_mareThere hn hk ht0 ht1 (fun e => ⟨fun _ => by rw [if_neg e] at h; exact h _ Jq.rf, fun q => (q rfl).elim⟩) (fun ha hm => ⟨fun q => absurd q (by decide), fun _ => ?_⟩)
  rw [if_pos ⟨ha, hm⟩] at h
  obtain ⟨a', ha', rfl⟩ := inR_of (by omega) ha
  obtain ⟨m', hm', rfl⟩ := inR_of (by omega) hm
  refine s_mc (by omega) (by omega) ?_
  rw [sput0_1]
  have e1 : cix (nI a') (nI m') = 6 + 6 * a' + m' := by unfold cix; rw [ix (show a' < 6 by omega) (by decide), ix (show m' < 6 by omega) (by decide)]
  rw [e1] at h
  exact h _ Jq.rf
theorem s_mserved (hn : n ≤ 6) (hk : k ≤ 6) (ht0 : S 1 0 = nI n) (ht1 : S 1 1 = nI k) {a m : Int32} (h : qM (servedA n k (S 1) a m) S P) : F_mserved S a m P := by
  unfold F_mserved
  unfold servedA at h
  refine s_mareThere hn hk ht0 ht1 (fun e => ⟨fun _ => by rw [if_neg e] at h; exact h _ Jq.rf, fun q => (q rfl).elim⟩) (fun ha hm => ⟨fun q => absurd q (by decide), fun _ => ?_⟩)
  rw [if_pos ⟨ha, hm⟩] at h
  obtain ⟨a', ha', rfl⟩ := inR_of (by omega) ha
  obtain ⟨m', hm', rfl⟩ := inR_of (by omega) hm
  rw [cs42, cl (by omega), sput0_1]
  rw [ix (show a' < 6 by omega) (by decide), ix (show m' < 6 by omega) (by decide)] at h
  exact ⟨vi (by omega), h _ Jq.rf⟩
theorem s_mburden (hn : n ≤ 6) (hk : k ≤ 6) (ht0 : S 1 0 = nI n) (ht1 : S 1 1 = nI k) {a m : Int32} (h : qM (burdenA n k (S 1) a m) S P) : F_mburden S a m P := by
  unfold F_mburden
  unfold burdenA at h
  have e0 : ∀ v, sput S 0 0 v 0 0 = v := fun v => by rw [sput_self, pk_us]
  refine s_misApprentice hn ht0 (fun e => jn_i (jn_i ⟨fun _ => nm_i ?_, fun q => (q rfl).elim⟩)) (fun e => jn_i (jn_i ⟨fun q => absurd q (by decide), fun _ => ?_⟩))
  · rw [if_neg fun q => e q.1] at h
    rw [e0]; exact ⟨fun q => absurd q (by decide), fun _ => h _ Jq.rf⟩
  · refine s_misMaster hk ht1 (fun e2 => ⟨fun _ => nm_i ?_, fun q => (q rfl).elim⟩) (fun e2 => ⟨fun q => absurd q (by decide), fun _ => ?_⟩)
    · rw [if_neg fun q => e2 q.2] at h
      rw [e0]; exact ⟨fun q => absurd q (by decide), fun _ => h _ Jq.rf⟩
    · rw [if_pos ⟨e, e2⟩] at h
      obtain ⟨a', ha', rfl⟩ := inR_of (by omega) e
      obtain ⟨m', hm', rfl⟩ := inR_of (by omega) e2
      have e1 : cix (nI a') (nI m') = 6 + 6 * a' + m' := by unfold cix; rw [ix (show a' < 6 by omega) (by decide), ix (show m' < 6 by omega) (by decide)]
      rw [e1, ix (show a' < 6 by omega) (by decide), ix (show m' < 6 by omega) (by decide)] at h
      refine s_misBarred (by omega) (by omega) (fun eb => ⟨fun q => absurd q (by decide), fun _ => nm_i ?_⟩) (fun eb => ⟨fun _ => nm_i ?_, fun q => (q rfl).elim⟩)
      · rw [if_pos (by simpa [okT] using eb)] at h
        rw [e0]; exact ⟨fun q => absurd q (by decide), fun _ => h _ Jq.rf⟩
      · rw [if_neg (by simpa [okT] using eb)] at h
        rw [e0]
        refine ⟨fun _ => s_mheavy (by omega) (by omega) ?_, fun q => (q rfl).elim⟩
        rw [sput0_1]; exact h _ Jq.rf
theorem s_msumServed1 {a : Nat} (ha : a < 6) (h : P (sumI (fun m => S 1 (42 + 6 * a + m)) 6 0) S) : F_msumServed S (nI a) 1 P := by
  unfold F_msumServed
  refine loop_i (σ := Unit) (fun f i _ => L_msumServed_5 P (nI a) 1 f S (sumI (fun m => S 1 (42 + 6 * a + m)) i 0) (nI i)) (fun _ _ => True) 6 (fun f _ _ => ?_) (fun f i _ hi _ ih => ?_) NF 0 () (Nat.zero_le _) (by unfold NF; omega) trivial
  · unfold L_msumServed_5
    exact ⟨fun _ => h, fun q => absurd (nI_le (Nat.le_refl 6) (by decide)) q⟩
  · have ih := ih () trivial
    unfold L_msumServed_5
    refine ⟨fun q => absurd q (nI_ge hi (by decide) : ¬ nI 6 ≤ nI i), fun _ => jn_i ⟨fun q => absurd q (by decide), fun _ => ?_⟩⟩
    rw [cs42]
    dsimp only
    rw [cl (by omega), nI_1]
    exact ⟨vi (by omega), ih⟩
theorem s_msumServed0 {m : Nat} (hm : m < 6) (h : P (sumI (fun a => S 1 (42 + 6 * a + m)) 6 0) S) : F_msumServed S (nI m) 0 P := by
  unfold F_msumServed
  refine loop_i (σ := Unit) (fun f i _ => L_msumServed_5 P (nI m) 0 f S (sumI (fun a => S 1 (42 + 6 * a + m)) i 0) (nI i)) (fun _ _ => True) 6 (fun f _ _ => ?_) (fun f i _ hi _ ih => ?_) NF 0 () (Nat.zero_le _) (by unfold NF; omega) trivial
  · unfold L_msumServed_5
    exact ⟨fun _ => h, fun q => absurd (nI_le (Nat.le_refl 6) (by decide)) q⟩
  · have ih := ih () trivial
    unfold L_msumServed_5
    refine ⟨fun q => absurd q (nI_ge hi (by decide) : ¬ nI 6 ≤ nI i), fun _ => jn_i ⟨fun _ => ?_, fun q => (q rfl).elim⟩⟩
    rw [cs42]
    dsimp only
    rw [cl (by omega), nI_1]
    exact ⟨vi (by omega), ih⟩
theorem sumI_cut {v : Nat → Int32} {n : Nat} (h : ∀ i, n ≤ i → v i = 0) : ∀ r, sumI v (n + r) 0 = sumI v n 0
  | 0 => rfl
  | r + 1 => by
    show sumI v (n + r) 0 + v (n + r) = _
    rw [sumI_cut h r, h _ (by omega)]; exact Int32.add_zero _
theorem sumI_6 {v : Nat → Int32} {n : Nat} (hn : n ≤ 6) (h : ∀ i, n ≤ i → i < 6 → v i = 0) : sumI v 6 0 = sumI v n 0 := by
  have e : ∀ N, N ≤ 6 → sumI v N 0 = sumI (fun i => if i < 6 then v i else 0) N 0 := fun N hN => sumI_congr fun i hi => by rw [if_pos (by omega)]
  rw [e 6 (Nat.le_refl _), e n hn]
  have := sumI_cut (v := fun i => if i < 6 then v i else 0) (n := n) (fun i hi => by
    show (if i < 6 then v i else 0) = 0
    split
    · exact h i hi (by assumption)
    · rfl) (6 - n)
  rw [show n + (6 - n) = 6 by omega] at this
  exact this
theorem s_mmayHave (hk : k ≤ 6) (ht1 : S 1 1 = nI k) {a : Nat} (ha : a < 6) (h : P (cmI k (S 1) a) S) : F_mmayHave S (nI a) P := by
  unfold F_mmayHave
  refine loop_i (σ := Unit) (fun f i _ => L_mmayHave_4 P (nI a) f S (sumI (fun m => if okT (S 1) a m = true then 1 else 0) i 0) (nI i)) (fun _ _ => True) k (fun f _ _ => ?_) (fun f i _ hi _ ih => ?_) NF 0 () (Nat.zero_le _) (by unfold NF; omega) trivial
  · unfold L_mmayHave_4
    rw [k1]
    exact ⟨v1, fun _ => h, fun q => absurd (ht1 ▸ nI_le (Nat.le_refl k) (by omega)) q⟩
  · have ih := ih () trivial
    have e1 : sumI (fun m => if okT (S 1) a m = true then (1 : Int32) else 0) (i + 1) 0 = sumI (fun m => if okT (S 1) a m = true then 1 else 0) i 0 + if okT (S 1) a i = true then 1 else 0 := rfl
    rw [e1] at ih
    unfold L_mmayHave_4
    rw [k1, nI_1]
    refine ⟨v1, fun q => absurd q (ht1 ▸ nI_ge hi (by omega)), fun _ => s_misBarred ha (by omega) (fun e => ⟨fun q => absurd q (by decide), fun _ => ?_⟩) (fun e => ⟨fun _ => ?_, fun q => (q rfl).elim⟩)⟩
    · rw [if_neg (by simp [e])] at ih; exact ih
    · rw [if_pos e] at ih; exact ih
theorem s_mlikedBy (hI : IT Y n k (S 1)) {m : Nat} (hm : m < k) (h : P (cgI n k (S 1) m) S) : F_mlikedBy S (nI m) P := by
  have hn := hI.n6
  have hk := hI.k6
  unfold F_mlikedBy
  refine loop_i (σ := Unit) (fun f i _ => L_mlikedBy_4 P (nI m) f S (sumI (fun a => if lk n k (S 1) a none = some m then 1 else 0) i 0) (nI i)) (fun _ _ => True) n (fun f _ _ => ?_) (fun f i _ hi _ ih => ?_) NF 0 () (Nat.zero_le _) (by unfold NF; omega) trivial
  · unfold L_mlikedBy_4
    rw [k0]
    exact ⟨v0, fun _ => h, fun q => absurd (hI.t0 ▸ nI_le (Nat.le_refl n) (by omega)) q⟩
  · have ih := ih () trivial
    have e : sumI (fun a => if lk n k (S 1) a none = some m then (1 : Int32) else 0) (i + 1) 0 = sumI (fun a => if lk n k (S 1) a none = some m then 1 else 0) i 0 + if lk n k (S 1) i none = some m then 1 else 0 := rfl
    rw [e] at ih
    unfold L_mlikedBy_4
    rw [k0, nI_1]
    refine ⟨v0, fun q => absurd q (hI.t0 ▸ nI_ge hi (by omega)), fun _ => s_mlikes hI (by omega) ?_⟩
    have e2 : enc (lk n k (S 1) i none) = nI m ↔ lk n k (S 1) i none = some m := by
      cases hl : lk n k (S 1) i none with
      | none => exact ⟨fun q => absurd q.symm (nI_ne_m1 (by omega)), fun q => by cases q⟩
      | some m' =>
        have := lk_lt hl
        rw [enc_some, nI_eq (by omega) (by omega)]
        exact ⟨fun q => by rw [q], fun q => by cases q; rfl⟩
    rw [e2]
    exact ⟨fun q => by rw [if_pos q] at ih; exact ih, fun q => by rw [if_neg q] at ih; exact ih⟩
theorem s_minFirst (hI : IT Y n k (S 1)) {a : Nat} (ha : a < n) (h : ∀ S', Jk S S' → P (ffI n k (S 1) a) S') : F_minFirst S (nI a) P := by
  have hn := hI.n6
  have hk := hI.k6
  unfold F_minFirst
  refine s_mlooks hI fun S1 hM hJ => ?_
  obtain ⟨-, -, h0⟩ := len0 hn hk hM (rcs_D hI)
  rw [h0]
  have h := h S1 hJ
  unfold ffI at h
  refine ⟨fun e => by rw [if_pos e] at h; exact h, fun e => ⟨vp_in_nI (by omega) (by decide), ?_⟩⟩
  rw [if_neg e] at h
  rw [ix (show a < 6 by omega) (by decide), hM.2.2.2 e a ha]; exact h
theorem s_mapprenticeOf (hI : IT Y n k (S 1)) {a what : Int32} (h : qM (appA n k (S 1) a what) S P) : F_mapprenticeOf S a what P := by
  have hn := hI.n6
  have hk := hI.k6
  unfold F_mapprenticeOf
  unfold appA at h
  have e0 : ∀ v, sput S 0 0 v 0 0 = v := fun v => by rw [sput_self, pk_us]
  refine s_misApprentice hn hI.t0 (fun e => jn_i ⟨fun _ => nm_i ?_, fun q => (q rfl).elim⟩) (fun e => jn_i ⟨fun q => absurd q (by decide), fun _ => s_min ?_⟩)
  · rw [if_neg e] at h
    rw [e0]; exact ⟨fun q => absurd q (by decide), fun _ => h _ Jq.rf⟩
  · rw [if_pos e] at h
    rw [show (5 : Int32) = nI 5 from rfl, bet_hi (by decide)]
    by_cases hw : 0 ≤ what.toInt ∧ what.toInt ≤ (5 : Nat)
    · rw [if_pos hw]
      rw [if_pos (by omega)] at h
      obtain ⟨a', ha', rfl⟩ := inR_of (by omega) e
      rw [ix (show a' < 6 by omega) (by decide)] at h
      refine ⟨fun q => absurd q (by decide), fun _ => nm_i ?_⟩
      have hI' : IT Y n k (sput S 0 0 0 1) := hI.p0
      rw [e0]
      refine ⟨fun _ => ?_, fun q => (q rfl).elim⟩
      rw [c84, cl (by omega)]
      unfold appV at h
      have h1 := h.k
      refine ⟨fun q => ⟨vi (by omega), ?_⟩, fun q => ⟨fun q1 => s_mlikes hI' (by omega) ?_, fun q1 => ⟨fun q2 => s_mraise hI' (by omega) ?_, fun q2 => ⟨fun q3 => s_msumServed1 (by omega) ?_, fun q3 => ⟨fun q4 => s_mmayHave hk hI'.t1 (by omega) ?_, fun q4 => s_minFirst hI' ha' fun S' hJ => ?_⟩⟩⟩⟩⟩
      · rw [if_pos q] at h1; rw [sput0_1]; exact h1 _ Jk.rf
      · rw [if_neg q, if_pos q1] at h1; rw [sput0_1]; exact h1 _ Jk.rf
      · rw [if_neg q, if_neg q1, if_pos q2] at h1; rw [sput0_1]; exact h1 _ Jk.rf
      · rw [if_neg q, if_neg q1, if_neg q2, if_pos q3] at h1
        rw [sput0_1, sumI_6 (n := k) hk (fun i h1 h2 => (hI.out (show a' < 6 by omega) h2 (Or.inr h1)).2)]; exact h1 _ Jk.rf
      · rw [if_neg q, if_neg q1, if_neg q2, if_neg q3, if_pos q4] at h1; rw [sput0_1]; exact h1 _ Jk.rf
      · rw [if_neg q, if_neg q1, if_neg q2, if_neg q3, if_neg q4] at h1; rw [sput0_1]; exact h1 _ hJ
    · rw [if_neg hw]
      rw [if_neg (by omega)] at h
      refine ⟨fun _ => nm_i ?_, fun q => (q rfl).elim⟩
      rw [e0]; exact ⟨fun q => absurd q (by decide), fun _ => h _ Jq.rf⟩
theorem s_mmasterOf (hI : IT Y n k (S 1)) {m what : Int32} (h : qM (masA n k (S 1) m what) S P) : F_mmasterOf S m what P := by
  have hn := hI.n6
  have hk := hI.k6
  unfold F_mmasterOf
  unfold masA at h
  have e0 : ∀ v, sput S 0 0 v 0 0 = v := fun v => by rw [sput_self, pk_us]
  refine s_misMaster hk hI.t1 (fun e => jn_i ⟨fun _ => nm_i ?_, fun q => (q rfl).elim⟩) (fun e => jn_i ⟨fun q => absurd q (by decide), fun _ => s_min ?_⟩)
  · rw [if_neg e] at h
    rw [e0]; exact ⟨fun q => absurd q (by decide), fun _ => h _ Jq.rf⟩
  · rw [if_pos e] at h
    rw [show (4 : Int32) = nI 4 from rfl, bet_hi (by decide)]
    by_cases hw : 0 ≤ what.toInt ∧ what.toInt ≤ (4 : Nat)
    · rw [if_pos hw]
      rw [if_pos (by omega)] at h
      obtain ⟨m', hm', rfl⟩ := inR_of (by omega) e
      rw [ix (show m' < 6 by omega) (by decide)] at h
      refine ⟨fun q => absurd q (by decide), fun _ => nm_i ?_⟩
      have hI' : IT Y n k (sput S 0 0 0 1) := hI.p0
      rw [e0]
      refine ⟨fun _ => ?_, fun q => (q rfl).elim⟩
      rw [c78, c90, cl (by omega), cl (by omega)]
      unfold masV at h
      refine ⟨fun q => ⟨vi (by omega), ?_⟩, fun q => ⟨fun q1 => s_mheldBy hn hI'.t0 ?_, fun q1 => ⟨fun q2 => ⟨vi (by omega), ?_⟩, fun q2 => ⟨fun q3 => s_msumServed0 (by omega) ?_, fun q3 => s_mlikedBy hI' hm' ?_⟩⟩⟩⟩
      · rw [if_pos q] at h; rw [sput0_1]; exact h _ Jq.rf
      · rw [if_neg q, if_pos q1] at h; rw [sput0_1]; exact h _ Jq.rf
      · rw [if_neg q, if_neg q1, if_pos q2] at h; rw [sput0_1]; exact h _ Jq.rf
      · rw [if_neg q, if_neg q1, if_neg q2, if_pos q3] at h
        rw [sput0_1, sumI_6 (n := n) hn (fun i h1 h2 => (hI.out h2 (show m' < 6 by omega) (Or.inl h1)).2)]; exact h _ Jq.rf
      · rw [if_neg q, if_neg q1, if_neg q2, if_neg q3] at h; rw [sput0_1]; exact h _ Jq.rf
    · rw [if_neg hw]
      rw [if_neg (by omega)] at h
      refine ⟨fun _ => nm_i ?_, fun q => (q rfl).elim⟩
      rw [e0]; exact ⟨fun q => absurd q (by decide), fun _ => h _ Jq.rf⟩
end MQ
