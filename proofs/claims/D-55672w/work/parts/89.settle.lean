/-! PURE: to settle; the least cost by bids is the least of all -/
def anew (T : TS) : TS := fun j => if 78 ≤ j ∧ j < 84 then 0 else if 84 ≤ j ∧ j < 90 then -1 else T j
theorem anew_lo {T : TS} {j : Nat} (h : j < 78 ∨ 90 ≤ j) : anew T j = T j := by unfold anew; rw [if_neg (by omega), if_neg (by omega)]
theorem anew_p {T : TS} {m : Nat} (h : m < 6) : anew T (78 + m) = 0 := by unfold anew; rw [if_pos (by omega)]
theorem anew_q {T : TS} {a : Nat} (h : a < 6) : anew T (84 + a) = -1 := by unfold anew; rw [if_neg (by omega), if_pos (by omega)]
theorem IT.nw {Y : Int} {n k : Nat} {T : TS} (hI : IT Y n k T) : IT Y n k (anew T) := by
  refine ⟨hI.n6, hI.k6, ?_, ?_, fun a m h1 h2 => ?_, fun m h1 => ?_, fun b h1 => ?_, fun b b' h1 h2 => ?_, fun a m h1 h2 h3 => ?_, fun m h1 h2 => ?_, fun a m h1 h2 => ?_⟩
  · rw [anew_lo (by omega)]; exact hI.t0
  · rw [anew_lo (by omega)]; exact hI.t1
  · unfold cT; rw [anew_lo (by omega)]; exact hI.cost h1 h2
  · unfold pT; rw [anew_p h1]; decide
  · exact Or.inl (anew_q h1)
  · intro _ q; exact absurd (anew_q h1) q
  · rw [anew_lo (by omega), anew_lo (by omega)]; exact hI.out h1 h2 h3
  · rw [anew_p h1, anew_lo (by omega)]; exact ⟨rfl, (hI.outm h1 h2).2⟩
  · rw [anew_lo (by omega)]; exact hI.srv h1 h2
theorem AucT.nw {Y : Int} {n k : Nat} {T : TS} (hI : IT Y n k T) : AucT n k (anew T) := by
  have hn := hI.n6
  have hk := hI.k6
  have hq : ∀ a, a < n → qT (anew T) a = none := fun a ha => qT_none.mpr (anew_q (by omega))
  have hp : ∀ m, pC k (anew T) m = 0 := fun m => by
    unfold pC; split
    · unfold pT; rw [anew_p (by omega)]; decide
    · rfl
  refine ⟨⟨fun a m ha e => ?_, fun a b m ha hb e => ?_⟩, fun a m ha e => ?_, fun m hm h0 => absurd (hp m) h0, fun m => by rw [hp m]; exact Int.le_refl 0⟩
  · rw [hq a ha] at e; cases e
  · rw [hq a ha] at e; cases e
  · rw [hq a ha] at e; cases e
/-- all that a settling needs: a whole pairing -/
def Whole (n k : Nat) (T : TS) (σ : Nat → Option Nat) : Prop := QO n k (cT T) σ ∧ PairedBy n σ
theorem IT.c60 {Y : Int} {n k : Nat} {T : TS} (hI : IT Y n k T) : ∀ a m, a < n → m < k → cT T a m ≠ -1 → 0 ≤ cT T a m ∧ cT T a m ≤ 60 := fun a m ha hm hc => by
  have hn := hI.n6
  have hk := hI.k6
  rcases hI.cost (show a < 6 by omega) (show m < 6 by omega) with e | e
  · exact absurd (cT_m1 e) hc
  · exact e
theorem bid_fits {Y : Int} {n k : Nat} {T : TS} (hI : IT Y n k T) (hA : AucT n k T) (hB : Bdp (pC k T) k) {σ : Nat → Option Nat} (hW : Whole n k T σ) {a : Nat} (ha : a < n) (hf : T (84 + a) = -1) : ∃ m, lk n k T a none = some m ∧ pT T m + mvs n k T a ≤ 9999 ∧ ∀ d, Bdp (pC k (bidT n k d T a m)) k := by
  have hn := hI.n6
  have hk := hI.k6
  obtain ⟨m1, g1, g2, g3⟩ := hA.near hn hI.c60 hW.1 hW.2 ha (qT_none.mpr hf)
  rw [hv_pC g1] at g3
  have hN : ∀ m, m < k → cT T a m ≠ -1 → 0 ≤ cT T a m * (n + 1 : Int) ∧ cT T a m * (n + 1 : Int) ≤ 420 := fun m hm hc => by
    obtain ⟨x1, x2⟩ := hI.c60 a m ha hm hc
    have y1 : (0 : Int) ≤ n + 1 := by omega
    refine ⟨Int.mul_nonneg x1 y1, ?_⟩
    have z1 := Int.mul_le_mul_of_nonneg_right x2 y1
    have z2 : (60 : Int) * (n + 1) ≤ 420 := by omega
    exact Int.le_trans z1 z2
  cases hl : lk n k T a none with
  | none =>
    have := best_none hl m1 g1
    simp [okT_iff.mpr g2] at this
  | some m =>
    obtain ⟨hm, hok, hmin⟩ := best_some hl
    have hok2 : cT T a m ≠ -1 := by
      simp at hok
      exact okT_iff.mp hok
    have e1 := hmin m1 g1 (by simp [okT_iff.mpr g2])
    have e2 := hN m hm hok2
    have hp0 := hI.price (show m < 6 by omega)
    have hlow : pT T m ≤ 2525 := by
      simp only [hv] at e1 g3; omega
    have hmv := mvs_bd hI (show a < 6 by omega)
    have hall := hB.all hk
    have hx : pT T m + mvs n k T a ≤ 2625 ∨ ∃ m', m' < k ∧ pT T m + mvs n k T a ≤ pC k T m' + 421 := by
      unfold mvs
      rw [hl]
      cases hl2 : lk n k T a (some m) with
      | none => left; simp only [hl2]; omega
      | some b2 =>
        right
        obtain ⟨hb1, hb2, -⟩ := best_some hl2
        have hb3 : cT T a b2 ≠ -1 := by
          simp at hb2
          exact okT_iff.mp hb2.1
        have e3 := hN b2 hb1 hb3
        refine ⟨b2, hb1, ?_⟩
        simp only [hl2]
        rw [pC_lt hb1]
        unfold hv
        omega
    refine ⟨m, rfl, ?_, fun d => ?_⟩
    · rcases hx with hx | ⟨m', hm', hx⟩
      · omega
      · have := hall m' hm'; omega
    · rw [pC_bid hI (by omega) hm]
      have hm0 : pC k T m = pT T m := pC_lt hm
      refine hB.bid hm hA.2.2.2 (by rw [hm0]; exact hlow) hmv.1 ?_
      rw [hm0]; exact hx
theorem bOn_run {Y : Int} {n k : Nat} {d : Int32} {σ : Nat → Option Nat} : ∀ (f : Nat) (T : TS) (c : Nat), IT Y n k T → AucT n k T → Bdp (pC k T) k → Whole n k T σ → 59994 - pot k T < f → ∃ c' : Nat, (bOn n k d f T c).1 = some c' ∧ IT Y n k (bOn n k d f T c).2 ∧ AucT n k (bOn n k d f T c).2 ∧ PairedBy n (qT (bOn n k d f T c).2) ∧ ∀ j, j < 78 → j ≠ 3 → j ≠ 4 → (bOn n k d f T c).2 j = T j
  | 0, T, c, hI, _, _, _, hf => by have := pot_le hI; omega
  | f + 1, T, c, hI, hA, hB, hW, hf => by
    have hn := hI.n6
    have hk := hI.k6
    have key : bOn n k d (f + 1) T c = match frA n T with
      | none => (some c, T)
      | some a => match lk n k T a none with
        | none => (none, T)
        | some m => if pT T m + mvs n k T a ≤ 9999 then bOn n k d f (bidT n k d T a m) (c + 1) else (none, T) := rfl
    cases hfr : frA n T with
    | none =>
      simp only [hfr] at key
      rw [key]
      refine ⟨c, rfl, hI, hA, fun a ha => ?_, fun _ _ _ _ => rfl⟩
      cases hq : qT T a with
      | none => exact absurd (qT_none.mp hq) (frA_none hfr ha)
      | some m => exact ⟨m, rfl⟩
    | some a =>
      simp only [hfr] at key
      obtain ⟨ha, hfa⟩ := frA_some hfr
      obtain ⟨m, hl, hc, hB2⟩ := bid_fits hI hA hB hW ha hfa
      simp only [hl, if_pos hc] at key
      have hI2 := hI.bid (d := d) ha hl hc
      have hp := pot_bid (d := d) hI (show a < 6 by omega) hl
      have hW2 : Whole n k (bidT n k d T a m) σ := ⟨⟨fun b m' hb e => by
        have := hW.1.1 b m' hb e
        rw [bidT_cT hn (by omega) (by omega)]; exact this, hW.1.2⟩, hW.2⟩
      obtain ⟨c', g1, g2, g3, g4, g5⟩ := bOn_run (σ := σ) f (bidT n k d T a m) (c + 1) hI2 (hA.bid hI ha hfa hl) (hB2 d) hW2 (by omega)
      rw [key]
      exact ⟨c', g1, g2, g3, g4, fun j h1 h2 h3 => by rw [g5 j h1 h2 h3, bidT_lo hn h1 h2 h3]⟩
theorem Bdp.nw {Y : Int} {n k : Nat} {T : TS} (hI : IT Y n k T) : Bdp (pC k (anew T)) k := fun m hm => by
  have hk := hI.k6
  have := froz_le (p := pC k (anew T)) (k := k)
  rw [pC_lt hm]
  unfold pT
  rw [anew_p (by omega)]
  have : (0 : Int32).toInt = 0 := by decide
  omega
/-- the pairs' cost -/
def pcs (n : Nat) (T : TS) : Int := su (fun a => ocost (cT T) a (qT T a)) n
/-- a row's cost -/
def rcs (n : Nat) (T : TS) (w : Nat → Nat) : Int := su (fun a => cT T a (w a)) n
def rows (n k : Nat) (T : TS) : List (Nat → Nat) := en k (okT T) n n fun _ => 0
theorem rows_whole {n k : Nat} {T : TS} {w : Nat → Nat} (h : w ∈ rows n k T) : Whole n k T fun a => some (w a) := by
  obtain ⟨-, h2, h3⟩ := en_mem n _ w (Nat.le_refl _) h
  refine ⟨⟨fun a m ha e => ?_, fun a b m ha hb e e' => ?_⟩, fun a ha => ⟨_, rfl⟩⟩
  · cases e
    have := h2 a (by omega) ha
    exact ⟨this.1, okT_iff.mp this.2⟩
  · have e2 : w a = w b := by cases e; exact (Option.some.inj e').symm
    by_cases h4 : a < b
    · exact absurd e2 (h3 b a (by omega) hb h4)
    · by_cases h5 : b < a
      · exact absurd e2.symm (h3 a b (by omega) ha h5)
      · omega
theorem whole_rows {n k : Nat} {T : TS} {σ : Nat → Option Nat} (h : Whole n k T σ) : ∃ w, w ∈ rows n k T ∧ ∀ a, a < n → σ a = some (w a) := by
  classical
  let s : Nat → Nat := fun a => match σ a with
    | none => 0
    | some m => m
  have hs : ∀ a, a < n → σ a = some (s a) := fun a ha => by
    obtain ⟨m, e⟩ := h.2 a ha
    show σ a = some (match σ a with | none => 0 | some m => m)
    rw [e]
  obtain ⟨w, h1, h2⟩ := en_all (k := k) (ok := okT T) (n := n) s (fun a ha => by
    have := h.1.1 a (s a) ha (hs a ha)
    exact ⟨this.1, okT_iff.mpr this.2⟩) (fun a b ha hb e => by
    have := h.1.2 b a (s a) (by omega) ha (by rw [hs b (by omega), e]) (hs a ha)
    omega) n (fun _ => 0) (Nat.le_refl _) (fun a ha => by omega)
  exact ⟨w, h1, fun a ha => by rw [hs a ha, h2 a ha]⟩
theorem rcs_lt {Y : Int} {n k : Nat} {T : TS} (hI : IT Y n k T) {w : Nat → Nat} (h : w ∈ rows n k T) : 0 ≤ rcs n T w ∧ rcs n T w ≤ 360 := by
  have hn := hI.n6
  have hW := rows_whole h
  have h1 : ∀ a, a < n → 0 ≤ cT T a (w a) ∧ cT T a (w a) ≤ 60 := fun a ha => hI.c60 a (w a) ha (hW.1.1 a (w a) ha rfl).1 (hW.1.1 a (w a) ha rfl).2
  refine ⟨su_nonneg fun a ha => (h1 a ha).1, ?_⟩
  have h2 : rcs n T w ≤ su (fun _ => 1 * 60) n := su_le fun a ha => by have := (h1 a ha).2; omega
  rw [su_mul (f := fun _ => 1), su_one] at h2
  omega
/-- the bids' end costs the least -/
theorem settle_least {Y : Int} {n k : Nat} {T T' : TS} (hI' : IT Y n k T') (hA : AucT n k T') (hP : PairedBy n (qT T')) (he : ∀ j, j < 78 → j ≠ 3 → j ≠ 4 → T' j = T j) (hn : n ≤ 6) {D : Int} (hD : ∀ w ∈ rows n k T, rcs n T w < D) : rows n k T ≠ [] ∧ pcs n T' = lmin (rcs n T) D (rows n k T) := by
  have hk := hI'.k6
  have hc : ∀ a m, a < n → m < k → cT T' a m = cT T a m := fun a m ha hm => by unfold cT; rw [he _ (by omega) (by omega) (by omega)]
  have hW : Whole n k T (qT T') := ⟨⟨fun a m ha e => by
    have := hA.1.1 a m ha e
    exact ⟨this.1, by rw [← hc a m ha this.1]; exact this.2⟩, hA.1.2⟩, hP⟩
  obtain ⟨w, h1, h2⟩ := whole_rows hW
  have e1 : pcs n T' = rcs n T w := su_congr fun a ha => by
    rw [h2 a ha]
    exact hc a (w a) ha (hW.1.1 a (w a) ha (h2 a ha)).1
  refine ⟨fun e => (by rw [e] at h1; exact absurd h1 (by simp)), ?_⟩
  have h3 := lmin_le (cs := rcs n T) (rows n k T) D
  have h4 := h3.2 w h1
  rcases lmin_is (cs := rcs n T) (rows n k T) D with e | ⟨v, g1, g2⟩
  · have := hD w h1; omega
  · have hV := rows_whole g1
    have hV' : QO n k (cT T') (fun a => some (v a)) := ⟨fun a m ha e => by
      have := hV.1.1 a m ha e
      exact ⟨this.1, by rw [hc a m ha this.1]; exact this.2⟩, hV.1.2⟩
    have h5 := hA.least hP hV' hV.2
    have e2 : su (fun a => ocost (cT T') a (some (v a))) n = rcs n T v := su_congr fun a ha => hc a (v a) ha (hV.1.1 a (v a) ha rfl).1
    rw [e2] at h5
    show pcs n T' = _
    have h6 : pcs n T' ≤ rcs n T v := h5
    omega
/-- as many pairs as apprentices: a whole pairing -/
theorem most_whole {n k : Nat} {T : TS} {s : Int} (h : MaxM n k (fun a m => okT T a m = true) s) : s ≤ n ∧ (s = n ↔ rows n k T ≠ []) := by
  have hle : s ≤ n := by
    obtain ⟨⟨μ, -, h2⟩, -⟩ := h
    rw [← h2]
    have : sz n μ ≤ su (fun _ => 1) n := su_le fun a _ => o1_le _
    rw [su_one] at this; exact this
  refine ⟨hle, fun e => ?_, fun hne => ?_⟩
  · obtain ⟨⟨μ, h1, h2⟩, -⟩ := h
    have hall : ∀ a, a < n → ∃ m, μ a = some m := by
      refine Classical.byContradiction fun hx => ?_
      have hx : ∃ a, a < n ∧ μ a = none := by
        refine Classical.byContradiction fun hy => hx fun a ha => ?_
        cases hm : μ a with
        | none => exact absurd ⟨a, ha, hm⟩ hy
        | some m => exact ⟨m, rfl⟩
      obtain ⟨a, ha, hm⟩ := hx
      have e1 : sz n μ ≤ su (udI (fun _ => 1) a 0) n := su_le fun b _ => by
        by_cases e : b = a
        · subst e; rw [hm, udI_self]; exact Int.le_refl 0
        · rw [udI_ne e]; exact o1_le _
      rw [su_ud ha, su_one] at e1
      omega
    obtain ⟨w, hw, -⟩ := whole_rows (T := T) (σ := μ) ⟨⟨fun a m ha e => ⟨(h1.1 a m ha e).1, okT_iff.mp (h1.1 a m ha e).2⟩, h1.2⟩, hall⟩
    intro e2; rw [e2] at hw; cases hw
  · cases hr : rows n k T with
    | nil => exact absurd hr hne
    | cons w L =>
      have hw := rows_whole (w := w) (T := T) (n := n) (k := k) (by rw [hr]; simp)
      have h3 := h.2 (fun a => some (w a)) ⟨fun a m ha e => ⟨(hw.1.1 a m ha e).1, okT_iff.mpr (hw.1.1 a m ha e).2⟩, hw.1.2⟩
      have h4 : sz n (fun a => some (w a)) = n := su_one
      omega
