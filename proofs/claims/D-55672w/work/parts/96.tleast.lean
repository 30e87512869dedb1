/-! PURE: the least by bids, as a number; who would bid -/
theorem sumI_toInt {v : Nat → Int32} {B : Int} (hB : 0 ≤ B) (hB2 : B ≤ 100000) : ∀ {n : Nat}, n ≤ 1000 → (∀ i, i < n → 0 ≤ (v i).toInt ∧ (v i).toInt ≤ B) → (sumI v n 0).toInt = su (fun i => (v i).toInt) n ∧ 0 ≤ su (fun i => (v i).toInt) n ∧ su (fun i => (v i).toInt) n ≤ n * B
  | 0, _, _ => ⟨(by decide : (0 : Int32).toInt = 0), Int.le_refl 0, by show (0 : Int) ≤ ((0 : Nat) : Int) * B; omega⟩
  | n + 1, hn, h => by
    obtain ⟨h1, h2, h3⟩ := sumI_toInt hB hB2 (n := n) (by omega) (fun i hi => h i (by omega))
    have h4 := h n (by omega)
    have e : ((n + 1 : Nat) : Int) * B = n * B + B := by rw [show ((n + 1 : Nat) : Int) = n + 1 by omega, Int.add_mul, Int.one_mul]
    have h5 : (n : Int) * B ≤ 1000 * 100000 := Int.mul_le_mul (by omega) hB2 hB (by omega)
    have key : (sumI v (n + 1) 0).toInt = su (fun i => (v i).toInt) n + (v n).toInt := by
      show (sumI v n 0 + v n).toInt = _
      rw [i32_add] <;> rw [h1] <;> omega
    rw [su_succ, key, e]
    exact ⟨rfl, by omega, by omega⟩
theorem pcI_toInt {Y : Int} {n k : Nat} {T : TS} (hI : IT Y n k T) : (pcI n T).toInt = pcs n T := by
  have hn := hI.n6
  have key : ∀ a, a < n → (match qT T a with | none => (0 : Int32) | some m => T (6 + 6 * a + m)).toInt = ocost (cT T) a (qT T a) ∧ 0 ≤ ocost (cT T) a (qT T a) ∧ ocost (cT T) a (qT T a) ≤ 60 := fun a ha => by
    cases hq : qT T a with
    | none => exact ⟨(by decide : (0 : Int32).toInt = 0), (by decide : (0 : Int) ≤ 0), (by decide : (0 : Int) ≤ 60)⟩
    | some m =>
      obtain ⟨h1, h2⟩ := (qT_some hI (show a < 6 by omega)).mp hq
      have hk := hI.k6
      obtain ⟨-, m', h3, h4, h5⟩ := (hI.pair (show a < 6 by omega)).resolve_left (by rw [h2]; exact nI_ne_m1 (by omega))
      have : m' = m := (nI_eq (by omega) (by omega)).mp (h4.symm.trans h2)
      subst this
      have := (hI.cost (show a < 6 by omega) (show m' < 6 by omega)).resolve_left h5
      exact ⟨rfl, this.1, this.2⟩
  have h := (sumI_toInt (v := fun a => match qT T a with | none => (0 : Int32) | some m => T (6 + 6 * a + m)) (B := 60) (by decide) (by decide) (n := n) (by omega) (fun a ha => by
    obtain ⟨e, h1, h2⟩ := key a ha
    rw [e]; exact ⟨h1, h2⟩)).1
  exact h.trans (su_congr fun a ha => (key a ha).1)
def lsI (n k : Nat) (T : TS) : Int32 := Int32.ofInt (lmin (rcs n T) 1000000 (rows n k T))
theorem ofInt_of {x : Int32} {i : Int} (h : x.toInt = i) : x = Int32.ofInt i := by rw [← h]; exact (Int32.ofInt_toInt x).symm
theorem rcs_D {Y : Int} {n k : Nat} {T : TS} (hI : IT Y n k T) : ∀ w ∈ rows n k T, rcs n T w < 1000000 := fun w hw => by have := rcs_lt hI hw; omega
theorem FU_big : 59994 < (FU : Int) := by unfold FU; omega
theorem pcs_re {Y : Int} {n k : Nat} {T T' : TS} (hI : IT Y n k T) (e : RE I96 T T') : pcs n T' = pcs n T := by
  have hn := hI.n6
  have hk := hI.k6
  unfold pcs
  refine su_congr fun a ha => ?_
  have e4 : qT T' a = qT T a := by unfold qT; rw [e _ (show 84 + a < 96 by omega)]
  rw [e4]
  cases hq : qT T a with
  | none => exact (Eq.refl (0 : Int))
  | some m =>
    have hm := ((qT_some hI (show a < 6 by omega)).mp hq).1
    show cT T' a m = cT T a m
    exact cT_re core96 e (by omega) (by omega)
theorem s_tleast {Y : Int} {n k : Nat} {T : TS} (hI : IT Y n k T) {P : Int32 → TS → Prop} (h : P (lsI n k T) T) : F_tleast T P := by
  have hn := hI.n6
  have hk := hI.k6
  unfold F_tleast
  refine s_tmost hn hk hI.t0 hI.t1 (fun c T1 hS hM => ?_)
  have hc := mxT_eq hM
  subst hc
  obtain ⟨hle, hiff⟩ := mxT_le (n := n) (k := k) (T := T)
  rw [hI.t0, nI_leI (by omega) (by omega)]
  refine ⟨fun e => s_tbeginsAnew ?_, fun e => ?_⟩
  · have hr := hiff.mp (by omega)
    have hI1 : IT Y n k (anew T1) := (hI.sm hS).nw
    have hre : RE I96 (upd (anew T) 5 (T 5)) (anew T1) := fun j hj => by
      by_cases h5 : j = 5
      · subst h5; rw [pk_us, anew_lo (by omega), hS 5 (by omega)]
      · rw [pk_un h5]; exact anew_re hS.re j hj
    obtain ⟨c, g1, g2, g3, g4⟩ := st_ok (f := FU) (d := 0) FU_big hI hr (T 5) (rcs_D hI)
    obtain ⟨e1, e2⟩ := bOn_re (n := n) (k := k) (d := 0) (d' := 0) core96 hn hk (fun _ => rfl) FU _ _ 0 hre
    refine s_tbids60 hI1 (fun c' hc' => ?_) (fun hc' => ?_)
    · generalize bOn n k 0 FU (anew T1) 0 = B at *
      generalize bOn n k 0 FU (upd (anew T) 5 (T 5)) 0 = A at *
      have hI2 : IT Y n k B.2 := g2.sm e2
      refine s_tcostOfPairs hI2 ?_
      have e5 : pcI n B.2 = lsI n k T := ofInt_of (by rw [pcI_toInt hI2, pcs_re g2 e2, g4])
      rw [e5]; exact h
    · generalize bOn n k 0 FU (anew T1) 0 = B at *
      generalize bOn n k 0 FU (upd (anew T) 5 (T 5)) 0 = A at *
      rw [e1, g1] at hc'; cases hc'
  · have hr : rows n k T = [] := Classical.byContradiction fun q => by have := hiff.mpr q; omega
    have : lsI n k T = 1000000 := by unfold lsI; rw [hr]; exact (by decide : Int32.ofInt 1000000 = 1000000)
    rw [this] at h; exact h
def wbI (n k : Nat) (T : TS) : Int32 := encC (bOn n k 0 FU T 0).1
theorem s_twouldBid {Y : Int} {n k : Nat} {T : TS} (hI : IT Y n k T) {P : Int32 → TS → Prop} (h : P (wbI n k T) T) : F_twouldBid T P := by
  unfold F_twouldBid
  unfold wbI at h
  refine s_tbids60 hI (fun c hc => ?_) (fun hc => ?_)
  · rw [hc] at h; exact h
  · rw [hc] at h; exact h
