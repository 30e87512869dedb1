/-! PURE: a year goes by -/
theorem ts_ext {f g : TS} (h0 : ∀ j, j < 6 → f j = g j) (h1 : ∀ a m, a < 6 → m < 6 → f (6 + 6 * a + m) = g (6 + 6 * a + m)) (h2 : ∀ a m, a < 6 → m < 6 → f (42 + 6 * a + m) = g (42 + 6 * a + m)) (h3 : ∀ m, m < 6 → f (78 + m) = g (78 + m)) (h4 : ∀ a, a < 6 → f (84 + a) = g (84 + a)) (h5 : ∀ j, 90 ≤ j → f j = g j) : f = g := by
  funext j
  by_cases c0 : j < 6
  · exact h0 j c0
  by_cases c1 : j < 42
  · have := h1 ((j - 6) / 6) ((j - 6) % 6) (by omega) (by omega)
    rw [show 6 + 6 * ((j - 6) / 6) + (j - 6) % 6 = j by omega] at this; exact this
  by_cases c2 : j < 78
  · have := h2 ((j - 42) / 6) ((j - 42) % 6) (by omega) (by omega)
    rw [show 42 + 6 * ((j - 42) / 6) + (j - 42) % 6 = j by omega] at this; exact this
  by_cases c3 : j < 84
  · have := h3 (j - 78) (by omega)
    rw [show 78 + (j - 78) = j by omega] at this; exact this
  by_cases c4 : j < 90
  · have := h4 (j - 84) (by omega)
    rw [show 84 + (j - 84) = j by omega] at this; exact this
  exact h5 j (by omega)
def yc (T : TS) (a m : Nat) : Int32 := if T (84 + a) = nI m then (if T (6 + 6 * a + m) = 0 then 0 else T (6 + 6 * a + m) - 1) else T (6 + 6 * a + m)
def ys (T : TS) (a m : Nat) : Int32 := if T (84 + a) = nI m then T (42 + 6 * a + m) + 1 else T (42 + 6 * a + m)
/-- behind the first apprentices' year; b: their pairs are parted -/
def yP (b : Bool) (i : Nat) (T : TS) : TS := fun j =>
  if 6 ≤ j ∧ j < 42 then (if (j - 6) / 6 < i then yc T ((j - 6) / 6) ((j - 6) % 6) else T j)
  else if 42 ≤ j ∧ j < 78 then (if (j - 42) / 6 < i then ys T ((j - 42) / 6) ((j - 42) % 6) else T j)
  else if b = true ∧ 84 ≤ j ∧ j < 84 + i then -1 else T j
def hP (i : Nat) (T : TS) : TS := fun j => if 78 ≤ j ∧ j < 78 + i then T j / 2 else T j
theorem hP_in {i m : Nat} {T : TS} (h : m < i) : hP i T (78 + m) = T (78 + m) / 2 := if_pos ⟨by omega, by omega⟩
theorem hP_out {i j : Nat} {T : TS} (h : ¬ (78 ≤ j ∧ j < 78 + i)) : hP i T j = T j := if_neg h
theorem hP_step {i : Nat} {T : TS} : upd (hP i T) (78 + i) (hP i T (78 + i) / 2) = hP (i + 1) T := by
  funext j
  by_cases h1 : j = 78 + i
  · subst h1; rw [pk_us, hP_out (by omega), hP_in (by omega)]
  · rw [pk_un h1]
    unfold hP
    by_cases h2 : 78 ≤ j ∧ j < 78 + i
    · rw [if_pos h2, if_pos (by omega)]
    · rw [if_neg h2, if_neg (by omega)]
def yearT (T : TS) : TS := upd (hP 6 (yP true 6 T)) 2 (T 2 + 1)
section YR
variable {b : Bool} {i : Nat} {T : TS}
theorem yP_c {a m : Nat} (ha : a < 6) (hm : m < 6) : yP b i T (6 + 6 * a + m) = if a < i then yc T a m else T (6 + 6 * a + m) := by
  unfold yP
  rw [if_pos (by omega), show (6 + 6 * a + m - 6) / 6 = a by omega, show (6 + 6 * a + m - 6) % 6 = m by omega]
theorem yP_s {a m : Nat} (ha : a < 6) (hm : m < 6) : yP b i T (42 + 6 * a + m) = if a < i then ys T a m else T (42 + 6 * a + m) := by
  unfold yP
  rw [if_neg (by omega), if_pos (by omega), show (42 + 6 * a + m - 42) / 6 = a by omega, show (42 + 6 * a + m - 42) % 6 = m by omega]
theorem yP_q {a : Nat} (ha : a < 6) : yP b i T (84 + a) = if b = true ∧ a < i then -1 else T (84 + a) := by
  unfold yP
  rw [if_neg (by omega), if_neg (by omega)]
  by_cases h : b = true ∧ a < i
  · rw [if_pos h, if_pos ⟨h.1, by omega, by omega⟩]
  · rw [if_neg h, if_neg fun q => h ⟨q.1, by omega⟩]
theorem yP_o {j : Nat} (hi : i ≤ 6) (h : j < 6 ∨ (78 ≤ j ∧ j < 84) ∨ 90 ≤ j) : yP b i T j = T j := by
  unfold yP
  rw [if_neg (by omega), if_neg (by omega), if_neg (by omega)]
theorem yP_0 : yP b 0 T = T := ts_ext (fun j h => yP_o (by omega) (Or.inl h)) (fun a m ha hm => by rw [yP_c ha hm, if_neg (by omega)]) (fun a m ha hm => by rw [yP_s ha hm, if_neg (by omega)]) (fun m hm => yP_o (by omega) (by omega)) (fun a ha => by rw [yP_q ha, if_neg (by omega)]) (fun j h => yP_o (by omega) (by omega))
theorem yc_no {a m : Nat} (h : T (84 + a) ≠ nI m) : yc T a m = T (6 + 6 * a + m) := if_neg h
theorem ys_no {a m : Nat} (h : T (84 + a) ≠ nI m) : ys T a m = T (42 + 6 * a + m) := if_neg h
/-- an apprentice without a master -/
theorem yP_skip (hi : i < 6) (h : T (84 + i) = -1) : yP b (i + 1) T = yP b i T := by
  have hno : ∀ m, m < 6 → T (84 + i) ≠ nI m := fun m hm e => nI_ne_m1 (by omega) (e.symm.trans h)
  refine ts_ext (fun j hj => by rw [yP_o (by omega) (Or.inl hj), yP_o (by omega) (Or.inl hj)]) (fun a m ha hm => ?_) (fun a m ha hm => ?_) (fun m hm => by rw [yP_o (by omega) (by omega), yP_o (by omega) (by omega)]) (fun a ha => ?_) (fun j hj => by rw [yP_o (by omega) (by omega), yP_o (by omega) (by omega)])
  · rw [yP_c ha hm, yP_c ha hm]
    by_cases e : a = i
    · subst e; rw [if_pos (by omega), if_neg (by omega), yc_no (hno m hm)]
    · by_cases e2 : a < i
      · rw [if_pos e2, if_pos (by omega)]
      · rw [if_neg e2, if_neg (by omega)]
  · rw [yP_s ha hm, yP_s ha hm]
    by_cases e : a = i
    · subst e; rw [if_pos (by omega), if_neg (by omega), ys_no (hno m hm)]
    · by_cases e2 : a < i
      · rw [if_pos e2, if_pos (by omega)]
      · rw [if_neg e2, if_neg (by omega)]
  · rw [yP_q ha, yP_q ha]
    by_cases e : a = i
    · subst e
      rw [if_neg (by omega : ¬ (b = true ∧ a < a))]
      split
      · exact h.symm
      · rfl
    · by_cases e2 : b = true ∧ a < i
      · rw [if_pos e2, if_pos ⟨e2.1, by omega⟩]
      · rw [if_neg e2, if_neg fun q => e2 ⟨q.1, by omega⟩]
/-- an apprentice who has a master -/
theorem yP_step {m : Nat} (hi : i < 6) (hm : m < 6) (h : T (84 + i) = nI m) {c : Int32} (hc : c = yc T i m) : (if b = true then upd (upd (upd (yP b i T) (42 + 6 * i + m) (yP b i T (42 + 6 * i + m) + 1)) (6 + 6 * i + m) c) (84 + i) (-1) else upd (upd (yP b i T) (42 + 6 * i + m) (yP b i T (42 + 6 * i + m) + 1)) (6 + 6 * i + m) c) = yP b (i + 1) T := by
  have hno : ∀ m', m' < 6 → m' ≠ m → T (84 + i) ≠ nI m' := fun m' hm' hne e => hne ((nI_eq (by omega) (by omega)).mp (e.symm.trans h))
  have hs0 : yP b i T (42 + 6 * i + m) = T (42 + 6 * i + m) := by rw [yP_s hi hm, if_neg (by omega)]
  have key : ∀ j, (if b = true then upd (upd (upd (yP b i T) (42 + 6 * i + m) (yP b i T (42 + 6 * i + m) + 1)) (6 + 6 * i + m) c) (84 + i) (-1) else upd (upd (yP b i T) (42 + 6 * i + m) (yP b i T (42 + 6 * i + m) + 1)) (6 + 6 * i + m) c) j = if b = true ∧ j = 84 + i then -1 else if j = 6 + 6 * i + m then c else if j = 42 + 6 * i + m then T (42 + 6 * i + m) + 1 else yP b i T j := fun j => by
    rw [hs0]
    cases b with
    | false => simp [upd]
    | true => simp [upd]
  refine ts_ext (fun j hj => ?_) (fun a m' ha hm' => ?_) (fun a m' ha hm' => ?_) (fun m' hm' => ?_) (fun a ha => ?_) (fun j hj => ?_)
  · rw [key, if_neg (by omega), if_neg (by omega), if_neg (by omega), yP_o (by omega) (Or.inl hj), yP_o (by omega) (Or.inl hj)]
  · rw [key, if_neg (by omega)]
    by_cases e : a = i ∧ m' = m
    · rw [e.1, e.2, if_pos rfl, yP_c hi hm, if_pos (by omega)]; exact hc
    · rw [if_neg (by omega), if_neg (by omega), yP_c ha hm', yP_c ha hm']
      by_cases e1 : a = i
      · subst e1; rw [if_neg (by omega), if_pos (by omega), yc_no (hno m' hm' (by omega))]
      · by_cases e2 : a < i
        · rw [if_pos e2, if_pos (by omega)]
        · rw [if_neg e2, if_neg (by omega)]
  · rw [key, if_neg (by omega), if_neg (by omega)]
    by_cases e : a = i ∧ m' = m
    · rw [e.1, e.2, if_pos rfl, yP_s hi hm, if_pos (by omega)]; unfold ys; rw [if_pos h]
    · rw [if_neg (by omega), yP_s ha hm', yP_s ha hm']
      by_cases e1 : a = i
      · subst e1; rw [if_neg (by omega), if_pos (by omega), ys_no (hno m' hm' (by omega))]
      · by_cases e2 : a < i
        · rw [if_pos e2, if_pos (by omega)]
        · rw [if_neg e2, if_neg (by omega)]
  · rw [key, if_neg (by omega), if_neg (by omega), if_neg (by omega), yP_o (by omega) (by omega), yP_o (by omega) (by omega)]
  · rw [key, yP_q (i := i + 1) ha]
    by_cases e : b = true ∧ 84 + a = 84 + i
    · rw [if_pos e, if_pos ⟨e.1, by omega⟩]
    · rw [if_neg e, if_neg (by omega), if_neg (by omega), yP_q ha]
      by_cases e2 : b = true ∧ a < i
      · rw [if_pos e2, if_pos ⟨e2.1, by omega⟩]
      · rw [if_neg e2, if_neg fun q => (by by_cases e3 : a = i; exact e ⟨q.1, by omega⟩; exact e2 ⟨q.1, by omega⟩)]
  · rw [key, if_neg (by omega), if_neg (by omega), if_neg (by omega), yP_o (by omega) (by omega), yP_o (by omega) (by omega)]
end YR
theorem yP_all {Y : Int} {n k : Nat} {b : Bool} {T : TS} (hI : IT Y n k T) : yP b n T = yP b 6 T := by
  have hn := hI.n6
  have key : ∀ r, n + r ≤ 6 → yP b (n + r) T = yP b n T := by
    intro r
    induction r with
    | zero => intro _; rfl
    | succ r ih =>
      intro hr
      have hq : T (84 + (n + r)) = -1 := by
        rcases hI.pair (show n + r < 6 by omega) with z | ⟨z, -⟩
        · exact z
        · omega
      rw [show n + (r + 1) = n + r + 1 by omega, yP_skip (by omega) hq, ih (by omega)]
  have := key (6 - n) (by omega)
  rw [show n + (6 - n) = 6 by omega] at this
  exact this.symm
theorem yc_max {c : Int32} (h : 0 ≤ c.toInt ∧ c.toInt ≤ 60) : (if 0 < c - 1 then c - 1 else 0) = if c = 0 then 0 else c - 1 := by
  have e1 : (c - 1).toInt = c.toInt - 1 := by rw [i32_sub] <;> rw [i32_1] <;> omega
  have z : (0 : Int32).toInt = 0 := by decide
  by_cases h0 : c = 0
  · subst h0; decide
  · rw [if_neg h0]
    by_cases h1 : 0 < c - 1
    · rw [if_pos h1]
    · rw [if_neg h1]
      rw [Int32.lt_iff_toInt_lt, e1, z] at h1
      refine Int32.toInt_inj.mp ?_
      rw [e1, z]
      have : c.toInt ≠ 0 := fun q => h0 (Int32.toInt_inj.mp (q.trans z.symm))
      omega
theorem s_tgoesBy {Y : Int} {n k : Nat} {T : TS} (hI : IT Y n k T) {P : Int32 → TS → Prop} (h : P (pcI n T) (yearT T)) : F_tgoesBy T P := by
  have hn := hI.n6
  have hk := hI.k6
  unfold F_tgoesBy
  refine s_tcostOfPairs hI ?_
  generalize pcI n T = r at h
  refine loop_i (σ := TS) (fun f i T1 => L_tgoesBy_7 (fun T_8 => L_tgoesBy_76 P r NF T_8 0) P r f T1 (nI i)) (fun i T1 => T1 = yP true i T) n (fun f T1 hx => ?_) (fun f i T1 hi hx ih => ?_) NF 0 T (Nat.zero_le _) (by unfold NF; omega) yP_0.symm
  · subst hx
    unfold L_tgoesBy_7
    have e0 : yP true n T 0 = nI n := by rw [yP_o hn (by omega)]; exact hI.t0
    have e1 : yP true n T 1 = nI k := by rw [yP_o hn (by omega)]; exact hI.t1
    refine ⟨fun _ => ?_, fun q => absurd (e0 ▸ nI_le (Nat.le_refl n) (by omega)) q⟩
    refine loop_i (σ := TS) (fun f i T1 => L_tgoesBy_76 P r f T1 (nI i)) (fun i T1 => T1 = hP i (yP true n T)) k (fun f T1 hx => ?_) (fun f i T1 hi hx ih => ?_) NF 0 _ (Nat.zero_le _) (by unfold NF; omega) (by funext j; exact (hP_out (by omega)).symm)
    · subst hx
      unfold L_tgoesBy_76
      have e2 : hP k (yP true n T) 1 = nI k := by rw [hP_out (by omega)]; exact e1
      refine ⟨fun _ => nm_i ?_, fun q => absurd (by rw [e2]; exact nI_le (Nat.le_refl k) (by omega)) q⟩
      have e : upd (hP k (yP true n T)) 2 (hP k (yP true n T) 2 + 1) = yearT T := by
        rw [hP_out (by omega), yP_o hn (by omega), yP_all hI]
        unfold yearT
        refine congrArg (fun f => upd f 2 (T 2 + 1)) ?_
        funext j
        unfold hP
        by_cases h3 : 78 ≤ j ∧ j < 78 + k
        · rw [if_pos h3, if_pos (by omega)]
        · rw [if_neg h3]
          by_cases h4 : 78 ≤ j ∧ j < 78 + 6
          · rw [if_pos h4, yP_o (by omega) (by omega)]
            have := (hI.outm (m := j - 78) (by omega) (by omega)).1
            rw [show 78 + (j - 78) = j by omega] at this
            rw [this]; decide
          · rw [if_neg h4]
      rw [e]; exact h
    · subst hx
      unfold L_tgoesBy_76
      have e2 : hP i (yP true n T) 1 = nI k := by rw [hP_out (by omega)]; exact e1
      refine ⟨fun q => absurd q (by rw [e2]; exact nI_ge hi (by omega)), fun _ => ⟨vp_in_nI (by omega) (by decide), vp_in_nI (by omega) (by decide), nm_i ?_⟩⟩
      rw [nI_1, ix (show i < 6 by omega) (by decide)]
      exact ih _ hP_step
  · subst hx
    have hi6 : i < 6 := by omega
    have e0 : yP true i T 0 = nI n := by rw [yP_o (by omega) (by omega)]; exact hI.t0
    have eq : yP true i T (84 + i) = T (84 + i) := by rw [yP_q hi6, if_neg (by omega)]
    unfold L_tgoesBy_7
    refine ⟨fun q => absurd q (e0 ▸ nI_ge hi (by omega)), fun _ => ⟨vp_in_nI (by omega) (by decide), ?_⟩⟩
    rw [nI_1, ix hi6 (by decide), eq]
    refine ⟨fun e => ih _ (yP_skip hi6 e).symm, fun e => ?_⟩
    obtain ⟨-, m, hm, hme, hok⟩ := (hI.pair hi6).resolve_left e
    have hm6 : m < 6 := by omega
    rw [hme, ix hm6 (by decide)]
    refine ⟨vp_in_nI (by omega) (by decide), vp_in_nI hm6 (by decide), vp_in_nI hm6 (by decide), nm_i ⟨vp_in_nI (by omega) (by decide), vp_in_nI (by omega) (by decide), vp_in_nI hm6 (by decide), vp_in_nI hm6 (by decide), nm_i ⟨vp_in_nI (by omega) (by decide), nm_i (ih _ ?_)⟩⟩⟩
    have hcc : (if 0 < yP true i T (6 + 6 * i + m) - 1 then yP true i T (6 + 6 * i + m) - 1 else 0) = yc T i m := by
      rw [show yP true i T (6 + 6 * i + m) = T (6 + 6 * i + m) by rw [yP_c hi6 hm6, if_neg (by omega)]]
      unfold yc
      rw [if_pos hme]
      have hcost := (hI.cost hi6 hm6).resolve_left hok
      exact yc_max hcost
    have hst := yP_step (b := true) hi6 hm6 hme hcc
    rw [if_pos rfl] at hst
    rw [pk_un (show 6 + 6 * i + m ≠ 42 + 6 * i + m by omega)]
    exact hst
theorem IT.year {Y : Int} {n k : Nat} {T : TS} (hI : IT Y n k T) (hY : Y ≤ 100000) : IT (Y + 1) n k (yearT T) := by
  have hn := hI.n6
  have hk := hI.k6
  have y0 : ∀ j, j < 2 → yearT T j = T j := fun j hj => by unfold yearT; rw [pk_un (by omega), hP_out (by omega), yP_o (by omega) (by omega)]
  have ycc : ∀ a m, a < 6 → m < 6 → yearT T (6 + 6 * a + m) = yc T a m := fun a m ha hm => by unfold yearT; rw [pk_un (by omega), hP_out (by omega), yP_c ha hm, if_pos ha]
  have yss : ∀ a m, a < 6 → m < 6 → yearT T (42 + 6 * a + m) = ys T a m := fun a m ha hm => by unfold yearT; rw [pk_un (by omega), hP_out (by omega), yP_s ha hm, if_pos ha]
  have yqq : ∀ a, a < 6 → yearT T (84 + a) = -1 := fun a ha => by unfold yearT; rw [pk_un (by omega), hP_out (by omega), yP_q ha, if_pos ⟨rfl, ha⟩]
  have ypp : ∀ m, m < 6 → yearT T (78 + m) = T (78 + m) / 2 := fun m hm => by unfold yearT; rw [pk_un (by omega), hP_in hm, yP_o (by omega) (by omega)]
  have ybb : ∀ m, m < 6 → yearT T (90 + m) = T (90 + m) := fun m hm => by unfold yearT; rw [pk_un (by omega), hP_out (by omega), yP_o (by omega) (by omega)]
  refine ⟨hn, hk, ?_, ?_, fun a m h1 h2 => ?_, fun m h1 => ?_, fun b h1 => Or.inl (yqq b h1), fun b b' h1 h2 => fun _ q => absurd (yqq b h1) q, fun a m h1 h2 h3 => ?_, fun m h1 h2 => ?_, fun a m h1 h2 => ?_⟩
  · rw [y0 0 (by omega)]; exact hI.t0
  · rw [y0 1 (by omega)]; exact hI.t1
  · unfold cT; rw [ycc a m h1 h2]
    have hc := hI.cost h1 h2
    unfold yc
    by_cases e : T (84 + a) = nI m
    · rw [if_pos e]
      obtain ⟨-, m', hm', hme, hok⟩ := (hI.pair h1).resolve_left (by rw [e]; exact nI_ne_m1 (by omega))
      have : m' = m := (nI_eq (by omega) (by omega)).mp (hme.symm.trans e)
      subst this
      have hc := hc.resolve_left hok
      unfold cT at hc
      right
      split
      · decide
      · rename_i h0
        have e1 : (T (6 + 6 * a + m') - 1).toInt = (T (6 + 6 * a + m')).toInt - 1 := by rw [i32_sub] <;> rw [i32_1] <;> omega
        have z : (0 : Int32).toInt = 0 := by decide
        have : (T (6 + 6 * a + m')).toInt ≠ 0 := fun q => h0 (Int32.toInt_inj.mp (q.trans z.symm))
        rw [e1]; omega
    · rw [if_neg e]; exact hc
  · unfold pT; rw [ypp m h1]
    have := hI.price h1
    unfold pT at this
    have e : (T (78 + m) / 2).toInt = (T (78 + m)).toInt / 2 := by
      obtain ⟨x, hx, e⟩ := vp_in_of (n := 10000) (vp_in_iff.mpr ⟨this.1, by omega⟩) (by decide)
      rw [e, show (2 : Int32) = nI 2 from rfl, pk_div (by omega) (by decide) (by decide), nI_toInt (by omega), nI_toInt (by omega)]
      omega
    rw [e]; omega
  · rw [ycc a m h1 h2, yss a m h1 h2]
    have ho := hI.out h1 h2 h3
    have hno : T (84 + a) ≠ nI m := fun e => by
      obtain ⟨g1, m', hm', hme, -⟩ := (hI.pair h1).resolve_left (by rw [e]; exact nI_ne_m1 (by omega))
      have : m' = m := (nI_eq (by omega) (by omega)).mp (hme.symm.trans e)
      omega
    rw [yc_no hno, ys_no hno]; exact ho
  · rw [ypp m h1, ybb m h1]
    have := hI.outm h1 h2
    rw [this.1]; exact ⟨by decide, this.2⟩
  · rw [yss a m h1 h2]
    have := hI.srv h1 h2
    unfold ys
    split
    · rw [i32_add] <;> rw [i32_1] <;> omega
    · omega
