/-! PURE: what is asked of the model, more -/
theorem rowsW_en {n k : Nat} {T : TS} {a m : Nat} (hn : n ≤ 6) (hk : k ≤ 6) (ha : a < n) (hm : m < k) : en k (okM T (nI a) (nI m)) n n (fun _ => 0) = rowsW n k T a m := by
  rw [en_congr (ok := okw (okT T) a m) (fun a' m' ha' hm' => by
    unfold okM okw
    have e1 : decide (nI a' = nI a) = decide (a' = a) := by rw [decide_eq_decide, nI_eq (by omega) (by omega)]
    have e2 : decide (nI m' = nI m) = decide (m' = m) := by rw [decide_eq_decide, nI_eq (by omega) (by omega)]
    rw [e1, e2]
    by_cases q : a' = a <;> by_cases q2 : m' = m <;> simp [q, q2]) n _ (Nat.le_refl _)]
  exact en_with ha n (fun _ => 0) (Nat.le_refl _) (fun q => by omega)
theorem g0_min {n : Nat} {T : TS} {L : List (Nat → Nat)} : (g0 n T L).2.2.1 = lmin (rcs n T) DD L := gfold_least L
theorem g0_len {n : Nat} {T : TS} {L : List (Nat → Nat)} (h : ∀ w ∈ L, rcs n T w < DD) : (g0 n T L).1 = L.length ∧ (g0 n T L).2.1 ≤ L.length := by
  have hi := gfold_inv (w0 := fun _ => 0) h
  refine ⟨hi.1, ?_⟩
  show (gfold (rcs n T) DD (fun _ => 0) L).2.1 ≤ L.length
  rw [hi.2.2.2.2]; exact List.countP_le_length
theorem MG.le0 {n k : Nat} {T : TS} {S : MS} {L : List (Nat → Nat)} (hL : L.length ≤ 46656) (h : ∀ w ∈ L, rcs n T w < DD) (hM : MG n T L S) : S 0 11 ≤ 0 ↔ L = [] := by
  rw [hM.1, (g0_len h).1, show (0 : Int32) = nI 0 from rfl, nI_leI (by omega) (by omega)]
  rw [Nat.le_zero]; exact List.length_eq_zero_iff
section MQ2
variable {Y : Int} {n k : Nat} {S : MS} {P : Int32 → MS → Prop}
theorem s_mleast (hI : IT Y n k (S 1)) (h : qM (leastA n k (S 1)) S P) : F_mleast S P := by
  have hn := hI.n6
  have hk := hI.k6
  unfold F_mleast
  unfold leastA at h
  refine s_mlooks hI fun S1 hM hJ => jn_i ?_
  rw [hM.le0 (k := k) (rows_len hn hk) (rcs_D hI)]
  refine ⟨fun e => s_misThere0 ⟨fun _ => ?_, fun q => (q rfl).elim⟩, fun e => s_misThere1 ⟨fun q => absurd q (by decide), fun _ => ?_⟩⟩
  · rw [if_pos e] at h; exact h.k _ hJ.put
  · rw [if_neg e] at h
    have e1 : sput S1 0 0 0 0 13 = lsI n k (S 1) := by
      rw [sput_self, pk_un (by decide)]
      exact ofInt_of (by rw [hM.2.2.1]; exact g0_min)
    rw [e1]; exact h.k _ hJ.put
theorem s_mwith (hI : IT Y n k (S 1)) {a m : Int32} (h : qM (withA n k (S 1) a m) S P) : F_mwith S a m P := by
  have hn := hI.n6
  have hk := hI.k6
  unfold F_mwith
  unfold withA at h
  refine s_mareThere hn hk hI.t0 hI.t1 (fun e => ⟨fun _ => by rw [if_neg e] at h; exact h _ Jq.rf, fun q => (q rfl).elim⟩) (fun ha hm => ⟨fun q => absurd q (by decide), fun _ => s_mlooksWith (hI.p0) fun S1 hM hJ => jn_i ?_⟩)
  rw [if_pos ⟨ha, hm⟩] at h
  obtain ⟨a', ha', rfl⟩ := inR_of (by omega) ha
  obtain ⟨m', hm', rfl⟩ := inR_of (by omega) hm
  rw [ix (show a' < 6 by omega) (by decide), ix (show m' < 6 by omega) (by decide)] at h
  rw [sput0_1, rowsW_en hn hk ha' hm'] at hM
  have hlen : (rowsW n k (S 1) a' m').length ≤ 46656 := Nat.le_trans (List.length_filter_le _ _) (rows_len hn hk)
  have hD : ∀ w ∈ rowsW n k (S 1) a' m', rcs n (S 1) w < DD := fun w hw => rcs_D hI w (List.mem_filter.mp hw).1
  rw [hM.le0 (k := k) hlen hD]
  have e0 : ∀ (S : MS) v, sput S 0 0 v 0 0 = v := fun S v => by rw [sput_self, pk_us]
  have hJ2 : ∀ v, Jk (sput S 0 0 v) (sput S1 0 0 v) := fun v => by
    have := hJ.put (j := 0) (v := v)
    rw [sput0_sput0] at this; exact this
  refine ⟨fun e => nm_i ?_, fun e => nm_i ?_⟩
  · rw [if_pos e] at h
    rw [e0]; exact ⟨fun q => absurd q (by decide), fun _ => h.k _ (hJ2 2)⟩
  · rw [if_neg e] at h
    rw [e0]
    refine ⟨fun _ => ?_, fun q => (q rfl).elim⟩
    have e1 : sput S1 0 0 0 0 13 = Int32.ofInt (lmin (rcs n (S 1)) DD (rowsW n k (S 1) a' m')) := by
      rw [sput_self, pk_un (by decide)]
      exact ofInt_of (by rw [hM.2.2.1]; exact g0_min)
    rw [e1]; exact h.k _ (hJ2 0)
theorem s_misNeeded (hI : IT Y n k (S 1)) {a m : Int32} (h : qM (needA n k (S 1) a m) S P) : F_misNeeded S a m P := by
  have hn := hI.n6
  have hk := hI.k6
  unfold F_misNeeded
  unfold needA at h
  refine s_mareThere hn hk hI.t0 hI.t1 (fun e => ⟨fun _ => by rw [if_neg e] at h; exact h _ Jq.rf, fun q => (q rfl).elim⟩) (fun ha hm => ⟨fun q => absurd q (by decide), fun _ => s_mlooks (hI.p0) fun S1 hM hJ => ?_⟩)
  rw [if_pos ⟨ha, hm⟩] at h
  obtain ⟨a', ha', rfl⟩ := inR_of (by omega) ha
  obtain ⟨m', hm', rfl⟩ := inR_of (by omega) hm
  rw [ix (show a' < 6 by omega) (by decide), ix (show m' < 6 by omega) (by decide)] at h
  rw [sput0_1] at hM
  have hL := rows_len (T := S 1) hn hk
  have hD0 := rcs_D hI
  have g0l := g0_len hD0
  have hlen : (rowsW n k (S 1) a' m').length ≤ 46656 := Nat.le_trans (List.length_filter_le _ _) hL
  have hD : ∀ w ∈ rowsW n k (S 1) a' m', rcs n (S 1) w < DD := fun w hw => hD0 w (List.mem_filter.mp hw).1
  have g1l := g0_len hD
  have hneed := needed (w0 := fun _ => 0) (w1 := fun _ => 0) hD0 (fun w => w a' == m')
  have hz : S1 0 11 = 0 ↔ (g0 n (S 1) (rows n k (S 1))).1 = 0 := by
    rw [hM.1, show (0 : Int32) = nI 0 from rfl, nI_eq (by omega) (by omega)]
  rw [hz]
  have hv : needV n k (S 1) a' m' = true ↔ (g0 n (S 1) (rows n k (S 1))).1 ≠ 0 ∧ (g0 n (S 1) (rows n k (S 1))).2.2.1 < lmin (rcs n (S 1)) DD ((rows n k (S 1)).filter fun w => !(w a' == m')) := by
    unfold needV; simp
  have hv2 : needV n k (S 1) a' m' = true ↔ (g0 n (S 1) (rowsW n k (S 1) a' m')).1 ≠ 0 ∧ (g0 n (S 1) (rowsW n k (S 1) a' m')).2.2.1 = (g0 n (S 1) (rows n k (S 1))).2.2.1 ∧ (g0 n (S 1) (rowsW n k (S 1) a' m')).2.1 = (g0 n (S 1) (rows n k (S 1))).2.1 := hv.trans hneed.symm
  have hJ1 : Jk (sput S 0 0 0) S1 := hJ
  refine ⟨fun e => ?_, fun e => s_mlooksWith (Y := Y) (n := n) (k := k) (by rw [hJ.1, sput0_1]; exact hI) fun S2 hM2 hJ2 => ?_⟩
  · rw [if_neg fun q => (hv.mp q).1 e] at h; exact h.k _ hJ1
  · rw [hJ.1, sput0_1, rowsW_en hn hk ha' hm'] at hM2
    have hJ3 := hJ1.tr hJ2
    have hz2 : S2 0 11 ≤ 0 ↔ (g0 n (S 1) (rowsW n k (S 1) a' m')).1 = 0 := by
      rw [hM2.1, show (0 : Int32) = nI 0 from rfl, nI_leI (by omega) (by omega)]; omega
    have h13 : S2 0 13 = S1 0 13 ↔ (g0 n (S 1) (rowsW n k (S 1) a' m')).2.2.1 = (g0 n (S 1) (rows n k (S 1))).2.2.1 := by
      rw [← Int32.toInt_inj, hM2.2.2.1, hM.2.2.1]
    have h12 : S2 0 12 = S1 0 12 ↔ (g0 n (S 1) (rowsW n k (S 1) a' m')).2.1 = (g0 n (S 1) (rows n k (S 1))).2.1 := by
      rw [hM2.2.1, hM.2.1, nI_eq (by omega) (by omega)]
    rw [hz2, h13, h12]
    refine ⟨fun e2 => ?_, fun e2 => ⟨fun e3 => ⟨fun e4 => ?_, fun e4 => ?_⟩, fun e3 => ?_⟩⟩
    · rw [if_neg fun q => (hv2.mp q).1 e2] at h; exact h.k _ hJ3
    · rw [if_pos (hv2.mpr ⟨e2, e3, e4⟩)] at h; exact h.k _ hJ3
    · rw [if_neg fun q => e4 (hv2.mp q).2.2] at h; exact h.k _ hJ3
    · rw [if_neg fun q => e3 (hv2.mp q).2.1] at h; exact h.k _ hJ3
theorem s_mmost (hI : IT Y n k (S 1)) (h : qM (0, nI (mxT n k (S 1))) S P) : F_mmost S P := by
  unfold F_mmost
  refine nm_i (s_mmost0 hI.n6 hI.k6 (by rw [sput0_1]; exact hI.t0) (by rw [sput0_1]; exact hI.t1) ?_)
  rw [sput0_1]; exact h _ Jq.rf
theorem s_misBalanced (h : qM (0, 1) S P) : F_misBalanced S P := by
  unfold F_misBalanced
  exact nm_i (h _ Jq.rf)
theorem s_mrankBy (hI : IT Y n k (S 1)) {kd m : Nat} (hkd : kd ≤ 2) (hm : m < k) (h : P (wtI n (S 1) kd m) S) : F_mrankBy S (nI kd) (nI m) P := by
  have hn := hI.n6
  have hk := hI.k6
  unfold F_mrankBy
  refine s_mheldBy hn hI.t0 ?_
  rw [show (0 : Int32) = nI 0 from rfl, show (1 : Int32) = nI 1 from rfl, nI_eq (by omega) (by omega), nI_eq (by omega) (by omega), c78, cl (by omega)]
  unfold wtI at h
  refine ⟨fun e => ⟨vi (by omega), by rw [if_pos e] at h; exact h⟩, fun e => ⟨fun e2 => s_msumServed0 (by omega) ?_, fun e2 => ?_⟩⟩
  · rw [if_neg e, if_pos e2] at h
    rw [sumI_6 (n := n) hn (fun i h1 h2 => (hI.out h2 (show m < 6 by omega) (Or.inl h1)).2)]
    exact h
  · rw [if_neg e, if_neg e2] at h
    cases ha : atA n (S 1) (nI m) with
    | none => rw [ha] at h; exact ⟨fun _ => h, fun q => (q rfl).elim⟩
    | some a =>
      rw [ha] at h
      have := (atA_some ha).1
      exact ⟨fun q => absurd q (nI_ne_m1 (by omega)), fun _ => s_mc (by omega) (by omega) h⟩
theorem s_mranked (hI : IT Y n k (S 1)) {kd pl : Int32} (h : qM (rankA n k (S 1) kd pl) S P) : F_mranked S kd pl P := by
  have hn := hI.n6
  have hk := hI.k6
  unfold F_mranked
  unfold rankA at h
  refine s_min (jn_i ?_)
  rw [show (2 : Int32) = nI 2 from rfl, bet_hi (by decide)]
  have e0 : ∀ (S : MS) v, sput S 0 0 v 0 0 = v := fun S v => by rw [sput_self, pk_us]
  by_cases hr : 0 ≤ kd.toInt ∧ kd.toInt ≤ (2 : Nat)
  · rw [if_pos hr]
    rw [if_pos (by omega)] at h
    refine ⟨fun q => absurd q (by decide), fun _ => nm_i ?_⟩
    obtain ⟨kn, hkn, rfl⟩ := vp_in_of (n := 3) (vp_in_iff.mpr ⟨hr.1, by omega⟩) (by decide)
    rw [nI_clamp (show kn < 2 ^ 31 by omega)] at h
    have hI' : IT Y n k (sput S 0 0 (nI 2) 1) := hI.p0
    generalize hwt : wtI n (S 1) kn = wt at h
    have hw : ∀ m, m < k → ∀ Q : Int32 → MS → Prop, Q (wt m) (sput S 0 0 (nI 2)) → F_mrankBy (sput S 0 0 (nI 2)) (nI kn) (nI m) Q := fun m hm Q hQ => s_mrankBy hI' (by omega) hm (by rw [sput0_1, hwt]; exact hQ)
    refine loop_i (σ := Unit) (fun f i _ => L_mranked_20 P (nI kn) pl f (sput S 0 0 (nI 2)) (nI i)) (fun i _ => fstA (fun m => decide (ahI k wt m = pl)) (k - i) i = rkI k wt pl) k (fun f _ hx => ?_) (fun f i _ hi hx ih => ?_) NF 0 () (Nat.zero_le _) (by unfold NF; omega) rfl
    · unfold L_mranked_20
      rw [k1, hI'.t1]
      refine ⟨v1, fun _ => ?_, fun q => absurd (nI_le (Nat.le_refl k) (by omega)) q⟩
      rw [Nat.sub_self] at hx
      rw [← hx] at h; exact h _ Jq.rf
    · have ih := ih ()
      rw [fstA_step hi] at hx
      unfold L_mranked_20
      rw [k1, hI'.t1, e0, nI_1]
      refine ⟨v1, fun q => absurd q (nI_ge hi (by omega)), fun _ => ⟨fun _ => ?_, fun q => (q rfl).elim⟩⟩
      refine loop_i (σ := Unit) (fun g j _ => L_mranked_44 _ P (nI kn) pl (nI i) g (sput S 0 0 (nI 2)) (sumI (fun j => if wt i < wt j ∨ (wt j = wt i ∧ j < i) then 1 else 0) j 0) (nI j)) (fun _ _ => True) k (fun g _ _ => ?_) (fun g j _ hj _ ihj => ?_) NF 0 () (Nat.zero_le _) (by unfold NF; omega) trivial
      · unfold L_mranked_44
        rw [k1, hI'.t1]
        refine ⟨v1, fun _ => ?_, fun q => absurd (nI_le (Nat.le_refl k) (by omega)) q⟩
        show (ahI k wt i = pl → _) ∧ (¬ ahI k wt i = pl → _)
        refine ⟨fun e => nm_i ?_, fun e => ?_⟩
        · rw [if_pos (by simp [e])] at hx
          rw [← hx] at h
          rw [sput0_sput0]; exact h _ Jq.rf
        · rw [if_neg (by simp [e])] at hx
          exact ih hx
      · have ihj := ihj () trivial
        have e1 : sumI (fun j => if wt i < wt j ∨ (wt j = wt i ∧ j < i) then (1 : Int32) else 0) (j + 1) 0 = sumI (fun j => if wt i < wt j ∨ (wt j = wt i ∧ j < i) then 1 else 0) j 0 + if wt i < wt j ∨ (wt j = wt i ∧ j < i) then 1 else 0 := rfl
        rw [e1] at ihj
        unfold L_mranked_44
        rw [k1, hI'.t1, nI_1]
        refine ⟨v1, fun q => absurd q (nI_ge hj (by omega)), fun _ => hw j hj _ (hw i hi _ (jn_i ⟨fun q => ?_, fun q => hw j hj _ (hw i hi _ (jn_i ⟨fun q2 => ⟨fun q3 => ?_, fun q3 => ?_⟩, fun q2 => ?_⟩))⟩))⟩
        · rw [if_pos (Or.inl q)] at ihj; exact ihj
        · rw [nI_leI (by omega) (by omega)] at q3; rw [if_neg (by rintro (z1 | ⟨-, z2⟩); exact q z1; omega)] at ihj; exact ihj
        · rw [nI_leI (by omega) (by omega)] at q3; rw [if_pos (Or.inr ⟨q2, by omega⟩)] at ihj; exact ihj
        · rw [if_neg (by rintro (z1 | ⟨z2, -⟩); exact q z1; exact q2 z2)] at ihj; exact ihj
  · rw [if_neg hr]
    rw [if_neg (by omega)] at h
    refine ⟨fun _ => nm_i ?_, fun q => (q rfl).elim⟩
    show L_mranked_20 P kd pl (99999 + 1) (sput S 0 0 1) 0
    unfold L_mranked_20
    rw [e0, k1]
    refine ⟨v1, fun _ => h _ Jq.rf, fun _ => ⟨fun q => absurd q (by decide), fun _ => h _ Jq.rf⟩⟩
theorem s_mpairs (hI : IT Y n k (S 1)) (h : P (cpI n (S 1)) S) : F_mpairs S P := by
  have hn := hI.n6
  unfold F_mpairs
  refine loop_i (σ := Unit) (fun f i _ => L_mpairs_4 P f S (sumI (fun a => match qT (S 1) a with | none => 0 | some _ => 1) i 0) (nI i)) (fun _ _ => True) n (fun f _ _ => ?_) (fun f i _ hi _ ih => ?_) NF 0 () (Nat.zero_le _) (by unfold NF; omega) trivial
  · unfold L_mpairs_4
    rw [k0]
    exact ⟨v0, fun _ => h, fun q => absurd (hI.t0 ▸ nI_le (Nat.le_refl n) (by omega)) q⟩
  · have ih := ih () trivial
    have e1 : sumI (fun a => match qT (S 1) a with | none => (0 : Int32) | some _ => 1) (i + 1) 0 = sumI (fun a => match qT (S 1) a with | none => 0 | some _ => 1) i 0 + match qT (S 1) i with | none => 0 | some _ => 1 := rfl
    rw [e1] at ih
    unfold L_mpairs_4
    rw [k0, c84, cl (by omega), nI_1]
    refine ⟨v0, fun q => absurd q (hI.t0 ▸ nI_ge hi (by omega)), fun _ => ⟨vi (by omega), fun e => ?_, fun e => ?_⟩⟩
    · rw [qT_none.mpr e] at ih; exact ih
    · cases hq : qT (S 1) i with
      | none => exact absurd (qT_none.mp hq) e
      | some m => rw [hq] at ih; exact ih
theorem bar_row {p : Nat → Bool} : ∀ k : Nat, sumI (fun m => if p m = true then 0 else 1) k 0 = nI k - sumI (fun m => if p m = true then 1 else 0) k 0
  | 0 => (by decide : (0 : Int32) = nI 0 - 0)
  | k + 1 => by
    show sumI (fun m => if p m = true then (0 : Int32) else 1) k 0 + (if p k = true then (0 : Int32) else 1) = nI (k + 1) - (sumI (fun m => if p m = true then (1 : Int32) else 0) k 0 + (if p k = true then (1 : Int32) else 0))
    rw [bar_row k, nI_succ]
    generalize sumI (fun m => if p m = true then (1 : Int32) else 0) k 0 = x
    generalize nI k = y
    by_cases h : p k = true
    · rw [if_pos h, if_pos h]
      rw [Int32.sub_eq_add_neg, Int32.sub_eq_add_neg, Int32.neg_add, Int32.add_zero, Int32.add_assoc, Int32.add_comm 1, Int32.sub_add_cancel]
    · rw [if_neg h, if_neg h]
      rw [Int32.add_zero, Int32.sub_eq_add_neg, Int32.sub_eq_add_neg, Int32.add_assoc, Int32.add_assoc, Int32.add_comm 1]
theorem s_mbarred (hn : n ≤ 6) (hk : k ≤ 6) (ht0 : S 1 0 = nI n) (ht1 : S 1 1 = nI k) (h : P (cbI n k (S 1)) S) : F_mbarred S P := by
  unfold F_mbarred
  have e : cbI n k (S 1) = sumI (fun a => nI k - cmI k (S 1) a) n 0 := sum2_sumI fun a s ha => by
    rw [sumI_acc]; exact congrArg (fun x => s + x) (bar_row k)
  rw [e] at h
  refine loop_i (σ := Unit) (fun f i _ => L_mbarred_4 P f S (sumI (fun a => nI k - cmI k (S 1) a) i 0) (nI i)) (fun _ _ => True) n (fun f _ _ => ?_) (fun f i _ hi _ ih => ?_) NF 0 () (Nat.zero_le _) (by unfold NF; omega) trivial
  · unfold L_mbarred_4
    rw [k0]
    exact ⟨v0, fun _ => h, fun q => absurd (ht0 ▸ nI_le (Nat.le_refl n) (by omega)) q⟩
  · have ih := ih () trivial
    unfold L_mbarred_4
    rw [k0, k1, nI_1, ht1]
    exact ⟨v0, fun q => absurd q (ht0 ▸ nI_ge hi (by omega)), fun _ => ⟨v1, s_mmayHave hk ht1 (by omega) ih⟩⟩
/-- what accounts tell; fed and changes beside -/
def accV (n k : Nat) (T : TS) (fed ch : Int32) (what : Int32) : Int32 := if what = 0 then T 0 else if what = 1 then T 1 else if what = 2 then cpI n T else if what = 3 then pcI n T else if what = 4 then cbI n k T else if what = 5 then T 3 else if what = 6 then T 4 else if what = 7 then T 2 else if what = 8 then nI (g0 n T (rows n k T)).1 else if what = 9 then nI (g0 n T (rows n k T)).2.1 else if what = 10 then T 5 else if what = 11 then fed else ch
def accA (n k : Nat) (T : TS) (fed ch what : Int32) : Nat × Int32 := if 0 ≤ what.toInt ∧ what.toInt ≤ 12 then (0, accV n k T fed ch what) else (1, 0)
theorem s_maccount (hI : IT Y n k (S 1)) {what : Int32} (h : qM (accA n k (S 1) (S 0 15) (S 0 2) what) S P) : F_maccount S what P := by
  have hn := hI.n6
  have hk := hI.k6
  unfold F_maccount
  unfold accA at h
  refine s_min ?_
  rw [show (12 : Int32) = nI 12 from rfl, bet_hi (by decide)]
  by_cases hr : 0 ≤ what.toInt ∧ what.toInt ≤ (12 : Nat)
  · rw [if_pos hr]
    rw [if_pos (by omega)] at h
    refine s_misThere1 ⟨fun q => absurd q (by decide), fun _ => s_mlooks hI.p0 fun S1 hM hJ => ?_⟩
    have hI' : IT Y n k (S1 1) := by rw [hJ.1, sput0_1]; exact hI
    have e1 : S1 1 = S 1 := by rw [hJ.1, sput0_1]
    rw [sput0_1] at hM
    have h1 := h.k S1 hJ
    have e15 : S1 0 15 = S 0 15 := by rw [hJ.2.2.2.2 15 (by decide) (by decide) (by decide), sput_self, pk_un (by decide)]
    have e2 : S1 0 2 = S 0 2 := by rw [hJ.2.2.2.2 2 (by decide) (by decide) (by decide), sput_self, pk_un (by decide)]
    unfold accV at h1
    rw [k0, k1, k2, k3, k4, k5, e1, hM.1, hM.2.1, e15, e2]
    refine ⟨fun q => ⟨v0, ?_⟩, fun q0 => ⟨fun q => ⟨v1, ?_⟩, fun q1 => ⟨fun q => s_mpairs hI' ?_, fun q2 => ⟨fun q => s_mpairCost hI' ?_, fun q3 => ⟨fun q => s_mbarred hn hk hI'.t0 hI'.t1 ?_, fun q4 => ⟨fun q => ⟨v3, ?_⟩, fun q5 => ⟨fun q => ⟨v4, ?_⟩, fun q6 => ⟨fun q => ⟨v2, ?_⟩, fun q7 => ⟨fun q => ?_, fun q8 => ⟨fun q => ?_, fun q9 => ⟨fun q => ⟨v5, ?_⟩, fun q10 => ⟨fun q => ?_, fun q11 => ?_⟩⟩⟩⟩⟩⟩⟩⟩⟩⟩⟩⟩
    · rw [if_pos q] at h1; exact h1
    · rw [if_neg q0, if_pos q] at h1; exact h1
    · rw [if_neg q0, if_neg q1, if_pos q] at h1; rw [e1]; exact h1
    · rw [if_neg q0, if_neg q1, if_neg q2, if_pos q] at h1; rw [e1]; exact h1
    · rw [if_neg q0, if_neg q1, if_neg q2, if_neg q3, if_pos q] at h1; rw [e1]; exact h1
    · rw [if_neg q0, if_neg q1, if_neg q2, if_neg q3, if_neg q4, if_pos q] at h1; exact h1
    · rw [if_neg q0, if_neg q1, if_neg q2, if_neg q3, if_neg q4, if_neg q5, if_pos q] at h1; exact h1
    · rw [if_neg q0, if_neg q1, if_neg q2, if_neg q3, if_neg q4, if_neg q5, if_neg q6, if_pos q] at h1; exact h1
    · rw [if_neg q0, if_neg q1, if_neg q2, if_neg q3, if_neg q4, if_neg q5, if_neg q6, if_neg q7, if_pos q] at h1; exact h1
    · rw [if_neg q0, if_neg q1, if_neg q2, if_neg q3, if_neg q4, if_neg q5, if_neg q6, if_neg q7, if_neg q8, if_pos q] at h1; exact h1
    · rw [if_neg q0, if_neg q1, if_neg q2, if_neg q3, if_neg q4, if_neg q5, if_neg q6, if_neg q7, if_neg q8, if_neg q9, if_pos q] at h1; exact h1
    · rw [if_neg q0, if_neg q1, if_neg q2, if_neg q3, if_neg q4, if_neg q5, if_neg q6, if_neg q7, if_neg q8, if_neg q9, if_neg q10, if_pos q] at h1; exact h1
    · rw [if_neg q0, if_neg q1, if_neg q2, if_neg q3, if_neg q4, if_neg q5, if_neg q6, if_neg q7, if_neg q8, if_neg q9, if_neg q10, if_neg q11] at h1; exact h1
  · rw [if_neg hr]
    rw [if_neg (by omega)] at h
    exact s_misThere0 ⟨fun _ => h _ Jq.rf, fun q => (q rfl).elim⟩
end MQ2
