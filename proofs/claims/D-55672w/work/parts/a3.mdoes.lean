/-! PURE: the model settles, lets a year go by, does an order -/
theorem bOn_lo {n k : Nat} {d : Int32} (hn : n ≤ 6) {j : Nat} (h1 : j < 78) (h3 : j ≠ 3) (h4 : j ≠ 4) : ∀ (f : Nat) (T : TS) (c : Nat), (bOn n k d f T c).2 j = T j
  | 0, T, c => rfl
  | f + 1, T, c => by
    unfold bOn
    cases hf : frA n T with
    | none => rfl
    | some a =>
      simp only []
      cases hl : lk n k T a none with
      | none => rfl
      | some m =>
        simp only []
        by_cases q : pT T m + mvs n k T a ≤ 9999
        · rw [if_pos q, bOn_lo hn h1 h3 h4 f, bidT_lo hn h1 h3 h4]
        · rw [if_neg q]
theorem s_mbidsLoop {Y : Int} {n k : Nat} {P : Int32 → MS → Prop} {c' : Nat} : ∀ (f : Nat) (S : MS) (c g : Nat), IT Y n k (S 1) → f ≤ g → (bOn n k 1 f (S 1) c).1 = some c' → P (nI c') (sset S (bOn n k 1 f (S 1) c).2) → L_mbidsAll_12 P g S (nI c) (enc (frA n (S 1)))
  | 0, S, c, g, hI, hg, hs, h => by cases hs
  | f + 1, S, c, 0, hI, hg, hs, h => by omega
  | f + 1, S, c, g + 1, hI, hg, hs, h => by
    have hn := hI.n6
    have hk := hI.k6
    have key : bOn n k 1 (f + 1) (S 1) c = match frA n (S 1) with
      | none => (some c, S 1)
      | some a => match lk n k (S 1) a none with
        | none => (none, S 1)
        | some m => if pT (S 1) m + mvs n k (S 1) a ≤ 9999 then bOn n k 1 f (bidT n k 1 (S 1) a m) (c + 1) else (none, S 1) := rfl
    unfold L_mbidsAll_12
    cases hf : frA n (S 1) with
    | none =>
      simp only [hf] at key
      rw [key] at hs h
      cases hs
      rw [sset_id] at h
      exact ⟨fun _ => h, fun q => (q rfl).elim⟩
    | some a =>
      simp only [hf] at key
      have ha := (frA_some hf).1
      cases hl : lk n k (S 1) a none with
      | none => simp only [hl] at key; rw [key] at hs; cases hs
      | some m =>
        simp only [hl] at key
        by_cases q : pT (S 1) m + mvs n k (S 1) a ≤ 9999
        · rw [if_pos q] at key
          rw [key] at hs h
          refine ⟨fun q2 => absurd q2 (nI_ne_m1 (by omega)), fun _ => s_mbidsNow hI (by omega) hl (s_mfirstFree hn (by rw [sset_1, bidT_lo hn (by omega) (by omega) (by omega)]; exact hI.t0) ?_)⟩
          rw [nI_1]
          refine s_mbidsLoop f (sset S (bidT n k 1 (S 1) a m)) (c + 1) g (by rw [sset_1]; exact hI.bid ha hl q) (by omega) (by rw [sset_1]; exact hs) ?_
          rw [sset_1, sset_sset]; exact h
        · rw [if_neg q] at key; rw [key] at hs; cases hs
theorem FU_NF : FU ≤ NF := Nat.le_of_ble_eq_true rfl
theorem s_mbidsAll {Y : Int} {n k : Nat} {S : MS} {P : Int32 → MS → Prop} {c' : Nat} (hI : IT Y n k (S 1)) (hs : (bOn n k 1 FU (anew (S 1)) 0).1 = some c') (h : P (nI c') (sset S (bOn n k 1 FU (anew (S 1)) 0).2)) : F_mbidsAll S P := by
  unfold F_mbidsAll
  refine s_mallFree (z := true) rfl ?_
  rw [aP_true]
  refine s_mfirstFree hI.n6 (by rw [sset_1]; exact hI.nw.t0) ?_
  refine s_mbidsLoop FU (sset S (anew (S 1))) 0 NF (by rw [sset_1]; exact hI.nw) FU_NF (by rw [sset_1]; exact hs) ?_
  rw [sset_1, sset_sset]; exact h
theorem len0 {n k : Nat} {T : TS} {S : MS} (hn : n ≤ 6) (hk : k ≤ 6) (hM : MG n T (rows n k T) S) (hI : ∀ w ∈ rows n k T, rcs n T w < DD) : S 0 11 = nI (rows n k T).length ∧ (rows n k T).length ≤ 46656 ∧ (S 0 11 = 0 ↔ rows n k T = []) := by
  have hl := rows_len (T := T) hn hk
  have e : S 0 11 = nI (rows n k T).length := by rw [hM.1]; exact congrArg nI (gfold_inv (w0 := fun _ => 0) hI).1
  refine ⟨e, hl, ?_⟩
  rw [e, show (0 : Int32) = nI 0 from rfl, nI_eq (by omega) (by omega)]
  exact List.length_eq_zero_iff
theorem s_msettlesNow {Y : Int} {n k : Nat} {S : MS} {P : Int32 → MS → Prop} (hI : IT Y n k (S 1)) (h : orM (settleO n k 1 (S 1)) S P) : F_msettlesNow S P := by
  have hn := hI.n6
  have hk := hI.k6
  unfold F_msettlesNow
  unfold settleO at h
  refine s_mlooks hI fun S1 hM hJ => jn_i ?_
  obtain ⟨-, -, h0⟩ := len0 hn hk hM (rcs_D hI)
  obtain ⟨hle, hiff⟩ := mxT_le (n := n) (k := k) (T := S 1)
  rw [h0]
  have hI1 : IT Y n k (S1 1) := by rw [hJ.1]; exact hI
  refine ⟨fun e => s_mmost0 hn hk hI1.t0 hI1.t1 (s_mrefuses1 ⟨fun q => absurd q (by decide), fun _ => ?_⟩), fun e => s_mmost0 hn hk hI1.t0 hI1.t1 (s_mrefuses0 ⟨fun _ => ?_, fun q => (q rfl).elim⟩)⟩
  · rw [if_neg fun q => (hiff.mp q) e] at h
    rw [hJ.1]
    exact h _ hJ.rfz
  · rw [if_pos (hiff.mpr e)] at h
    obtain ⟨c, g1, g2, g3, g4⟩ := st_ok (f := FU) (d := 1) FU_big hI e (S 1 5 + 1) (rcs_D hI)
    have hre : RE (fun j => j ≠ 5) (upd (anew (S 1)) 5 (S 1 5 + 1)) (anew (S 1)) := fun j hj => (pk_un hj).symm
    have hc : Core (fun j => j ≠ 5) := ⟨by omega, fun j _ _ => by omega, fun j _ _ => by omega⟩
    obtain ⟨e1, e2⟩ := bOn_re (n := n) (k := k) (d := 1) (d' := 1) hc hn hk (fun _ => rfl) FU _ _ 0 hre
    have b5 : (bOn n k 1 FU (anew (S 1)) 0).2 5 = S 1 5 := by rw [bOn_lo hn (by omega) (by omega) (by omega), anew_lo (by omega)]
    have b5' : (bOn n k 1 FU (upd (anew (S 1)) 5 (S 1 5 + 1)) 0).2 5 = S 1 5 + 1 := by rw [bOn_lo hn (by omega) (by omega) (by omega), pk_us]
    have hst : upd (bOn n k 1 FU (anew (S 1)) 0).2 5 (S 1 5 + 1) = (stT n k 1 (S 1)).2 := by
      show _ = (bOn n k 1 FU (upd (anew (S 1)) 5 (S 1 5 + 1)) 0).2
      generalize bOn n k 1 FU (anew (S 1)) 0 = B at *
      generalize bOn n k 1 FU (upd (anew (S 1)) 5 (S 1 5 + 1)) 0 = A at *
      funext j
      by_cases hj : j = 5
      · subst hj; rw [pk_us, b5']
      · rw [pk_un hj]; exact e2 j hj
    have hs1 : (stT n k 1 (S 1)).1 = some c := g1
    refine s_mbidsAll hI1 (c' := c) (by rw [hJ.1, e1]; exact g1) (nm_i ⟨v5, v5, nm_i ?_⟩)
    rw [k5, hJ.1, sput0_1, sset_1, b5, sput_1, sput0_1, sset_1, sset_sput0, sset_sset, hst]
    have h2 : ∀ S', Jk (sput (sset S (stT n k 1 (S 1)).2) 0 4 (encC (stT n k 1 (S 1)).1)) S' → P 1 S' := h
    rw [hs1] at h2
    exact h2 _ hJ.set.put
theorem yr_eq {T : TS} : upd (aP false 6 (yP false 6 T)) 2 (T 2 + 1) = yearT T := by
  unfold yearT
  refine congrArg (fun f => upd f 2 (T 2 + 1)) ?_
  have ao : ∀ (X : TS) j, ¬ (78 ≤ j ∧ j < 84) → ¬ (84 ≤ j ∧ j < 90) → aP false 6 X j = X j := fun X j h1 h2 => by
    unfold aP; rw [if_neg (by omega), if_neg (by omega)]
  refine ts_ext (fun j hj => ?_) (fun a m ha hm => ?_) (fun a m ha hm => ?_) (fun m hm => ?_) (fun a ha => ?_) (fun j hj => ?_)
  · rw [ao _ _ (by omega) (by omega), hP_out (by omega), yP_o (by omega) (by omega), yP_o (by omega) (by omega)]
  · rw [ao _ _ (by omega) (by omega), hP_out (by omega), yP_c ha hm, yP_c ha hm]
  · rw [ao _ _ (by omega) (by omega), hP_out (by omega), yP_s ha hm, yP_s ha hm]
  · rw [hP_in hm, yP_o (by omega) (by omega)]
    unfold aP; rw [if_pos (by omega), if_neg (by decide), yP_o (by omega) (by omega)]
  · rw [hP_out (by omega), yP_q ha, if_pos ⟨rfl, ha⟩]
    unfold aP; rw [if_neg (by omega), if_pos (by omega)]
  · rw [ao _ _ (by omega) (by omega), hP_out (by omega), yP_o (by omega) (by omega), yP_o (by omega) (by omega)]
theorem s_mgoesBy {Y : Int} {n k : Nat} {S : MS} {P : Int32 → MS → Prop} (hI : IT Y n k (S 1)) (h : orM (.inr (pcI n (S 1), yearT (S 1))) S P) : F_mgoesBy S P := by
  have hn := hI.n6
  have hk := hI.k6
  unfold F_mgoesBy
  refine s_mpairCost hI (nm_i ?_)
  have h : ∀ S', Jk (sput (sset S (yearT (S 1))) 0 4 (pcI n (S 1))) S' → P 1 S' := h
  generalize pcI n (S 1) = r at h ⊢
  refine loop_i (σ := MS) (fun f i S1 => L_mgoesBy_10 _ P f S1 (nI i)) (fun i S1 => S1 = sset (sput S 0 4 r) (yP false i (S 1))) n (fun f S1 hx => ?_) (fun f i S1 hi hx ih => ?_) NF 0 (sput S 0 4 r) (Nat.zero_le _) (by unfold NF; omega) (by rw [yP_0]; rw [← sput0_1 (S := S) (j := 4) (v := r), sset_id])
  · subst hx
    unfold L_mgoesBy_10
    rw [k0, sset_1, yP_o hn (by omega), hI.t0]
    refine ⟨v0, fun _ => ?_, fun q => absurd (nI_le (Nat.le_refl n) (by omega)) q⟩
    refine s_mallFree (z := false) rfl ⟨v2, v2, nm_i ?_⟩
    rw [k2, sset_1, sset_sset, sset_1, sput_sset, yP_all hI]
    have e2 : aP false 6 (yP false 6 (S 1)) 2 = S 1 2 := by
      unfold aP; rw [if_neg (by omega), if_neg (by omega), yP_o (by omega) (by omega)]
    rw [e2, yr_eq, sset_sput0]
    exact h _ Jk.rf
  · subst hx
    have hi6 : i < 6 := by omega
    have eq : yP false i (S 1) (84 + i) = S 1 (84 + i) := by rw [yP_q hi6, if_neg (by simp)]
    unfold L_mgoesBy_10
    rw [k0, sset_1, yP_o (by omega) (by omega), hI.t0, c84, cl (by omega), eq, nI_1]
    refine ⟨v0, fun q => absurd q (nI_ge hi (by omega)), fun _ => ⟨vi (by omega), fun e => ih _ (by rw [yP_skip hi6 e]), fun e => ?_⟩⟩
    obtain ⟨-, m, hm, hme, hok⟩ := (hI.pair hi6).resolve_left e
    have hm6 : m < 6 := by omega
    rw [hme, cs42, cc6, cl (by omega), cl (by omega)]
    refine ⟨vi (by omega), vi (by omega), nm_i (s_mc hi6 hm6 ?_)⟩
    rw [sput_sset, sset_1, pk_un (show 6 + 6 * i + m ≠ 42 + 6 * i + m by omega)]
    have ec : yP false i (S 1) (6 + 6 * i + m) = S 1 (6 + 6 * i + m) := by rw [yP_c hi6 hm6, if_neg (by omega)]
    rw [ec]
    have hst := fun c hc => yP_step (b := false) (c := c) hi6 hm6 hme hc
    refine ⟨fun q => ⟨vi (by omega), nm_i (ih _ ?_)⟩, fun q => s_mc hi6 hm6 ⟨vi (by omega), nm_i (ih _ ?_)⟩⟩
    · have := hst 0 (by unfold yc; rw [if_pos hme, if_pos q])
      rw [if_neg (by decide)] at this
      rw [sput_sset, this]
    · rw [sset_1, pk_un (show 6 + 6 * i + m ≠ 42 + 6 * i + m by omega), ec]
      have := hst (S 1 (6 + 6 * i + m) - 1) (by unfold yc; rw [if_pos hme, if_neg q])
      rw [if_neg (by decide)] at this
      rw [sput_sset, this]
/-- an order: its letter, its numbers -/
abbrev OD : Type := Int32 × Int32 × Int32 × Int32
def doesO (n k : Nat) (d : Int32) (T : TS) (o : OD) : OR :=
  if o.1 = 97 then comesO T 0 else if o.1 = 109 then comesO T 1 else if o.1 = 99 then costsO n k T o.2.1 o.2.2.1 o.2.2.2 else if o.1 = 98 then barsO n k T o.2.1 o.2.2.1
  else if o.1 = 105 then bidO n k d T else if o.1 = 115 then settleO n k d T else if o.1 = 108 then leavesO n T o.2.1 else .inr (pcI n T, yearT T)
def okO (o : OD) : Prop := o.1 = 97 ∨ o.1 = 109 ∨ o.1 = 99 ∨ o.1 = 98 ∨ o.1 = 105 ∨ o.1 = 115 ∨ o.1 = 108 ∨ o.1 = 121
theorem orM.nar {o : OR} {S : MS} {P : Int32 → MS → Prop} (h : orM o S P) : orM o S (fun r S' => narrow .boolean (.int r) = .int r ∧ P r S') := by
  cases o with
  | inl r => exact fun S' hJ => ⟨rfl, h S' hJ⟩
  | inr v => exact fun S' hJ => ⟨rfl, h S' hJ⟩
