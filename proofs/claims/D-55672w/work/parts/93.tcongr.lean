/-! PURE: what depends on what in a town; to begin anew, to settle, the least, would bid -/
def RE (I : Nat → Prop) (T T' : TS) : Prop := ∀ j, I j → T' j = T j
def Core (I : Nat → Prop) : Prop := I 0 ∧ (∀ j, 6 ≤ j → j < 42 → I j) ∧ ∀ j, 78 ≤ j → j < 90 → I j
section CG
variable {I : Nat → Prop} {T T' : TS} {n k a m : Nat}
theorem cT_re (hc : Core I) (h : RE I T T') (ha : a < 6) (hm : m < 6) : cT T' a m = cT T a m := by unfold cT; rw [h _ (hc.2.1 _ (by omega) (by omega))]
theorem okT_re (hc : Core I) (h : RE I T T') (ha : a < 6) (hm : m < 6) : okT T' a m = okT T a m := by unfold okT; rw [h _ (hc.2.1 _ (by omega) (by omega))]
theorem pT_re (hc : Core I) (h : RE I T T') (hm : m < 6) : pT T' m = pT T m := by unfold pT; rw [h _ (hc.2.2 _ (by omega) (by omega))]
theorem hv_re (hc : Core I) (h : RE I T T') (ha : a < 6) (hm : m < 6) : hv n (cT T') (pT T') a m = hv n (cT T) (pT T) a m := by unfold hv; rw [cT_re hc h ha hm, pT_re hc h hm]
theorem hvI_re (hc : Core I) (h : RE I T T') (ha : a < 6) (hm : m < 6) : hvI T' a m = hvI T a m := by unfold hvI; rw [h (6 + 6 * a + m) (hc.2.1 _ (by omega) (by omega)), h (78 + m) (hc.2.2 _ (by omega) (by omega)), h 0 hc.1]
theorem lk_re (hc : Core I) (h : RE I T T') (hk : k ≤ 6) (ha : a < 6) {but : Option Nat} : lk n k T' a but = lk n k T a but := by
  unfold lk
  exact best_congr fun m hm => ⟨by rw [okT_re hc h ha (by omega)], hv_re hc h ha (by omega)⟩
theorem mvI_re (hc : Core I) (h : RE I T T') (hk : k ≤ 6) (ha : a < 6) : mvI n k T' a = mvI n k T a := by
  unfold mvI
  rw [lk_re hc h hk ha]
  cases hl : lk n k T a none with
  | none => rfl
  | some b =>
    simp only [lk_re hc h hk ha]
    cases hl2 : lk n k T a (some b) with
    | none => rfl
    | some b2 =>
      have h1 := lk_lt hl
      have h2 := lk_lt hl2
      simp only []
      rw [hvI_re hc h ha (by omega), hvI_re hc h ha (by omega)]
theorem mvs_re (hc : Core I) (h : RE I T T') (hk : k ≤ 6) (ha : a < 6) : mvs n k T' a = mvs n k T a := by
  unfold mvs
  rw [lk_re hc h hk ha]
  cases hl : lk n k T a none with
  | none => rfl
  | some b =>
    simp only [lk_re hc h hk ha]
    cases hl2 : lk n k T a (some b) with
    | none => rfl
    | some b2 =>
      have h1 := lk_lt hl
      have h2 := lk_lt hl2
      simp only []
      rw [hv_re hc h ha (by omega), hv_re hc h ha (by omega)]
theorem atA_re (hc : Core I) (h : RE I T T') (hn : n ≤ 6) {x : Int32} : atA n T' x = atA n T x := atA_congr fun a ha => h _ (hc.2.2 _ (by omega) (by omega))
theorem frA_re (hc : Core I) (h : RE I T T') (hn : n ≤ 6) : frA n T' = frA n T := atA_re hc h hn
theorem RE.upd (h : RE I T T') {j : Nat} {v v' : Int32} (e : I j → v' = v) : RE I (upd T j v) (upd T' j v') := fun i hi => by
  by_cases q : i = j
  · subst q; rw [pk_us, pk_us, e hi]
  · rw [pk_un q, pk_un q, h i hi]
theorem bidT_re (hc : Core I) (h : RE I T T') (hn : n ≤ 6) (hk : k ≤ 6) (ha : a < 6) (hm : m < 6) {d d' : Int32} (hd : I 3 → d' = d) : RE I (bidT n k d T a m) (bidT n k d' T' a m) := by
  unfold bidT bidX
  have hx : RE I (match atA n T (nI m) with
      | none => upd T (78 + m) (T (78 + m) + mvI n k T a)
      | some o => upd (upd (upd T (78 + m) (T (78 + m) + mvI n k T a)) (84 + o) (-1)) 4 (T 4 + 1)) (match atA n T' (nI m) with
      | none => upd T' (78 + m) (T' (78 + m) + mvI n k T' a)
      | some o => upd (upd (upd T' (78 + m) (T' (78 + m) + mvI n k T' a)) (84 + o) (-1)) 4 (T' 4 + 1)) := by
    have e1 : T' (78 + m) + mvI n k T' a = T (78 + m) + mvI n k T a := by rw [h _ (hc.2.2 _ (by omega) (by omega)), mvI_re hc h hk ha]
    rw [atA_re hc h hn, e1]
    cases atA n T (nI m) with
    | none => exact h.upd fun _ => rfl
    | some o => exact ((h.upd fun _ => rfl).upd fun _ => rfl).upd fun q => by rw [h 4 q]
  exact ((hx.upd fun _ => rfl).upd fun q => by rw [h 3 q, hd q]).upd fun q => by rw [h _ q]
theorem bOn_re (hc : Core I) (hn : n ≤ 6) (hk : k ≤ 6) {d d' : Int32} (hd : I 3 → d' = d) : ∀ (f : Nat) (T T' : TS) (c : Nat), RE I T T' → (bOn n k d' f T' c).1 = (bOn n k d f T c).1 ∧ RE I (bOn n k d f T c).2 (bOn n k d' f T' c).2
  | 0, T, T', c, h => ⟨rfl, h⟩
  | f + 1, T, T', c, h => by
    unfold bOn
    rw [frA_re hc h hn]
    cases hf : frA n T with
    | none => exact ⟨rfl, h⟩
    | some a =>
      have ha := (frA_some hf).1
      simp only [lk_re hc h hk (show a < 6 by omega)]
      cases hl : lk n k T a none with
      | none => exact ⟨rfl, h⟩
      | some m =>
        have hm := lk_lt hl
        simp only [pT_re hc h (show m < 6 by omega), mvs_re hc h hk (show a < 6 by omega)]
        by_cases q : pT T m + mvs n k T a ≤ 9999
        · simp only [if_pos q]; exact bOn_re hc hn hk hd f _ _ (c + 1) (bidT_re hc h hn hk (by omega) (by omega) hd)
        · simp only [if_neg q]; exact ⟨trivial, h⟩
end CG
theorem IT.re {Y : Int} {n k : Nat} {T T' : TS} (h : IT Y n k T) (e : ∀ j, j < 96 → j ≠ 2 → j ≠ 3 → j ≠ 4 → j ≠ 5 → T' j = T j) : IT Y n k T' := by
  have hn := h.n6
  have hk := h.k6
  refine ⟨hn, hk, ?_, ?_, fun a m h1 h2 => ?_, fun m h1 => ?_, fun b h1 => ?_, fun b b' h1 h2 => ?_, fun a m h1 h2 h3 => ?_, fun m h1 h2 => ?_, fun a m h1 h2 => ?_⟩
  · rw [e 0 (by omega) (by omega) (by omega) (by omega) (by omega)]; exact h.t0
  · rw [e 1 (by omega) (by omega) (by omega) (by omega) (by omega)]; exact h.t1
  · unfold cT; rw [e _ (by omega) (by omega) (by omega) (by omega) (by omega)]; exact h.cost h1 h2
  · unfold pT; rw [e _ (by omega) (by omega) (by omega) (by omega) (by omega)]; exact h.price h1
  · rw [e _ (by omega) (by omega) (by omega) (by omega) (by omega)]
    rcases h.pair h1 with z | ⟨z1, m, z2, z3, z4⟩
    · exact Or.inl z
    · exact Or.inr ⟨z1, m, z2, z3, by rw [e _ (by omega) (by omega) (by omega) (by omega) (by omega)]; exact z4⟩
  · rw [e _ (by omega) (by omega) (by omega) (by omega) (by omega), e (84 + b') (by omega) (by omega) (by omega) (by omega) (by omega)]; exact h.inj h1 h2
  · rw [e _ (by omega) (by omega) (by omega) (by omega) (by omega), e (42 + 6 * a + m) (by omega) (by omega) (by omega) (by omega) (by omega)]; exact h.out h1 h2 h3
  · rw [e _ (by omega) (by omega) (by omega) (by omega) (by omega), e (90 + m) (by omega) (by omega) (by omega) (by omega) (by omega)]; exact h.outm h1 h2
  · rw [e _ (by omega) (by omega) (by omega) (by omega) (by omega)]; exact h.srv h1 h2
theorem s_tbeginsAnew {T : TS} {P : TS → Prop} (h : P (anew T)) : F_tbeginsAnew T P := by
  unfold F_tbeginsAnew
  refine loop_i (σ := TS) (fun f i T1 => L_tbeginsAnew_2 P f T1 (nI i)) (fun i T1 => T1 = fun j => if 78 ≤ j ∧ j < 78 + i then 0 else if 84 ≤ j ∧ j < 84 + i then -1 else T j) 6 (fun f T1 hx => ?_) (fun f i T1 hi hx ih => ?_) NF 0 T (Nat.zero_le _) (by unfold NF; omega) (by funext j; rw [if_neg (by omega), if_neg (by omega)])
  · unfold L_tbeginsAnew_2
    subst hx
    exact ⟨fun _ => h, fun q => absurd (nI_le (Nat.le_refl 6) (by omega)) q⟩
  · unfold L_tbeginsAnew_2
    refine ⟨fun q => absurd q (nI_ge hi (by decide) : ¬ nI 6 ≤ nI i), fun _ => ⟨vp_in_nI hi (by decide), nm_i ⟨vp_in_nI hi (by decide), nm_i ?_⟩⟩⟩
    rw [nI_1, ix hi (by decide)]
    refine ih _ ?_
    subst hx
    funext j
    unfold upd
    by_cases h1 : j = 78 + i
    · rw [if_pos h1, if_pos (by omega)]
    · rw [if_neg h1]
      by_cases h2 : j = 84 + i
      · rw [if_pos h2, if_neg (by omega), if_pos (by omega)]
      · rw [if_neg h2]
        show (if 78 ≤ j ∧ j < 78 + i then (0 : Int32) else if 84 ≤ j ∧ j < 84 + i then -1 else T j) = _
        by_cases h3 : 78 ≤ j ∧ j < 78 + i
        · rw [if_pos h3, if_pos (by omega)]
        · rw [if_neg h3, if_neg (by omega : ¬ (78 ≤ j ∧ j < 78 + (i + 1)))]
          by_cases h4 : 84 ≤ j ∧ j < 84 + i
          · rw [if_pos h4, if_pos (by omega)]
          · rw [if_neg h4, if_neg (by omega)]
/-- who bids until none is free, from the beginning -/
def FU : Nat := 60000
def stT (n k : Nat) (d : Int32) (T : TS) : Option Nat × TS := bOn n k d FU (upd (anew T) 5 (T 5 + 1)) 0
def lsT (n k : Nat) (T : TS) : Option Nat × TS := bOn n k 0 FU (anew T) 0
def I96 : Nat → Prop := fun j => j < 96
theorem core96 : Core I96 := ⟨by show 0 < 96; omega, fun j h1 h2 => by show j < 96; omega, fun j h1 h2 => by show j < 96; omega⟩
theorem s_tbids60 {Y : Int} {n k : Nat} {T : TS} {P : Int32 → TS → Prop} (hI : IT Y n k T) (h1 : ∀ c, (bOn n k 0 FU T 0).1 = some c → P (nI c) (bOn n k 0 FU T 0).2) (h2 : (bOn n k 0 FU T 0).1 = none → P (-1) (bOn n k 0 FU T 0).2) : F_tbidsOn T P := by
  unfold F_tbidsOn
  refine s_tbidsOn P FU T 0 NF hI ?_ (Nat.le_of_ble_eq_true rfl) h1 h2
  have := pot_le hI
  unfold FU; omega
theorem IT.sm {Y : Int} {n k : Nat} {T T' : TS} (h : IT Y n k T) (e : Sm T T') : IT Y n k T' := h.re fun j hj _ _ _ _ => e j hj
theorem Sm.re {T T' : TS} (h : Sm T T') : RE I96 T T' := h
theorem anew_re {T T' : TS} (h : RE I96 T T') : RE I96 (anew T) (anew T') := fun j hj => by
  unfold anew
  split
  · rfl
  · split
    · rfl
    · exact h j hj
theorem rows_sm {n k : Nat} {T T' : TS} (hn : n ≤ 6) (hk : k ≤ 6) (h : ∀ a m, a < n → m < k → okT T' a m = okT T a m) : rows n k T' = rows n k T := by
  unfold rows
  have key : ∀ r w, r ≤ n → en k (okT T') n r w = en k (okT T) n r w := by
    intro r
    induction r with
    | zero => intro w _; rfl
    | succ r ih =>
      intro w hr
      show enL _ k = enL _ k
      refine enL_congr fun m hm => ?_
      rw [h _ m (by omega) hm]
      split
      · exact ih _ (by omega)
      · rfl
  exact key n _ (Nat.le_refl _)
theorem rcs_sm {n k : Nat} {T T' : TS} (h : ∀ a m, a < n → m < k → cT T' a m = cT T a m) {w : Nat → Nat} (hw : ∀ a, a < n → w a < k) : rcs n T' w = rcs n T w := su_congr fun a ha => h a (w a) ha (hw a ha)
theorem lmin_congr {cs cs' : (Nat → Nat) → Int} : ∀ (L : List (Nat → Nat)) (D : Int), (∀ w ∈ L, cs' w = cs w) → lmin cs' D L = lmin cs D L
  | [], _, _ => rfl
  | x :: L, D, hx => by
    show lmin cs' (if cs' x < D then cs' x else D) L = lmin cs (if cs x < D then cs x else D) L
    rw [hx x (by simp)]
    exact lmin_congr L _ fun w hw => hx w (by simp [hw])
/-- a whole pairing: the bids from the beginning end, with the least cost -/
theorem st_ok {Y : Int} {n k f : Nat} (hf : 59994 < (f : Int)) {T : TS} {d : Int32} (hI : IT Y n k T) (hr : rows n k T ≠ []) (v : Int32) {D : Int} (hD : ∀ w ∈ rows n k T, rcs n T w < D) : ∃ c : Nat, (bOn n k d f (upd (anew T) 5 v) 0).1 = some c ∧ IT Y n k (bOn n k d f (upd (anew T) 5 v) 0).2 ∧ (∀ j, j < 78 → j ≠ 3 → j ≠ 4 → j ≠ 5 → (bOn n k d f (upd (anew T) 5 v) 0).2 j = T j) ∧ pcs n (bOn n k d f (upd (anew T) 5 v) 0).2 = lmin (rcs n T) D (rows n k T) := by
  have hn := hI.n6
  have hk := hI.k6
  obtain ⟨w, hw⟩ : ∃ w, w ∈ rows n k T := by
    cases e : rows n k T with
    | nil => exact absurd e hr
    | cons w L => exact ⟨w, by simp⟩
  have hre : RE (fun j => j ≠ 5) (anew T) (upd (anew T) 5 v) := fun j hj => pk_un hj
  have hc : Core (fun j => j ≠ 5) := ⟨by omega, fun j _ _ => by omega, fun j _ _ => by omega⟩
  have hI1 : IT Y n k (upd (anew T) 5 v) := hI.nw.re fun j _ _ _ _ h5 => pk_un h5
  have e5 : ∀ j, j < 78 → j ≠ 5 → upd (anew T) 5 v j = T j := fun j h1 h2 => by rw [pk_un h2, anew_lo (by omega)]
  have hp : pC k (upd (anew T) 5 v) = pC k (anew T) := by
    funext m; unfold pC; split
    · exact pT_re hc hre (by omega)
    · rfl
  have hA : AucT n k (upd (anew T) 5 v) := (AucT.nw hI).congr (fun a m ha hm => cT_re hc hre (by omega) (by omega)) (fun m => by rw [hp]) (fun a ha => by unfold qT; rw [pk_un (by omega)])
  have hB : Bdp (pC k (upd (anew T) 5 v)) k := by rw [hp]; exact Bdp.nw hI
  have hc1 : ∀ a m, a < n → m < k → cT (upd (anew T) 5 v) a m = cT T a m := fun a m ha hm => by unfold cT; rw [e5 _ (by omega) (by omega)]
  have hW0 := rows_whole hw
  have hW : Whole n k (upd (anew T) 5 v) (fun a => some (w a)) := ⟨⟨fun a m ha e => by
    have := hW0.1.1 a m ha e
    exact ⟨this.1, by rw [hc1 a m ha this.1]; exact this.2⟩, hW0.1.2⟩, hW0.2⟩
  obtain ⟨c, g1, g2, g3, g4, g5⟩ := bOn_run (d := d) f (upd (anew T) 5 v) 0 hI1 hA hB hW (by have := pot_le hI1; omega)
  refine ⟨c, g1, g2, fun j h1 h3 h4 h5 => by rw [g5 j h1 h3 h4, e5 j h1 h5], ?_⟩
  have hok1 : ∀ a m, a < n → m < k → okT (upd (anew T) 5 v) a m = okT T a m := fun a m ha hm => by unfold okT; rw [e5 _ (by omega) (by omega)]
  have hrows := rows_sm (T' := upd (anew T) 5 v) (T := T) hn hk hok1
  have hcs : ∀ w ∈ rows n k T, rcs n (upd (anew T) 5 v) w = rcs n T w := fun w hw => rcs_sm hc1 fun a ha => ((rows_whole hw).1.1 a _ ha rfl).1
  have hl := (settle_least (T := upd (anew T) 5 v) g2 g3 g4 g5 hn (D := D) (fun w hw => by rw [hrows] at hw; rw [hcs w hw]; exact hD w hw)).2
  rw [hl, hrows]
  exact lmin_congr _ _ hcs
