/-! PURE: what holds of a town goes on to hold behind every order -/
theorem IT.mono {Y Y' : Int} {n k : Nat} {T : TS} (h : IT Y n k T) (hY : Y ≤ Y') : IT Y' n k T := by
  obtain ⟨h1, h2, h3, h4, h5, h6, h7, h8, h9, h10, h11⟩ := h
  exact ⟨h1, h2, h3, h4, h5, h6, h7, h8, h9, h10, fun a m ha hm => by have := h11 a m ha hm; omega⟩
theorem IT.Y0 {Y : Int} {n k : Nat} {T : TS} (h : IT Y n k T) : 0 ≤ Y := by have := h.srv (show 0 < 6 by omega) (show 0 < 6 by omega); omega
/-- the town begun anew with one more of a kind -/
theorem IT.comes {Y : Int} {n k : Nat} {T : TS} (h : IT Y n k T) {w : Nat} (hw : w < 2) (h6 : T w ≠ 6) : ∃ n' k', IT Y n' k' (anew (upd T w (T w + 1))) := by
  have hn := h.n6
  have hk := h.k6
  have hne : ∀ c, c ≤ 6 → T w = nI c → c < 6 := fun c hc e => by
    rcases Nat.lt_or_ge c 6 with z | z
    · exact z
    · exact absurd (by rw [e, show c = 6 by omega]; rfl) h6
  have gen : ∀ n' k', n' ≤ 6 → k' ≤ 6 → n ≤ n' → k ≤ k' → upd T w (T w + 1) 0 = nI n' → upd T w (T w + 1) 1 = nI k' → IT Y n' k' (anew (upd T w (T w + 1))) := fun n' k' hn' hk' hnn hkk e0 e1 => by
    refine ⟨hn', hk', ?_, ?_, fun a m h1 h2 => ?_, fun m h1 => ?_, fun b h1 => Or.inl (anew_q h1), fun b b' h1 h2 _ q => absurd (anew_q h1) q, fun a m h1 h2 h3 => ?_, fun m h1 h2 => ?_, fun a m h1 h2 => ?_⟩
    · rw [anew_lo (by omega)]; exact e0
    · rw [anew_lo (by omega)]; exact e1
    · unfold cT; rw [anew_lo (by omega), pk_un (by omega)]; exact h.cost h1 h2
    · unfold pT; rw [anew_p h1]; decide
    · rw [anew_lo (by omega), anew_lo (by omega), pk_un (by omega), pk_un (by omega)]; exact h.out h1 h2 (by omega)
    · rw [anew_p h1, anew_lo (by omega), pk_un (by omega)]; exact ⟨rfl, (h.outm h1 (by omega)).2⟩
    · rw [anew_lo (by omega), pk_un (by omega)]; exact h.srv h1 h2
  rcases (show w = 0 ∨ w = 1 by omega) with rfl | rfl
  · have := hne n hn h.t0
    exact ⟨n + 1, k, gen (n + 1) k (by omega) hk (by omega) (Nat.le_refl _) (by rw [pk_us, h.t0, nI_1]) (by rw [pk_un (by decide)]; exact h.t1)⟩
  · have := hne k hk h.t1
    exact ⟨n, k + 1, gen n (k + 1) hn (by omega) (Nat.le_refl _) (by omega) (by rw [pk_un (by decide)]; exact h.t0) (by rw [pk_us, h.t1, nI_1])⟩
theorem IT.costs {Y : Int} {n k : Nat} {T : TS} (h : IT Y n k T) {a m : Nat} (ha : a < n) (hm : m < k) {c : Int32} (hc : 0 ≤ c.toInt ∧ c.toInt ≤ 60) : IT Y n k (upd T (6 + 6 * a + m) c) := by
  have hn := h.n6
  have hk := h.k6
  have hcm : c ≠ -1 := fun e => by
    rw [e] at hc
    have : (-1 : Int32).toInt = -1 := by decide
    omega
  have ne : ∀ a' m', a' < 6 → m' < 6 → (a' ≠ a ∨ m' ≠ m) → upd T (6 + 6 * a + m) c (6 + 6 * a' + m') = T (6 + 6 * a' + m') := fun a' m' h1 h2 h3 => pk_un (by omega)
  refine ⟨hn, hk, ?_, ?_, fun a' m' h1 h2 => ?_, fun m' h1 => ?_, fun b h1 => ?_, fun b b' h1 h2 => ?_, fun a' m' h1 h2 h3 => ?_, fun m' h1 h2 => ?_, fun a' m' h1 h2 => ?_⟩
  · rw [pk_un (by omega)]; exact h.t0
  · rw [pk_un (by omega)]; exact h.t1
  · unfold cT
    by_cases e : a' = a ∧ m' = m
    · obtain ⟨rfl, rfl⟩ := e; rw [pk_us]; exact Or.inr hc
    · rw [ne a' m' h1 h2 (by omega)]; exact h.cost h1 h2
  · unfold pT; rw [pk_un (by omega)]; exact h.price h1
  · rw [pk_un (by omega)]
    rcases h.pair h1 with z | ⟨z1, m', z2, z3, z4⟩
    · exact Or.inl z
    · refine Or.inr ⟨z1, m', z2, z3, ?_⟩
      by_cases e : b = a ∧ m' = m
      · obtain ⟨rfl, rfl⟩ := e; rw [pk_us]; exact hcm
      · rw [ne b m' h1 (by omega) (by omega)]; exact z4
  · rw [pk_un (by omega), pk_un (by omega)]; exact h.inj h1 h2
  · rw [ne a' m' h1 h2 (by omega), pk_un (by omega)]; exact h.out h1 h2 h3
  · rw [pk_un (by omega), pk_un (by omega)]; exact h.outm h1 h2
  · rw [pk_un (by omega)]; exact h.srv h1 h2
theorem IT.leave {Y : Int} {n k : Nat} {T : TS} (h : IT Y n k T) {a : Nat} (ha : a < n) : IT Y n k (upd T (84 + a) (-1)) := by
  have hn := h.n6
  have hk := h.k6
  refine ⟨hn, hk, ?_, ?_, fun a' m' h1 h2 => ?_, fun m' h1 => ?_, fun b h1 => ?_, fun b b' h1 h2 => ?_, fun a' m' h1 h2 h3 => ?_, fun m' h1 h2 => ?_, fun a' m' h1 h2 => ?_⟩
  · rw [pk_un (by omega)]; exact h.t0
  · rw [pk_un (by omega)]; exact h.t1
  · unfold cT; rw [pk_un (by omega)]; exact h.cost h1 h2
  · unfold pT; rw [pk_un (by omega)]; exact h.price h1
  · by_cases e : b = a
    · subst e; rw [pk_us]; exact Or.inl rfl
    · rw [pk_un (by omega)]
      rcases h.pair h1 with z | ⟨z1, m', z2, z3, z4⟩
      · exact Or.inl z
      · exact Or.inr ⟨z1, m', z2, z3, by rw [pk_un (by omega)]; exact z4⟩
  · by_cases e : b = a
    · subst e; rw [pk_us]; intro _ q; exact absurd rfl q
    · rw [pk_un (show 84 + b ≠ 84 + a by omega)]
      by_cases e2 : b' = a
      · subst e2; rw [pk_us]; intro q q2; exact absurd q q2
      · rw [pk_un (show 84 + b' ≠ 84 + a by omega)]; exact h.inj h1 h2
  · rw [pk_un (by omega), pk_un (by omega)]; exact h.out h1 h2 h3
  · rw [pk_un (by omega), pk_un (by omega)]; exact h.outm h1 h2
  · rw [pk_un (by omega)]; exact h.srv h1 h2
theorem IT.bar {Y : Int} {n k : Nat} {T : TS} (h : IT Y n k T) {a m : Nat} (ha : a < n) (hm : m < k) : IT Y n k (if T (84 + a) = nI m then upd (upd T (6 + 6 * a + m) (-1)) (84 + a) (-1) else upd T (6 + 6 * a + m) (-1)) := by
  have hn := h.n6
  have hk := h.k6
  -- the pair is parted first
  have key : ∀ T : TS, IT Y n k T → T (84 + a) ≠ nI m → IT Y n k (upd T (6 + 6 * a + m) (-1)) := fun T h hp => by
    have ne : ∀ a' m', a' < 6 → m' < 6 → (a' ≠ a ∨ m' ≠ m) → upd T (6 + 6 * a + m) (-1) (6 + 6 * a' + m') = T (6 + 6 * a' + m') := fun a' m' h1 h2 h3 => pk_un (by omega)
    refine ⟨hn, hk, ?_, ?_, fun a' m' h1 h2 => ?_, fun m' h1 => ?_, fun b h1 => ?_, fun b b' h1 h2 => ?_, fun a' m' h1 h2 h3 => ?_, fun m' h1 h2 => ?_, fun a' m' h1 h2 => ?_⟩
    · rw [pk_un (by omega)]; exact h.t0
    · rw [pk_un (by omega)]; exact h.t1
    · unfold cT
      by_cases e : a' = a ∧ m' = m
      · obtain ⟨rfl, rfl⟩ := e; rw [pk_us]; exact Or.inl rfl
      · rw [ne a' m' h1 h2 (by omega)]; exact h.cost h1 h2
    · unfold pT; rw [pk_un (by omega)]; exact h.price h1
    · rw [pk_un (by omega)]
      rcases h.pair h1 with z | ⟨z1, m', z2, z3, z4⟩
      · exact Or.inl z
      · refine Or.inr ⟨z1, m', z2, z3, ?_⟩
        by_cases e : b = a ∧ m' = m
        · obtain ⟨rfl, rfl⟩ := e; exact absurd z3 hp
        · rw [ne b m' h1 (by omega) (by omega)]; exact z4
    · rw [pk_un (by omega), pk_un (by omega)]; exact h.inj h1 h2
    · rw [ne a' m' h1 h2 (by omega), pk_un (by omega)]; exact h.out h1 h2 h3
    · rw [pk_un (by omega), pk_un (by omega)]; exact h.outm h1 h2
    · rw [pk_un (by omega)]; exact h.srv h1 h2
  by_cases e : T (84 + a) = nI m
  · rw [if_pos e]
    have h2 := key _ (h.leave ha) (by rw [pk_us]; exact fun q => nI_ne_m1 (by omega) q.symm)
    have : upd (upd T (84 + a) (-1)) (6 + 6 * a + m) (-1) = upd (upd T (6 + 6 * a + m) (-1)) (84 + a) (-1) := by
      funext j; unfold upd
      by_cases q : j = 84 + a
      · have : ¬ j = 6 + 6 * a + m := by omega
        simp [q]
      · simp [q]
    rw [← this]; exact h2
  · rw [if_neg e]; exact key T h e
/-- what holds of the bids: told and counted -/
def B3 (T : TS) : Prop := T 3 = sumI (fun m => T (90 + m)) 6 0
theorem sumI_add {v w : Nat → Int32} : ∀ {n : Nat}, sumI (fun i => v i + w i) n 0 = sumI v n 0 + sumI w n 0
  | 0 => (Int32.add_zero _).symm
  | n + 1 => by
    show sumI (fun i => v i + w i) n 0 + (v n + w n) = (sumI v n 0 + v n) + (sumI w n 0 + w n)
    rw [sumI_add (n := n)]
    generalize sumI v n 0 = a
    generalize sumI w n 0 = b
    rw [Int32.add_assoc, Int32.add_assoc, ← Int32.add_assoc b, Int32.add_comm b, Int32.add_assoc]
theorem B3.bid {Y : Int} {n k : Nat} {T : TS} (hI : IT Y n k T) (h : B3 T) {a m : Nat} (ha : a < 6) (hm : m < 6) : B3 (bidT n k 1 T a m) := by
  have hn := hI.n6
  unfold B3
  have e3 : bidT n k 1 T a m 3 = T 3 + 1 := by unfold bidT; rw [pk_un (by omega), pk_us]
  have e : sumI (fun i => bidT n k 1 T a m (90 + i)) 6 0 = sumI (fun i => T (90 + i) + if i = m then 1 else 0) 6 0 := sumI_congr fun i hi => by
    rw [bidT_bids hn ha hm hi]
    by_cases e : i = m
    · rw [if_pos e, if_pos e, e]
    · rw [if_neg e, if_neg e]; exact (Int32.add_zero _).symm
  rw [e3, h, e, sumI_add, sumI_one (v := fun i => if i = m then 1 else 0) (j := m) hm (fun i hi hne => if_neg hne), if_pos rfl, Int32.zero_add]
theorem B3.re {T T' : TS} (h : B3 T) (e : ∀ j, j = 3 ∨ (90 ≤ j ∧ j < 96) → T' j = T j) : B3 T' := by
  unfold B3
  rw [e 3 (Or.inl rfl), h]
  exact sumI_congr fun i hi => (e _ (Or.inr ⟨by omega, by omega⟩)).symm
theorem B3.on {Y : Int} {n k : Nat} : ∀ (f : Nat) (T : TS) (c : Nat), IT Y n k T → B3 T → B3 (bOn n k 1 f T c).2
  | 0, T, c, _, h => h
  | f + 1, T, c, hI, h => by
    have hn := hI.n6
    have hk := hI.k6
    have key : bOn n k 1 (f + 1) T c = match frA n T with
      | none => (some c, T)
      | some a => match lk n k T a none with
        | none => (none, T)
        | some m => if pT T m + mvs n k T a ≤ 9999 then bOn n k 1 f (bidT n k 1 T a m) (c + 1) else (none, T) := rfl
    rw [key]
    cases hf : frA n T with
    | none => exact h
    | some a =>
      have ha := (frA_some hf).1
      simp only []
      cases hl : lk n k T a none with
      | none => exact h
      | some m =>
        have hm := lk_lt hl
        simp only []
        by_cases q : pT T m + mvs n k T a ≤ 9999
        · rw [if_pos q]; exact B3.on f _ _ (hI.bid ha hl q) (h.bid hI (by omega) (by omega))
        · rw [if_neg q]; exact h
/-- all that an order done keeps -/
def Kp (Y : Int) (T T' : TS) : Prop := (∃ n' k', IT Y n' k' T') ∧ (B3 T → B3 T') ∧ ∀ j, 96 ≤ j → T' j = T j
theorem does_kp {Y : Int} {n k : Nat} {T : TS} (hI : IT Y n k T) (hY : Y ≤ 100000) {o : OD} {v : Int32} {T' : TS} (h : doesO n k 1 T o = .inr (v, T')) : Kp (Y + 1) T T' := by
  have hn := hI.n6
  have hk := hI.k6
  have mono : ∀ {n' k' : Nat} {T' : TS}, IT Y n' k' T' → IT (Y + 1) n' k' T' := fun q => q.mono (by omega)
  have cm : ∀ w, w < 2 → comesO T w = .inr (v, T') → Kp (Y + 1) T T' := fun w hw e => by
    unfold comesO at e
    by_cases q : T w = 6
    · rw [if_pos q] at e; cases e
    · rw [if_neg q] at e
      cases e
      obtain ⟨n', k', h1⟩ := hI.comes hw q
      exact ⟨⟨n', k', mono h1⟩, fun hb => hb.re fun j hj => by rw [anew_lo (by omega), pk_un (by omega)], fun j hj => by rw [anew_lo (by omega), pk_un (by omega)]⟩
  have cx : ∀ {a m : Int32}, inR a n → inR m k → ∃ a' m', a' < n ∧ m' < k ∧ a = nI a' ∧ m = nI m' ∧ cix a m = 6 + 6 * a' + m' := fun ha hm => by
    obtain ⟨a', ha', rfl⟩ := inR_of (by omega) ha
    obtain ⟨m', hm', rfl⟩ := inR_of (by omega) hm
    exact ⟨a', m', ha', hm', rfl, rfl, by unfold cix; rw [ix (show a' < 6 by omega) (by decide), ix (show m' < 6 by omega) (by decide)]⟩
  unfold doesO at h
  split at h
  · exact cm 0 (by decide) h
  split at h
  · exact cm 1 (by decide) h
  split at h
  · unfold costsO at h
    split at h
    · cases h
    rename_i ha
    split at h
    · cases h
    rename_i hm
    split at h
    · cases h
    rename_i hc
    split at h
    · cases h
    obtain ⟨a', m', h1, h2, -, -, h5⟩ := cx (Classical.byContradiction ha) (Classical.byContradiction hm)
    rw [h5] at h
    cases h
    exact ⟨⟨n, k, mono (hI.costs h1 h2 (Classical.byContradiction hc))⟩, fun hb => hb.re fun j hj => pk_un (by omega), fun j hj => pk_un (by omega)⟩
  split at h
  · unfold barsO at h
    split at h
    · cases h
    rename_i ha
    split at h
    · cases h
    rename_i hm
    split at h
    · cases h
    obtain ⟨a', m', h1, h2, h3, h4, h5⟩ := cx (Classical.byContradiction ha) (Classical.byContradiction hm)
    rw [h5, h3, h4, ix (show a' < 6 by omega) (by decide)] at h
    have hb := hI.bar h1 h2
    cases h
    refine ⟨⟨n, k, mono hb⟩, fun hb => hb.re fun j hj => ?_, fun j hj => ?_⟩
    · split
      · rw [pk_un (by omega), pk_un (by omega)]
      · rw [pk_un (by omega)]
    · split
      · rw [pk_un (by omega), pk_un (by omega)]
      · rw [pk_un (by omega)]
  split at h
  · unfold bidO at h
    cases hf : frA n T with
    | none => rw [hf] at h; cases h
    | some a =>
      simp only [hf] at h
      have ha := (frA_some hf).1
      cases hl : lk n k T a none with
      | none => simp only [hl] at h; cases h
      | some m =>
        simp only [hl] at h
        have hm := lk_lt hl
        by_cases q : pT T m + mvs n k T a ≤ 9999
        · rw [if_pos q] at h
          cases h
          exact ⟨⟨n, k, mono (hI.bid ha hl q)⟩, fun hb => hb.bid hI (by omega) (by omega), fun j hj => bidT_hi hn (by omega) (by omega) hj⟩
        · rw [if_neg q] at h; cases h
  split at h
  · unfold settleO at h
    by_cases q : mxT n k T = n
    · rw [if_pos q] at h
      have hr := (mxT_le (n := n) (k := k) (T := T)).2.mp q
      obtain ⟨c, g1, g2, g3, g4⟩ := st_ok (f := FU) (d := 1) FU_big hI hr (T 5 + 1) (rcs_D hI)
      have hT : T' = (stT n k 1 T).2 := by
        have := Sum.inr.inj h
        exact (congrArg Prod.snd this).symm
      have hT2 : T' = (bOn n k 1 FU (upd (anew T) 5 (T 5 + 1)) 0).2 := hT
      have hI1 : IT Y n k (upd (anew T) 5 (T 5 + 1)) := hI.nw.re fun j _ _ _ _ h5 => pk_un h5
      refine ⟨⟨n, k, mono (by rw [hT2]; exact g2)⟩, fun hb => ?_, fun j hj => ?_⟩
      · rw [hT2]
        exact B3.on FU _ 0 hI1 (hb.re fun j hj => by rw [pk_un (by omega), anew_lo (by omega)])
      · rw [hT2, bOn_hi hn hk hj, pk_un (by omega), anew_lo (by omega)]
    · rw [if_neg q] at h; cases h
  split at h
  · unfold leavesO at h
    split at h
    · cases h
    rename_i ha
    split at h
    · cases h
    obtain ⟨a', ha', e⟩ := inR_of (by omega) (Classical.byContradiction ha)
    rw [e, ix (show a' < 6 by omega) (by decide)] at h
    cases h
    exact ⟨⟨n, k, mono (hI.leave ha')⟩, fun hb => hb.re fun j hj => pk_un (by omega), fun j hj => pk_un (by omega)⟩
  · cases h
    refine ⟨⟨n, k, hI.year hY⟩, fun hb => hb.re fun j hj => ?_, fun j hj => ?_⟩
    · unfold yearT; rw [pk_un (by omega), hP_out (by omega), yP_o (by omega) (by omega)]
    · unfold yearT; rw [pk_un (by omega), hP_out (by omega), yP_o (by omega) (by omega)]
