/-! PURE: a bid, and bids until none is free -/
def bidX (n k : Nat) (T : TS) (a m : Nat) : TS := match atA n T (nI m) with
  | none => upd T (78 + m) (T (78 + m) + mvI n k T a)
  | some o => upd (upd (upd T (78 + m) (T (78 + m) + mvI n k T a)) (84 + o) (-1)) 4 (T 4 + 1)
def bidT (n k : Nat) (d : Int32) (T : TS) (a m : Nat) : TS := upd (upd (upd (bidX n k T a m) (84 + a) (nI m)) 3 (T 3 + d)) (90 + m) (T (90 + m) + 1)
theorem atA_some {n : Nat} {T : TS} {x : Int32} {o : Nat} (h : atA n T x = some o) : o < n ∧ T (84 + o) = x := by
  obtain ⟨-, h2, h3, -⟩ := fstA_some h
  exact ⟨by omega, by simpa using h3⟩
theorem atA_none {n : Nat} {T : TS} {x : Int32} (h : atA n T x = none) {b : Nat} (hb : b < n) : T (84 + b) ≠ x := by
  have := fstA_none h b (Nat.zero_le _) (by omega)
  simpa using this
theorem frA_some {n : Nat} {T : TS} {o : Nat} (h : frA n T = some o) : o < n ∧ T (84 + o) = -1 := atA_some h
theorem frA_none {n : Nat} {T : TS} (h : frA n T = none) {b : Nat} (hb : b < n) : T (84 + b) ≠ -1 := atA_none h hb
section RD
variable {Y : Int} {n k : Nat} {T : TS} {d : Int32} {a m : Nat}
theorem bidT_lo (hn : n ≤ 6) {j : Nat} (h : j < 78) (h3 : j ≠ 3) (h4 : j ≠ 4) : bidT n k d T a m j = T j := by
  unfold bidT bidX
  rw [pk_un (by omega), pk_un h3, pk_un (by omega)]
  cases e : atA n T (nI m) with
  | none => exact pk_un (by omega)
  | some o =>
    have := (atA_some e).1
    show upd (upd (upd T _ _) _ _) 4 _ j = _
    rw [pk_un h4, pk_un (by omega), pk_un (by omega)]
theorem bidT_price (hn : n ≤ 6) (ha : a < 6) {m' : Nat} (hm' : m' < 6) : bidT n k d T a m (78 + m') = if m' = m then T (78 + m) + mvI n k T a else T (78 + m') := by
  unfold bidT bidX
  rw [pk_un (by omega), pk_un (by omega), pk_un (by omega)]
  cases e : atA n T (nI m) with
  | none =>
    show upd T _ _ _ = _
    by_cases h : m' = m
    · rw [if_pos h, h]; exact pk_us
    · rw [if_neg h]; exact pk_un (by omega)
  | some o =>
    have := (atA_some e).1
    show upd (upd (upd T _ _) _ _) 4 _ _ = _
    rw [pk_un (by omega), pk_un (by omega)]
    by_cases h : m' = m
    · rw [if_pos h, h]; exact pk_us
    · rw [if_neg h]; exact pk_un (by omega)
theorem bidT_bids (hn : n ≤ 6) (ha : a < 6) {m' : Nat} (hm : m < 6) (hm' : m' < 6) : bidT n k d T a m (90 + m') = if m' = m then T (90 + m) + 1 else T (90 + m') := by
  unfold bidT bidX
  by_cases h : m' = m
  · rw [if_pos h, h]; exact pk_us
  · rw [if_neg h, pk_un (by omega), pk_un (by omega), pk_un (by omega)]
    cases e : atA n T (nI m) with
    | none => exact pk_un (by omega)
    | some o =>
      have := (atA_some e).1
      show upd (upd (upd T _ _) _ _) 4 _ _ = _
      rw [pk_un (by omega), pk_un (by omega), pk_un (by omega)]
theorem bidT_pair (hI : IT Y n k T) (hm : m < 6) {b : Nat} (hb : b < 6) : bidT n k d T a m (84 + b) = if b = a then nI m else if T (84 + b) = nI m then -1 else T (84 + b) := by
  have hn := hI.n6
  unfold bidT bidX
  rw [pk_un (by omega), pk_un (by omega)]
  by_cases h : b = a
  · rw [if_pos h, h]; exact pk_us
  · rw [if_neg h, pk_un (by omega)]
    cases e : atA n T (nI m) with
    | none =>
      show upd T _ _ _ = _
      rw [pk_un (by omega), if_neg]
      intro q
      rcases hI.pair hb with z | ⟨z, -⟩
      · exact nI_ne_m1 (by omega) (q.symm.trans z)
      · exact atA_none e z q
    | some o =>
      obtain ⟨e1, e2⟩ := atA_some e
      show upd (upd (upd T _ _) _ _) 4 _ _ = _
      rw [pk_un (by omega)]
      by_cases ho : b = o
      · subst ho; rw [pk_us, if_pos e2]
      · rw [pk_un (by omega), pk_un (by omega), if_neg]
        intro q
        exact ho (hI.inj hb (by omega) (q.trans e2.symm) (by rw [q]; exact nI_ne_m1 (by omega)))
theorem bidT_cT (hn : n ≤ 6) {a' m' : Nat} (ha : a' < 6) (hm : m' < 6) : cT (bidT n k d T a m) a' m' = cT T a' m' := by
  unfold cT; rw [bidT_lo hn (by omega) (by omega) (by omega)]
theorem bid_price {hI : IT Y n k T} (ha : a < 6) (hm : m < 6) : (T (78 + m) + mvI n k T a).toInt = pT T m + mvs n k T a := by
  have h1 := mvs_bd hI ha
  have h2 := hI.price hm
  rw [i32_add] <;> rw [h1.2.2.1] <;> unfold pT at * <;> omega
theorem bidT_pT (hI : IT Y n k T) (ha : a < 6) (hm : m < 6) {m' : Nat} (hm' : m' < 6) : pT (bidT n k d T a m) m' = if m' = m then pT T m + mvs n k T a else pT T m' := by
  unfold pT
  rw [bidT_price hI.n6 ha hm']
  by_cases h : m' = m
  · rw [if_pos h, if_pos h]; exact bid_price (hI := hI) ha hm
  · rw [if_neg h, if_neg h]
theorem IT.bid (hI : IT Y n k T) (ha : a < n) (hl : lk n k T a none = some m) (hc : pT T m + mvs n k T a ≤ 9999) : IT Y n k (bidT n k d T a m) := by
  have hn := hI.n6
  have hk := hI.k6
  have hm := lk_lt hl
  have hmv := mvs_bd hI (a := a) (by omega)
  have hok : T (6 + 6 * a + m) ≠ -1 := by
    have := (best_some hl).2.1
    simp at this
    exact cT_ok.mp (okT_iff.mp this)
  refine ⟨hn, hk, ?_, ?_, fun a' m' h1 h2 => ?_, fun m' h1 => ?_, fun b h1 => ?_, fun b b' h1 h2 => ?_, fun a' m' h1 h2 h3 => ?_, fun m' h1 h2 => ?_, fun a' m' h1 h2 => ?_⟩
  · rw [bidT_lo hn (by omega) (by omega) (by omega)]; exact hI.t0
  · rw [bidT_lo hn (by omega) (by omega) (by omega)]; exact hI.t1
  · rw [bidT_cT hn h1 h2, bidT_lo hn (by omega) (by omega) (by omega)]; exact hI.cost h1 h2
  · rw [bidT_pT hI (by omega) (by omega) h1]
    have := hI.price h1
    have := hI.price (m := m) (by omega)
    split <;> omega
  · rw [bidT_pair hI (by omega) h1]
    by_cases e : b = a
    · rw [if_pos e]
      subst e
      exact Or.inr ⟨ha, m, hm, rfl, by rw [bidT_lo hn (by omega) (by omega) (by omega)]; exact hok⟩
    · rw [if_neg e]
      by_cases e2 : T (84 + b) = nI m
      · rw [if_pos e2]; exact Or.inl rfl
      · rw [if_neg e2]
        rcases hI.pair h1 with z | ⟨z1, m', z2, z3, z4⟩
        · exact Or.inl z
        · exact Or.inr ⟨z1, m', z2, z3, by rw [bidT_lo hn (by omega) (by omega) (by omega)]; exact z4⟩
  · rw [bidT_pair hI (by omega) h1, bidT_pair hI (by omega) h2]
    by_cases e : b = a
    · rw [if_pos e]
      by_cases e' : b' = a
      · intro _ _; omega
      · rw [if_neg e']
        by_cases e2 : T (84 + b') = nI m
        · rw [if_pos e2]; intro q; exact absurd q (nI_ne_m1 (by omega))
        · rw [if_neg e2]; intro q; exact absurd q.symm e2
    · rw [if_neg e]
      by_cases e1 : T (84 + b) = nI m
      · rw [if_pos e1]; intro _ q; exact absurd rfl q
      · rw [if_neg e1]
        by_cases e' : b' = a
        · rw [if_pos e']; intro q; exact absurd q e1
        · rw [if_neg e']
          by_cases e2 : T (84 + b') = nI m
          · rw [if_pos e2]; intro q q2; exact absurd q q2
          · rw [if_neg e2]; exact hI.inj h1 h2
  · rw [bidT_lo hn (by omega) (by omega) (by omega), bidT_lo hn (by omega) (by omega) (by omega)]; exact hI.out h1 h2 h3
  · rw [bidT_price hn (by omega) h1, bidT_bids hn (by omega) (by omega) h1, if_neg (by omega), if_neg (by omega)]; exact hI.outm h1 h2
  · rw [bidT_lo hn (by omega) (by omega) (by omega)]; exact hI.srv h1 h2
end RD
/-! the auction's numbers of a town -/
def pC (k : Nat) (T : TS) : Nat → Int := fun m => if m < k then pT T m else 0
def AucT (n k : Nat) (T : TS) : Prop := Auc n k (cT T) (pC k T) (qT T)
theorem pC_lt {k : Nat} {T : TS} {m : Nat} (h : m < k) : pC k T m = pT T m := if_pos h
theorem hv_pC {n k : Nat} {T : TS} {c : Nat → Nat → Int} {a m : Nat} (h : m < k) : hv n c (pC k T) a m = hv n c (pT T) a m := by unfold hv; rw [pC_lt h]
theorem Auc.congr {n k : Nat} {c c' : Nat → Nat → Int} {p p' : Nat → Int} {q q' : Nat → Option Nat} (h : Auc n k c p q) (hc : ∀ a m, a < n → m < k → c' a m = c a m) (hp : ∀ m, p' m = p m) (hq : ∀ a, a < n → q' a = q a) : Auc n k c' p' q' := by
  obtain ⟨⟨h1, h2⟩, h3, h4, h5⟩ := h
  have hp2 : p' = p := funext hp
  subst hp2
  refine ⟨⟨fun a m ha e => ?_, fun a b m ha hb e e' => ?_⟩, fun a m ha e m' hm' hc' => ?_, fun m hm hm0 => ?_, h5⟩
  · rw [hq a ha] at e
    have := h1 a m ha e
    rw [hc a m ha this.1]; exact this
  · rw [hq a ha] at e; rw [hq b hb] at e'; exact h2 a b m ha hb e e'
  · rw [hq a ha] at e
    have g := h1 a m ha e
    rw [hc a m' ha hm'] at hc'
    have := h3 a m ha e m' hm' hc'
    unfold hv at this ⊢
    rw [hc a m ha g.1, hc a m' ha hm']; exact this
  · obtain ⟨a, ha, e⟩ := h4 m hm hm0
    exact ⟨a, ha, by rw [hq a ha]; exact e⟩
theorem qT_none {T : TS} {a : Nat} : qT T a = none ↔ T (84 + a) = -1 := by
  unfold qT; split <;> simp_all
theorem qT_some {Y : Int} {n k : Nat} {T : TS} (hI : IT Y n k T) {a m : Nat} (ha : a < 6) : qT T a = some m ↔ (m < k ∧ T (84 + a) = nI m) := by
  have hk := hI.k6
  unfold qT
  rcases hI.pair ha with e | ⟨-, m', h1, h2, -⟩
  · rw [if_pos e]
    constructor
    · intro q; cases q
    · rintro ⟨q1, q2⟩; exact absurd (q2.symm.trans e) (nI_ne_m1 (by omega))
  · rw [h2, if_neg (nI_ne_m1 (by omega)), ix (show m' < 6 by omega) (by decide)]
    constructor
    · intro q; cases q; exact ⟨h1, rfl⟩
    · rintro ⟨q1, q2⟩
      rw [(nI_eq (by omega) (by omega)).mp q2]
theorem qT_bid {Y : Int} {n k : Nat} {T : TS} (hI : IT Y n k T) {a m : Nat} {d : Int32} (ha : a < 6) (hm : m < k) {b : Nat} (hb : b < 6) : qT (bidT n k d T a m) b = qbid (qT T) a m b := by
  have hk := hI.k6
  have e0 := bidT_pair (a := a) (d := d) hI (show m < 6 by omega) hb
  unfold qbid
  by_cases e : b = a
  · rw [if_pos e] at e0 ⊢
    unfold qT
    rw [e0, if_neg (nI_ne_m1 (by omega)), ix (show m < 6 by omega) (by decide)]
  · rw [if_neg e] at e0 ⊢
    by_cases e1 : T (84 + b) = nI m
    · rw [if_pos e1] at e0
      rw [if_pos ((qT_some hI hb).mpr ⟨hm, e1⟩)]
      exact qT_none.mpr e0
    · rw [if_neg e1] at e0
      rw [if_neg fun q => e1 ((qT_some hI hb).mp q).2]
      unfold qT; rw [e0]
theorem pC_bid {Y : Int} {n k : Nat} {T : TS} {d : Int32} (hI : IT Y n k T) {a m : Nat} (ha : a < 6) (hm : m < k) : pC k (bidT n k d T a m) = udI (pC k T) m (pC k T m + mvs n k T a) := by
  have hk := hI.k6
  funext m'
  show (if m' < k then pT (bidT n k d T a m) m' else 0) = if m' = m then (if m < k then pT T m else 0) + mvs n k T a else (if m' < k then pT T m' else 0)
  by_cases hmk : m' < k
  · rw [if_pos hmk, bidT_pT hI ha (by omega) (by omega), if_pos hm, if_pos hmk]
  · rw [if_neg hmk, if_neg hmk, if_neg (by omega)]
theorem AucT.bid {Y : Int} {n k : Nat} {T : TS} (hI : IT Y n k T) (h : AucT n k T) {a m : Nat} {d : Int32} (ha : a < n) (hf : T (84 + a) = -1) (hl : lk n k T a none = some m) : AucT n k (bidT n k d T a m) := by
  have hn := hI.n6
  have hk := hI.k6
  have hm := lk_lt hl
  have hmv := mvs_bd hI (a := a) (by omega)
  obtain ⟨hx, hb⟩ := hmv.2.2.2 m hl
  have hok : cT T a m ≠ -1 := by
    have := (best_some hl).2.1
    simp at this
    exact okT_iff.mp this
  refine (Auc.bid (x := mvs n k T a) h ha (qT_none.mpr hf) hm hok hx (fun m' hm' hne hc => ?_)).congr (fun a' m' ha' hm' => bidT_cT hn (by omega) (by omega)) (fun m' => ?_) (fun b hb => qT_bid hI (by omega) hm (by omega))
  · rw [hv_pC hm, hv_pC hm']; exact hb m' hm' hne hc
  · rw [pC_bid hI (by omega) hm]
