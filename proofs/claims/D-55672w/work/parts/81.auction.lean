/-! PURE: the auction. n apprentices, k masters, c a m the cost (-1: barred), p the prices, q whom an apprentice has -/
def hv (n : Nat) (c : Nat → Nat → Int) (p : Nat → Int) (a m : Nat) : Int := c a m * (n + 1 : Int) + p m
def QO (n k : Nat) (c : Nat → Nat → Int) (q : Nat → Option Nat) : Prop := (∀ a m, a < n → q a = some m → m < k ∧ c a m ≠ -1) ∧ (∀ a b m, a < n → b < n → q a = some m → q b = some m → a = b)
def Auc (n k : Nat) (c : Nat → Nat → Int) (p : Nat → Int) (q : Nat → Option Nat) : Prop :=
  QO n k c q ∧ (∀ a m, a < n → q a = some m → ∀ m', m' < k → c a m' ≠ -1 → hv n c p a m ≤ hv n c p a m' + 1) ∧ (∀ m, m < k → p m ≠ 0 → ∃ a, a < n ∧ q a = some m) ∧ ∀ m, 0 ≤ p m
/-- an apprentice bids for a master: the pairs behind it -/
def qbid (q : Nat → Option Nat) (a m : Nat) : Nat → Option Nat := fun b => if b = a then some m else if q b = some m then none else q b
theorem qbid_some {q : Nat → Option Nat} {a m b m' : Nat} (h : qbid q a m b = some m') : (b = a ∧ m' = m) ∨ (b ≠ a ∧ m' ≠ m ∧ q b = some m') := by
  unfold qbid at h
  by_cases h1 : b = a
  · rw [if_pos h1] at h; cases h; exact Or.inl ⟨h1, rfl⟩
  · rw [if_neg h1] at h
    by_cases h2 : q b = some m
    · rw [if_pos h2] at h; cases h
    · rw [if_neg h2] at h
      exact Or.inr ⟨h1, fun e => h2 (e ▸ h), h⟩
theorem QO.bid {n k : Nat} {c : Nat → Nat → Int} {q : Nat → Option Nat} (h : QO n k c q) {a m : Nat} (hm : m < k) (hc : c a m ≠ -1) : QO n k c (qbid q a m) := by
  refine ⟨fun b m' hb e => ?_, fun b b' m' hb hb' e e' => ?_⟩
  · rcases qbid_some e with ⟨rfl, rfl⟩ | ⟨-, -, e2⟩
    · exact ⟨hm, hc⟩
    · exact h.1 b m' hb e2
  · rcases qbid_some e with ⟨rfl, rfl⟩ | ⟨h1, h2, e2⟩
    · rcases qbid_some e' with ⟨rfl, -⟩ | ⟨-, h3, -⟩
      · rfl
      · exact absurd rfl h3
    · rcases qbid_some e' with ⟨-, rfl⟩ | ⟨-, -, e3⟩
      · exact absurd rfl h2
      · exact h.2 b b' m' hb hb' e2 e3
theorem Auc.bid {n k : Nat} {c : Nat → Nat → Int} {p : Nat → Int} {q : Nat → Option Nat} (h : Auc n k c p q) {a m : Nat} {x : Int} (ha : a < n) (hf : q a = none) (hm : m < k) (hc : c a m ≠ -1) (hx : 1 ≤ x) (hb : ∀ m', m' < k → m' ≠ m → c a m' ≠ -1 → hv n c p a m + x ≤ hv n c p a m' + 1) : Auc n k c (udI p m (p m + x)) (qbid q a m) := by
  obtain ⟨h1, h2, h3, h4⟩ := h
  have hge : ∀ b m', hv n c p b m' ≤ hv n c (udI p m (p m + x)) b m' := fun b m' => by
    unfold hv udI; split
    · rename_i e; subst e; omega
    · exact Int.le_refl _
  have hne : ∀ b m', m' ≠ m → hv n c (udI p m (p m + x)) b m' = hv n c p b m' := fun b m' e => by
    unfold hv; rw [udI_ne e]
  have hself : hv n c (udI p m (p m + x)) a m = hv n c p a m + x := by
    unfold hv; rw [udI_self]; omega
  refine ⟨h1.bid hm hc, fun b m1 hb1 e m' hm' hc' => ?_, fun m1 hm1 hp1 => ?_, fun m1 => ?_⟩
  · rcases qbid_some e with ⟨rfl, rfl⟩ | ⟨e1, e2, e3⟩
    · by_cases hmm : m' = m1
      · subst hmm; omega
      · rw [hself, hne _ _ hmm]; exact hb m' hm' hmm hc'
    · rw [hne _ _ e2]
      have := h2 b m1 hb1 e3 m' hm' hc'
      have := hge b m'
      omega
  · by_cases hmm : m1 = m
    · subst hmm; exact ⟨a, ha, if_pos rfl⟩
    · rw [udI_ne hmm] at hp1
      obtain ⟨b, hb1, e⟩ := h3 m1 hm1 hp1
      refine ⟨b, hb1, ?_⟩
      unfold qbid
      rw [if_neg (fun eb => by rw [eb, hf] at e; cases e), if_neg (fun eq => by rw [eq] at e; cases e; exact hmm rfl)]
      exact e
  · unfold udI; split
    · have := h4 m; omega
    · exact h4 m1
def PairedBy (n : Nat) (q : Nat → Option Nat) : Prop := ∀ a, a < n → ∃ m, q a = some m
def ocost (c : Nat → Nat → Int) (a : Nat) : Option Nat → Int
  | none => 0
  | some m => c a m
/-- what stands at the auction's end costs the least -/
theorem Auc.least {n k : Nat} {c : Nat → Nat → Int} {p : Nat → Int} {q σ : Nat → Option Nat} (h : Auc n k c p q) (hq : PairedBy n q) (hs : QO n k c σ) (hsp : PairedBy n σ) : su (fun a => ocost c a (q a)) n ≤ su (fun a => ocost c a (σ a)) n := by
  obtain ⟨h1, h2, h3, h4⟩ := h
  have e1 : su (fun a => ocost c a (q a) * (n + 1 : Int) + ov p (q a)) n ≤ su (fun a => (ocost c a (σ a) * (n + 1 : Int) + ov p (σ a)) + 1) n := su_le fun a ha => by
    obtain ⟨m, hm⟩ := hq a ha
    obtain ⟨m', hm'⟩ := hsp a ha
    rw [hm, hm']
    have hb := hs.1 a m' ha hm'
    exact h2 a m ha hm m' hb.1 hb.2
  rw [su_add, su_add, su_add, su_mul, su_mul, su_one] at e1
  have e2 : su (fun a => ov p (σ a)) n ≤ su p k := inj_le n p h4 (fun a m ha e => (hs.1 a m ha e).1) hs.2
  have e3 : su p k ≤ su (fun a => ov p (q a)) n := onto_ge n p h4 h3
  generalize su (fun a => ocost c a (q a)) n = A at *
  generalize su (fun a => ocost c a (σ a)) n = B at *
  have e4 : A * ((n : Int) + 1) ≤ B * ((n : Int) + 1) + n := by omega
  refine Int.not_lt.mp fun hlt => ?_
  have e5 : (B + 1) * ((n : Int) + 1) ≤ A * ((n : Int) + 1) := Int.mul_le_mul_of_nonneg_right (by omega) (by omega)
  rw [Int.add_mul, Int.one_mul] at e5
  omega
/-- who has a master -/
theorem holder {n : Nat} (q : Nat → Option Nat) (m : Nat) : (∃ a, a < n ∧ q a = some m) ∨ ∀ a, a < n → q a ≠ some m := by
  by_cases h : ∃ a, a < n ∧ q a = some m
  · exact Or.inl h
  · exact Or.inr fun a ha e => h ⟨a, ha, e⟩
/-- a free apprentice has a master whose burden is at most 2525 -/
theorem Auc.near {n k : Nat} {c : Nat → Nat → Int} {p : Nat → Int} {q σ : Nat → Option Nat} (h : Auc n k c p q) (hn : n ≤ 6) (hc0 : ∀ a m, a < n → m < k → c a m ≠ -1 → 0 ≤ c a m ∧ c a m ≤ 60) (hs : QO n k c σ) (hsp : PairedBy n σ) {a : Nat} (ha : a < n) (hf : q a = none) : ∃ m, m < k ∧ c a m ≠ -1 ∧ hv n c p a m ≤ 2525 := by
  obtain ⟨h1, h2, h3, h4⟩ := h
  refine Classical.byContradiction fun hno => ?_
  have hcN : ∀ b m, b < n → m < k → c b m ≠ -1 → 0 ≤ c b m * (n + 1 : Int) ∧ c b m * (n + 1 : Int) ≤ 420 := fun b m hb hm hc => by
    obtain ⟨x1, x2⟩ := hc0 b m hb hm hc
    have y1 : (0 : Int) ≤ n + 1 := by omega
    have y2 : (n : Int) + 1 ≤ 7 := by omega
    refine ⟨Int.mul_nonneg x1 y1, ?_⟩
    have z1 := Int.mul_le_mul_of_nonneg_right x2 y1
    have z2 : (60 : Int) * (n + 1) ≤ 420 := by omega
    exact Int.le_trans z1 z2
  -- the walk: f i for i = 0 .. 6
  have step : ∀ b, b < n → ∀ m, σ b = some m → 0 < p m → ∃ b', b' < n ∧ q b' = some m ∧ ∀ m', σ b' = some m' → p m ≤ 421 + p m' := fun b hb m hm hp => by
    have hm1 := hs.1 b m hb hm
    obtain ⟨b', hb', e⟩ := h3 m hm1.1 (by omega)
    refine ⟨b', hb', e, fun m' hm' => ?_⟩
    have hm2 := hs.1 b' m' hb' hm'
    have g1 := h2 b' m hb' e m' hm2.1 hm2.2
    have g2 := hcN b' m hb' hm1.1 ((h1.1 b' m hb' e).2)
    have g3 := hcN b' m' hb' hm2.1 hm2.2
    unfold hv at g1
    omega
  have chain : ∀ i, i ≤ 6 → ∃ f : Nat → Nat, f 0 = a ∧ (∀ j, j ≤ i → f j < n) ∧ (∀ j, j < i → ∃ m, σ (f j) = some m ∧ q (f (j + 1)) = some m) ∧ ∀ m, σ (f i) = some m → 2105 - 421 * (i : Int) < p m := by
    intro i
    induction i with
    | zero =>
      intro _
      refine ⟨fun _ => a, rfl, fun _ _ => ha, fun j hj => absurd hj (Nat.not_lt_zero _), fun m hm => ?_⟩
      have hm1 := hs.1 a m ha hm
      refine Int.not_le.mp fun hle => hno ⟨m, hm1.1, hm1.2, ?_⟩
      have := (hcN a m ha hm1.1 hm1.2).2
      unfold hv; omega
    | succ i ih =>
      intro hi
      obtain ⟨f, f0, f1, f2, f3⟩ := ih (by omega)
      obtain ⟨m, hm⟩ := hsp (f i) (f1 i (Nat.le_refl _))
      have hp := f3 m hm
      obtain ⟨b, hb, e, hbp⟩ := step (f i) (f1 i (Nat.le_refl _)) m hm (by omega)
      refine ⟨fun j => if j ≤ i then f j else b, by simp [f0], fun j hj => ?_, fun j hj => ?_, fun m' hm' => ?_⟩
      · show (if j ≤ i then f j else b) < n
        split
        · exact f1 j (by assumption)
        · exact hb
      · by_cases hji : j = i
        · subst hji
          refine ⟨m, ?_, ?_⟩
          · show σ (if j ≤ j then f j else b) = some m
            rw [if_pos (Nat.le_refl _)]; exact hm
          · show q (if j + 1 ≤ j then f (j + 1) else b) = some m
            rw [if_neg (by omega)]; exact e
        · obtain ⟨m1, g1, g2⟩ := f2 j (by omega)
          refine ⟨m1, ?_, ?_⟩
          · show σ (if j ≤ i then f j else b) = some m1
            rw [if_pos (by omega)]; exact g1
          · show q (if j + 1 ≤ i then f (j + 1) else b) = some m1
            rw [if_pos (by omega)]; exact g2
      · have hm2 : σ b = some m' := by
          have e1 : (if i + 1 ≤ i then f (i + 1) else b) = b := if_neg (by omega)
          rw [← e1]; exact hm'
        have := hbp m' hm2
        omega
  obtain ⟨f, f0, f1, f2, -⟩ := chain 6 (Nat.le_refl _)
  obtain ⟨i, j, hij, hj, e⟩ := pigeon 6 f (fun i hi => by have := f1 i hi; omega)
  have down : ∀ i j, i < j → j ≤ 6 → f i = f j → False := by
    intro i
    induction i with
    | zero =>
      intro j hj hj6 e
      obtain ⟨m, -, g2⟩ := f2 (j - 1) (by omega)
      rw [show j - 1 + 1 = j by omega, ← e, f0, hf] at g2
      cases g2
    | succ i ih =>
      intro j hj hj6 e
      obtain ⟨m, g1, g2⟩ := f2 i (by omega)
      obtain ⟨m', g3, g4⟩ := f2 (j - 1) (by omega)
      rw [show j - 1 + 1 = j by omega, ← e, g2] at g4
      cases g4
      exact ih (j - 1) (by omega) (by omega) (hs.2 (f i) (f (j - 1)) m (f1 i (by omega)) (f1 (j - 1) (by omega)) g1 g3)
  exact down i j hij hj e
/-- how many masters stand above 2525 -/
def froz (p : Nat → Int) (k : Nat) : Int := su (fun m => if 2525 < p m then 1 else 0) k
def Bdp (p : Nat → Int) (k : Nat) : Prop := ∀ m, m < k → p m ≤ 2625 + 421 * froz p k
theorem froz_le {p : Nat → Int} {k : Nat} : 0 ≤ froz p k ∧ froz p k ≤ k := by
  refine ⟨su_nonneg fun i _ => by split <;> omega, ?_⟩
  have h : froz p k ≤ su (fun _ => 1) k := su_le fun i _ => by split <;> omega
  rw [su_one] at h; exact h
theorem Bdp.bid {p : Nat → Int} {k m : Nat} {x : Int} (h : Bdp p k) (hm : m < k) (h0 : ∀ m, 0 ≤ p m) (hlow : p m ≤ 2525) (hx : 0 ≤ x) (hb : p m + x ≤ 2625 ∨ ∃ m', m' < k ∧ p m + x ≤ p m' + 421) : Bdp (udI p m (p m + x)) k := by
  have e : (fun j => if 2525 < udI p m (p m + x) j then (1 : Int) else 0) = udI (fun j => if 2525 < p j then (1 : Int) else 0) m (if 2525 < p m + x then 1 else 0) := by
    funext j
    by_cases hj : j = m
    · subst hj; rw [udI_self, udI_self]
    · rw [udI_ne hj, udI_ne hj]
  have e2 : froz (udI p m (p m + x)) k = froz p k + if 2525 < p m + x then 1 else 0 := by
    unfold froz
    rw [e, su_ud hm, if_neg (by omega : ¬ 2525 < p m)]; omega
  have e3 := froz_le (p := p) (k := k)
  intro m1 hm1
  rw [e2]
  by_cases h1 : m1 = m
  · subst h1; rw [udI_self]
    rcases hb with hb | ⟨m', hm', hb⟩
    · split <;> omega
    · have := h m' hm'
      split <;> omega
  · rw [udI_ne h1]
    have := h m1 hm1
    split <;> omega
theorem Bdp.all {p : Nat → Int} {k : Nat} (h : Bdp p k) (hk : k ≤ 6) : ∀ m, m < k → p m ≤ 5151 := fun m hm => by
  have := h m hm
  have := (froz_le (p := p) (k := k)).2
  omega
