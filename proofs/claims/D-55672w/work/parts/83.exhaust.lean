/-! PURE: all pairings looked at one by one; the greatest number of pairs by trying -/
theorem su_shift {f : Nat → Int} : ∀ n : Nat, su f (n + 1) = f 0 + su (fun i => f (i + 1)) n
  | 0 => by show 0 + f 0 = f 0 + 0; omega
  | n + 1 => by rw [su_succ, su_shift n, su_succ]; omega
theorem su_rev {f : Nat → Int} : ∀ n : Nat, su (fun j => f (n - 1 - j)) n = su f n
  | 0 => rfl
  | n + 1 => by
    rw [su_shift, su_succ]
    have h1 : su (fun i => f (n + 1 - 1 - (i + 1))) n = su (fun j => f (n - 1 - j)) n := su_congr fun i hi => by rw [show n + 1 - 1 - (i + 1) = n - 1 - i by omega]
    rw [h1, su_rev n, show n + 1 - 1 - 0 = n by omega]; omega
/-- the greatest of some values, each if it counts -/
def fmax (c : Nat → Bool) (v : Nat → Int) (b : Int) : Nat → Int
  | 0 => b
  | j + 1 => if c j = true ∧ fmax c v b j < v j then v j else fmax c v b j
theorem fmax_ge {c : Nat → Bool} {v : Nat → Int} {b : Int} : ∀ j, b ≤ fmax c v b j
  | 0 => Int.le_refl _
  | j + 1 => by
    have := fmax_ge (c := c) (v := v) (b := b) j
    show b ≤ if _ then _ else _
    split <;> omega
theorem fmax_at {c : Nat → Bool} {v : Nat → Int} {b : Int} : ∀ j i, i < j → c i = true → v i ≤ fmax c v b j
  | 0, i, h, _ => absurd h (Nat.not_lt_zero _)
  | j + 1, i, h, hc => by
    show v i ≤ if _ then _ else _
    by_cases hij : i = j
    · subst hij
      split
      · exact Int.le_refl _
      · rename_i hx
        exact Int.not_lt.mp fun q => hx ⟨hc, q⟩
    · have := fmax_at (v := v) (b := b) j i (by omega) hc
      split <;> omega
theorem fmax_is {c : Nat → Bool} {v : Nat → Int} {b : Int} : ∀ j, fmax c v b j = b ∨ ∃ i, i < j ∧ c i = true ∧ fmax c v b j = v i
  | 0 => Or.inl rfl
  | j + 1 => by
    by_cases hx : c j = true ∧ fmax c v b j < v j
    · have e : fmax c v b (j + 1) = v j := if_pos hx
      rw [e]; exact Or.inr ⟨j, by omega, hx.1, rfl⟩
    · have e : fmax c v b (j + 1) = fmax c v b j := if_neg hx
      rw [e]
      rcases fmax_is (c := c) (v := v) (b := b) j with h | ⟨i, h1, h2, h3⟩
      · exact Or.inl h
      · exact Or.inr ⟨i, by omega, h2, h3⟩
def sadd (st : Nat → Bool) (m : Nat) : Nat → Bool := fun j => j == m || st j
theorem sadd_self {st : Nat → Bool} {m : Nat} : sadd st m m = true := by simp [sadd]
theorem sadd_ne {st : Nat → Bool} {m j : Nat} (h : j ≠ m) : sadd st m j = st j := by simp [sadd, h]
/-- how many pairs there can be, from the apprentice n - r on, with masters taken -/
def mf (k : Nat) (ok : Nat → Nat → Bool) (n : Nat) : Nat → (Nat → Bool) → Int
  | 0, _ => 0
  | r + 1, st => fmax (fun m => ok (n - (r + 1)) m && !st m) (fun m => 1 + mf k ok n r (sadd st m)) (mf k ok n r st) k
def MFr (k : Nat) (ok : Nat → Nat → Bool) (n r : Nat) (st : Nat → Bool) (μ : Nat → Option Nat) : Prop :=
  (∀ a m, n - r ≤ a → a < n → μ a = some m → m < k ∧ ok a m = true ∧ st m = false) ∧ ∀ a b m, n - r ≤ a → a < n → n - r ≤ b → b < n → μ a = some m → μ b = some m → a = b
theorem mf_up {k : Nat} {ok : Nat → Nat → Bool} {n : Nat} : ∀ (r : Nat) (st : Nat → Bool) (μ : Nat → Option Nat), r ≤ n → MFr k ok n r st μ → su (fun j => o1 (μ (n - 1 - j))) r ≤ mf k ok n r st
  | 0, _, _, _, _ => Int.le_refl _
  | r + 1, st, μ, hr, h => by
    obtain ⟨h1, h2⟩ := h
    rw [su_succ]
    show _ ≤ fmax _ _ _ k
    have hn : n - 1 - r = n - (r + 1) := by omega
    rw [hn]
    cases hm : μ (n - (r + 1)) with
    | none =>
      have h3 := mf_up r st μ (by omega) ⟨fun a m g1 g2 => h1 a m (by omega) g2, fun a b m g1 g2 g3 g4 => h2 a b m (by omega) g2 (by omega) g4⟩
      have h4 := fmax_ge (c := fun m => ok (n - (r + 1)) m && !st m) (v := fun m => 1 + mf k ok n r (sadd st m)) (b := mf k ok n r st) k
      rw [o1_none]; omega
    | some m =>
      obtain ⟨g1, g2, g3⟩ := h1 _ m (Nat.le_refl _) (by omega) hm
      have h3 := mf_up r (sadd st m) μ (by omega) ⟨fun a m' e1 e2 e3 => by
        obtain ⟨x1, x2, x3⟩ := h1 a m' (by omega) e2 e3
        refine ⟨x1, x2, ?_⟩
        rw [sadd_ne fun e => ?_]; · exact x3
        subst e
        have := h2 a (n - (r + 1)) m' (by omega) e2 (Nat.le_refl _) (by omega) e3 hm
        omega, fun a b m g1 g2 g3 g4 => h2 a b m (by omega) g2 (by omega) g4⟩
      have h4 := fmax_at (c := fun m => ok (n - (r + 1)) m && !st m) (v := fun m => 1 + mf k ok n r (sadd st m)) (b := mf k ok n r st) k m g1 (by simp [g2, g3])
      rw [o1_some]
      have h5 : 1 + mf k ok n r (sadd st m) ≤ fmax (fun m => ok (n - (r + 1)) m && !st m) (fun m => 1 + mf k ok n r (sadd st m)) (mf k ok n r st) k := h4
      omega
theorem mf_at {k : Nat} {ok : Nat → Nat → Bool} {n : Nat} : ∀ (r : Nat) (st : Nat → Bool), r ≤ n → ∃ μ : Nat → Option Nat, MFr k ok n r st μ ∧ su (fun j => o1 (μ (n - 1 - j))) r = mf k ok n r st
  | 0, _, _ => ⟨fun _ => none, ⟨fun a m h1 h2 => by omega, fun a b m h1 h2 => by omega⟩, rfl⟩
  | r + 1, st, hr => by
    have hn : n - 1 - r = n - (r + 1) := by omega
    rcases fmax_is (c := fun m => ok (n - (r + 1)) m && !st m) (v := fun m => 1 + mf k ok n r (sadd st m)) (b := mf k ok n r st) k with e | ⟨m, hm, hc, e⟩
    · obtain ⟨μ, ⟨h1, h2⟩, h3⟩ := mf_at (k := k) (ok := ok) (n := n) r st (by omega)
      refine ⟨fun a => if a = n - (r + 1) then none else μ a, ⟨fun a m g1 g2 g3 => ?_, fun a b m g1 g2 g3 g4 g5 g6 => ?_⟩, ?_⟩
      · dsimp only at g3
        by_cases q : a = n - (r + 1)
        · rw [if_pos q] at g3; cases g3
        · rw [if_neg q] at g3; exact h1 a m (by omega) g2 g3
      · dsimp only at g5 g6
        by_cases q : a = n - (r + 1)
        · rw [if_pos q] at g5; cases g5
        · rw [if_neg q] at g5
          by_cases q2 : b = n - (r + 1)
          · rw [if_pos q2] at g6; cases g6
          · rw [if_neg q2] at g6; exact h2 a b m (by omega) g2 (by omega) g4 g5 g6
      · rw [su_succ]
        show _ + o1 (if n - 1 - r = n - (r + 1) then none else μ (n - 1 - r)) = fmax _ _ _ k
        rw [if_pos hn, e, ← h3, o1_none, Int.add_zero]
        exact su_congr fun j hj => by
          show o1 (if n - 1 - j = n - (r + 1) then none else μ (n - 1 - j)) = _
          rw [if_neg (by omega : ¬ n - 1 - j = n - (r + 1))]
    · obtain ⟨μ, ⟨h1, h2⟩, h3⟩ := mf_at (k := k) (ok := ok) (n := n) r (sadd st m) (by omega)
      have hc2 : ok (n - (r + 1)) m = true ∧ st m = false := by simpa using hc
      have h1' : ∀ a m', n - r ≤ a → a < n → μ a = some m' → m' ≠ m := fun a m' x1 x2 x3 q => by
        have := (h1 a m' x1 x2 x3).2.2
        rw [q, sadd_self] at this; cases this
      refine ⟨fun a => if a = n - (r + 1) then some m else μ a, ⟨fun a m' g1 g2 g3 => ?_, fun a b m' g1 g2 g3 g4 g5 g6 => ?_⟩, ?_⟩
      · dsimp only at g3
        by_cases q : a = n - (r + 1)
        · rw [if_pos q] at g3; cases g3; subst q; exact ⟨hm, hc2.1, hc2.2⟩
        · rw [if_neg q] at g3
          obtain ⟨x1, x2, x3⟩ := h1 a m' (by omega) g2 g3
          rw [sadd_ne (h1' a m' (by omega) g2 g3)] at x3
          exact ⟨x1, x2, x3⟩
      · dsimp only at g5 g6
        by_cases q : a = n - (r + 1)
        · rw [if_pos q] at g5; cases g5
          by_cases q2 : b = n - (r + 1)
          · omega
          · rw [if_neg q2] at g6; exact absurd rfl (h1' b m (by omega) g4 g6)
        · rw [if_neg q] at g5
          by_cases q2 : b = n - (r + 1)
          · rw [if_pos q2] at g6; cases g6; exact absurd rfl (h1' a m (by omega) g2 g5)
          · rw [if_neg q2] at g6; exact h2 a b m' (by omega) g2 (by omega) g4 g5 g6
      · rw [su_succ]
        show _ + o1 (if n - 1 - r = n - (r + 1) then some m else μ (n - 1 - r)) = fmax _ _ _ k
        rw [if_pos hn, e, ← h3, o1_some]
        rw [show su (fun j => o1 (if n - 1 - j = n - (r + 1) then some m else μ (n - 1 - j))) r = su (fun j => o1 (μ (n - 1 - j))) r from su_congr fun j hj => by rw [if_neg (by omega : ¬ n - 1 - j = n - (r + 1))]]
        omega
theorem mf_max {k : Nat} {ok : Nat → Nat → Bool} {n : Nat} : MaxM n k (fun a m => ok a m = true) (mf k ok n n fun _ => false) := by
  refine ⟨?_, fun μ h => ?_⟩
  · obtain ⟨μ, ⟨h1, h2⟩, h3⟩ := mf_at (k := k) (ok := ok) n (fun _ => false) (Nat.le_refl _)
    refine ⟨μ, ⟨fun a m ha e => ?_, fun a b m ha hb e e' => h2 a b m (by omega) ha (by omega) hb e e'⟩, ?_⟩
    · have := h1 a m (by omega) ha e; exact ⟨this.1, this.2.1⟩
    · rw [← h3]; exact (su_rev (f := fun a => o1 (μ a)) n).symm
  · have := mf_up (k := k) (ok := ok) n (fun _ => false) μ (Nat.le_refl _) ⟨fun a m _ ha e => ⟨(h.1 a m ha e).1, (h.1 a m ha e).2, rfl⟩, fun a b m _ ha _ hb e e' => h.2 a b m ha hb e e'⟩
    rw [su_rev (f := fun a => o1 (μ a)) n] at this
    exact this
/-! all whole pairings, in the order in which they are tried -/
def udN (f : Nat → Nat) (k x : Nat) : Nat → Nat := fun j => if j = k then x else f j
theorem udN_self {f : Nat → Nat} {k x : Nat} : udN f k x k = x := if_pos rfl
theorem udN_ne {f : Nat → Nat} {k x j : Nat} (h : j ≠ k) : udN f k x j = f j := if_neg h
def tkn (w : Nat → Nat) (a m : Nat) : Bool := (List.range a).any fun j => w j == m
theorem tkn_iff {w : Nat → Nat} {a m : Nat} : tkn w a m = true ↔ ∃ j, j < a ∧ w j = m := by simp [tkn]
def enL (f : Nat → List (Nat → Nat)) : Nat → List (Nat → Nat)
  | 0 => []
  | m + 1 => enL f m ++ f m
theorem enL_mem {f : Nat → List (Nat → Nat)} {w : Nat → Nat} : ∀ {k : Nat}, w ∈ enL f k ↔ ∃ m, m < k ∧ w ∈ f m
  | 0 => ⟨fun h => (by cases h), fun ⟨m, h, _⟩ => absurd h (Nat.not_lt_zero _)⟩
  | k + 1 => by
    show w ∈ enL f k ++ f k ↔ _
    rw [List.mem_append, enL_mem]
    constructor
    · rintro (⟨m, h1, h2⟩ | h)
      · exact ⟨m, by omega, h2⟩
      · exact ⟨k, by omega, h⟩
    · rintro ⟨m, h1, h2⟩
      by_cases e : m = k
      · subst e; exact Or.inr h2
      · exact Or.inl ⟨m, by omega, h2⟩
def en (k : Nat) (ok : Nat → Nat → Bool) (n : Nat) : Nat → (Nat → Nat) → List (Nat → Nat)
  | 0, w => [w]
  | r + 1, w => enL (fun m => if (ok (n - (r + 1)) m && !tkn w (n - (r + 1)) m) = true then en k ok n r (udN w (n - (r + 1)) m) else []) k
theorem en_mem {k : Nat} {ok : Nat → Nat → Bool} {n : Nat} : ∀ (r : Nat) (w0 w : Nat → Nat), r ≤ n → w ∈ en k ok n r w0 → (∀ a, (a < n - r ∨ n ≤ a) → w a = w0 a) ∧ (∀ a, n - r ≤ a → a < n → w a < k ∧ ok a (w a) = true) ∧ ∀ a b, n - r ≤ a → a < n → b < a → w b ≠ w a
  | 0, w0, w, _, h => by
    have e : w = w0 := by simpa [en] using h
    subst e
    exact ⟨fun a _ => rfl, fun a h1 h2 => by omega, fun a b h1 h2 => by omega⟩
  | r + 1, w0, w, hr, h => by
    obtain ⟨m, hm, hw⟩ := enL_mem.mp h
    by_cases hc : (ok (n - (r + 1)) m && !tkn w0 (n - (r + 1)) m) = true
    · rw [if_pos hc] at hw
      obtain ⟨h1, h2, h3⟩ := en_mem r _ w (by omega) hw
      have hc2 : ok (n - (r + 1)) m = true ∧ tkn w0 (n - (r + 1)) m = false := by simpa using hc
      have hwa : w (n - (r + 1)) = m := by rw [h1 _ (Or.inl (by omega)), udN_self]
      refine ⟨fun a ha => ?_, fun a g1 g2 => ?_, fun a b g1 g2 g3 => ?_⟩
      · rw [h1 a (by omega), udN_ne (by omega)]
      · by_cases e : a = n - (r + 1)
        · subst e; rw [hwa]; exact ⟨hm, hc2.1⟩
        · exact h2 a (by omega) g2
      · by_cases e : a = n - (r + 1)
        · subst e
          rw [hwa, h1 b (Or.inl (by omega)), udN_ne (by omega)]
          intro q
          have : tkn w0 (n - (r + 1)) m = true := tkn_iff.mpr ⟨b, g3, q⟩
          rw [hc2.2] at this; cases this
        · exact h3 a b (by omega) g2 g3
    · rw [if_neg hc] at hw; cases hw
theorem en_all {k : Nat} {ok : Nat → Nat → Bool} {n : Nat} (s : Nat → Nat) (hs : ∀ a, a < n → s a < k ∧ ok a (s a) = true) (hi : ∀ a b, a < n → b < a → s b ≠ s a) : ∀ (r : Nat) (w0 : Nat → Nat), r ≤ n → (∀ a, a < n - r → w0 a = s a) → ∃ w, w ∈ en k ok n r w0 ∧ ∀ a, a < n → w a = s a
  | 0, w0, _, h => ⟨w0, by simp [en], fun a ha => h a (by omega)⟩
  | r + 1, w0, hr, h => by
    have hsa := hs (n - (r + 1)) (by omega)
    obtain ⟨w, h1, h2⟩ := en_all s hs hi r (udN w0 (n - (r + 1)) (s (n - (r + 1)))) (by omega) (fun a ha => by
      by_cases e : a = n - (r + 1)
      · subst e; rw [udN_self]
      · rw [udN_ne e]; exact h a (by omega))
    refine ⟨w, enL_mem.mpr ⟨s (n - (r + 1)), hsa.1, ?_⟩, h2⟩
    rw [if_pos]
    · exact h1
    · have : tkn w0 (n - (r + 1)) (s (n - (r + 1))) = false := by
        cases e : tkn w0 (n - (r + 1)) (s (n - (r + 1))) with
        | false => rfl
        | true =>
          obtain ⟨j, g1, g2⟩ := tkn_iff.mp e
          rw [h j g1] at g2
          exact absurd g2 (hi _ j (by omega) g1)
      simp [hsa.2, this]
theorem enL_congr {f g : Nat → List (Nat → Nat)} : ∀ {k : Nat}, (∀ m, m < k → f m = g m) → enL f k = enL g k
  | 0, _ => rfl
  | k + 1, h => by
    show enL f k ++ f k = enL g k ++ g k
    rw [enL_congr (fun m hm => h m (by omega)), h k (by omega)]
theorem enL_filter {f : Nat → List (Nat → Nat)} {p : (Nat → Nat) → Bool} : ∀ {k : Nat}, (enL f k).filter p = enL (fun m => (f m).filter p) k
  | 0 => rfl
  | k + 1 => by
    show (enL f k ++ f k).filter p = enL (fun m => (f m).filter p) k ++ (f k).filter p
    rw [List.filter_append, enL_filter]
/-- only those that have a pair -/
def okw (ok : Nat → Nat → Bool) (one other : Nat) : Nat → Nat → Bool := fun a m => ok a m && (a != one || m == other)
theorem en_with {k : Nat} {ok : Nat → Nat → Bool} {n one other : Nat} (h1 : one < n) : ∀ (r : Nat) (w : Nat → Nat), r ≤ n → (one < n - r → w one = other) → en k (okw ok one other) n r w = (en k ok n r w).filter fun v => v one == other
  | 0, w, _, h => by
    show [w] = List.filter _ [w]
    simp [h (by omega)]
  | r + 1, w, hr, h => by
    show enL _ k = List.filter _ (enL _ k)
    rw [enL_filter]
    refine enL_congr fun m hm => ?_
    by_cases hc : (ok (n - (r + 1)) m && !tkn w (n - (r + 1)) m) = true
    · rw [if_pos hc]
      have hc2 : ok (n - (r + 1)) m = true ∧ tkn w (n - (r + 1)) m = false := by simpa using hc
      by_cases ho : n - (r + 1) = one
      · by_cases hmo : m = other
        · subst hmo
          rw [if_pos (by simp [okw, hc2.1, hc2.2]), en_with h1 r _ (by omega) (fun _ => by rw [ho, udN_self])]
        · rw [if_neg (by simp [okw, ho, hmo])]
          refine (List.filter_eq_nil_iff.mpr fun v hv => ?_).symm
          have := (en_mem r _ v (by omega) hv).1 one (Or.inl (by omega))
          rw [this, ho, udN_self]
          simpa using hmo
      · rw [if_pos (by simp [okw, hc2.1, hc2.2, ho]), en_with h1 r _ (by omega) (fun hlt => by rw [udN_ne (by omega)]; exact h (by omega))]
    · rw [if_neg hc, if_neg fun q => hc (by
        have : (ok (n - (r + 1)) m = true ∧ (n - (r + 1) ≠ one ∨ m = other)) ∧ tkn w (n - (r + 1)) m = false := by simpa [okw] using q
        simp [this.1.1, this.2])]
      rfl
