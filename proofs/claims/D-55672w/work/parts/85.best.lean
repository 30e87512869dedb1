/-! PURE: the master whom an apprentice likes best; what a town holds, read as numbers -/
def enc : Option Nat → Int32
  | none => -1
  | some m => nI m
def best (ok : Nat → Bool) (w : Nat → Int) : Nat → Option Nat
  | 0 => none
  | j + 1 => match best ok w j with
    | none => if ok j = true then some j else none
    | some b => if ok j = true ∧ w j < w b then some j else some b
theorem best_spec {ok : Nat → Bool} {w : Nat → Int} : ∀ k, (best ok w k = none ∧ ∀ m, m < k → ok m = false) ∨ ∃ b, best ok w k = some b ∧ b < k ∧ ok b = true ∧ ∀ m, m < k → ok m = true → w b ≤ w m
  | 0 => Or.inl ⟨rfl, fun m h => absurd h (Nat.not_lt_zero _)⟩
  | j + 1 => by
    have key : best ok w (j + 1) = match best ok w j with
      | none => if ok j = true then some j else none
      | some b => if ok j = true ∧ w j < w b then some j else some b := rfl
    rcases best_spec (ok := ok) (w := w) j with ⟨h1, h2⟩ | ⟨b, h1, h2, h3, h4⟩
    · rw [h1] at key
      by_cases ho : ok j = true
      · refine Or.inr ⟨j, key.trans (if_pos ho), Nat.lt_succ_self j, ho, fun m hm hk => ?_⟩
        by_cases e : m = j
        · rw [e]; exact Int.le_refl _
        · rw [h2 m (by omega)] at hk; cases hk
      · refine Or.inl ⟨key.trans (if_neg ho), fun m hm => ?_⟩
        by_cases e : m = j
        · rw [e]; simpa using ho
        · exact h2 m (by omega)
    · rw [h1] at key
      by_cases ho : ok j = true ∧ w j < w b
      · refine Or.inr ⟨j, key.trans (if_pos ho), Nat.lt_succ_self j, ho.1, fun m hm hk => ?_⟩
        by_cases e : m = j
        · rw [e]; exact Int.le_refl _
        · have := h4 m (by omega) hk; omega
      · refine Or.inr ⟨b, key.trans (if_neg ho), Nat.lt_succ_of_lt h2, h3, fun m hm hk => ?_⟩
        by_cases e : m = j
        · subst e; exact Int.not_lt.mp fun q => ho ⟨hk, q⟩
        · exact h4 m (by omega) hk
theorem best_none {ok : Nat → Bool} {w : Nat → Int} {k : Nat} (h : best ok w k = none) : ∀ m, m < k → ok m = false := by
  rcases best_spec (ok := ok) (w := w) k with ⟨-, h2⟩ | ⟨b, h1, -⟩
  · exact h2
  · rw [h] at h1; cases h1
theorem best_some {ok : Nat → Bool} {w : Nat → Int} {k b : Nat} (h : best ok w k = some b) : b < k ∧ ok b = true ∧ ∀ m, m < k → ok m = true → w b ≤ w m := by
  rcases best_spec (ok := ok) (w := w) k with ⟨h1, -⟩ | ⟨b', h1, h2, h3, h4⟩
  · rw [h] at h1; cases h1
  · rw [h] at h1; cases h1; exact ⟨h2, h3, h4⟩
theorem best_congr {ok ok' : Nat → Bool} {w w' : Nat → Int} : ∀ {k : Nat}, (∀ m, m < k → ok m = ok' m ∧ w m = w' m) → best ok w k = best ok' w' k
  | 0, _ => rfl
  | j + 1, h => by
    have ih := best_congr (k := j) fun m hm => h m (by omega)
    have hj := h j (by omega)
    have key : best ok w (j + 1) = match best ok w j with
      | none => if ok j = true then some j else none
      | some b => if ok j = true ∧ w j < w b then some j else some b := rfl
    have key' : best ok' w' (j + 1) = match best ok' w' j with
      | none => if ok' j = true then some j else none
      | some b => if ok' j = true ∧ w' j < w' b then some j else some b := rfl
    rw [key, key', ih, hj.1, hj.2]
    cases hb : best ok' w' j with
    | none => rfl
    | some b =>
      have hb2 := (best_some hb).1
      show (if ok' j = true ∧ w' j < w b then some j else some b) = if ok' j = true ∧ w' j < w' b then some j else some b
      rw [(h b (by omega)).2]
/-! a town's numbers -/
def cT (T : TS) (a m : Nat) : Int := (T (6 + 6 * a + m)).toInt
def pT (T : TS) (m : Nat) : Int := (T (78 + m)).toInt
def qT (T : TS) (a : Nat) : Option Nat := if T (84 + a) = -1 then none else some (T (84 + a)).toNatClampNeg
def okT (T : TS) (a m : Nat) : Bool := decide (T (6 + 6 * a + m) ≠ -1)
/-- what holds of a town at all times: n apprentices, k masters, at most Y years served at one master -/
def IT (Y : Int) (n k : Nat) (T : TS) : Prop :=
  n ≤ 6 ∧ k ≤ 6 ∧ T 0 = nI n ∧ T 1 = nI k ∧ (∀ a m, a < 6 → m < 6 → T (6 + 6 * a + m) = -1 ∨ (0 ≤ cT T a m ∧ cT T a m ≤ 60)) ∧ (∀ m, m < 6 → 0 ≤ pT T m ∧ pT T m ≤ 9999) ∧ (∀ a, a < 6 → T (84 + a) = -1 ∨ (a < n ∧ ∃ m, m < k ∧ T (84 + a) = nI m ∧ T (6 + 6 * a + m) ≠ -1)) ∧ (∀ a b, a < 6 → b < 6 → T (84 + a) = T (84 + b) → T (84 + a) ≠ -1 → a = b) ∧ (∀ a m, a < 6 → m < 6 → n ≤ a ∨ k ≤ m → T (6 + 6 * a + m) = 30 ∧ T (42 + 6 * a + m) = 0) ∧ (∀ m, m < 6 → k ≤ m → T (78 + m) = 0 ∧ T (90 + m) = 0) ∧ (∀ a m, a < 6 → m < 6 → 0 ≤ (T (42 + 6 * a + m)).toInt ∧ (T (42 + 6 * a + m)).toInt ≤ Y)
/-- the master liked by an apprentice, of those but one -/
def lk (n k : Nat) (T : TS) (a : Nat) (but : Option Nat) : Option Nat := best (fun m => okT T a m && !(but == some m)) (fun m => hv n (cT T) (pT T) a m) k
/-- by how much a bid moves a price -/
def mvs (n k : Nat) (T : TS) (a : Nat) : Int := match lk n k T a none with
  | none => 0
  | some b => match lk n k T a (some b) with
    | none => 100
    | some b2 => hv n (cT T) (pT T) a b2 - hv n (cT T) (pT T) a b + 1
/-- the first of the apprentices with something -/
def fstA (p : Nat → Bool) : Nat → Nat → Option Nat
  | 0, _ => none
  | r + 1, i => if p i = true then some i else fstA p r (i + 1)
theorem fstA_some {p : Nat → Bool} {x : Nat} : ∀ {r i : Nat}, fstA p r i = some x → i ≤ x ∧ x < i + r ∧ p x = true ∧ ∀ j, i ≤ j → j < x → p j = false
  | 0, _, h => by cases h
  | r + 1, i, h => by
    unfold fstA at h
    by_cases hp : p i = true
    · rw [if_pos hp] at h; cases h; exact ⟨Nat.le_refl _, by omega, hp, fun j h1 h2 => by omega⟩
    · rw [if_neg hp] at h
      obtain ⟨h1, h2, h3, h4⟩ := fstA_some h
      refine ⟨by omega, by omega, h3, fun j g1 g2 => ?_⟩
      by_cases e : j = i
      · subst e; simpa using hp
      · exact h4 j (by omega) g2
theorem fstA_none {p : Nat → Bool} : ∀ {r i : Nat}, fstA p r i = none → ∀ j, i ≤ j → j < i + r → p j = false
  | 0, _, _ => fun j h1 h2 => by omega
  | r + 1, i, h => fun j h1 h2 => by
    unfold fstA at h
    by_cases hp : p i = true
    · rw [if_pos hp] at h; cases h
    · rw [if_neg hp] at h
      by_cases e : j = i
      · subst e; simpa using hp
      · exact fstA_none h j (by omega) (by omega)
def frA (n : Nat) (T : TS) : Option Nat := fstA (fun a => decide (T (84 + a) = -1)) n 0
def atA (n : Nat) (T : TS) (x : Int32) : Option Nat := fstA (fun a => decide (T (84 + a) = x)) n 0
theorem enc_lt {o : Option Nat} {k : Nat} (hk : k < 2 ^ 31) (h : ∀ m, o = some m → m < k) : enc o = -1 ↔ o = none := by
  cases o with
  | none => exact ⟨fun _ => rfl, fun _ => rfl⟩
  | some m =>
    have hm := h m rfl
    constructor
    · intro e
      have h1 : (nI m).toInt = (-1 : Int32).toInt := congrArg Int32.toInt e
      rw [nI_toInt (by omega)] at h1
      have h2 : ((-1 : Int32)).toInt = -1 := by decide
      omega
    · intro e; cases e
theorem nI_ne_m1 {m : Nat} (hm : m < 2 ^ 31) : nI m ≠ -1 := fun e => by
  have h1 : (nI m).toInt = (-1 : Int32).toInt := congrArg Int32.toInt e
  rw [nI_toInt hm] at h1
  have h2 : ((-1 : Int32)).toInt = -1 := by decide
  omega
