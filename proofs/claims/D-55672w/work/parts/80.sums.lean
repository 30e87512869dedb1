/-! PURE: sums over 0 .. n-1, injections, the pigeonhole -/
def su (f : Nat → Int) : Nat → Int
  | 0 => 0
  | n + 1 => su f n + f n
theorem su_succ (f : Nat → Int) (n : Nat) : su f (n + 1) = su f n + f n := rfl
theorem su_congr {f g : Nat → Int} : ∀ {n : Nat}, (∀ i, i < n → f i = g i) → su f n = su g n
  | 0, _ => rfl
  | n + 1, h => by rw [su_succ, su_succ, su_congr (fun i hi => h i (Nat.lt_succ_of_lt hi)), h n (Nat.lt_succ_self n)]
theorem su_le {f g : Nat → Int} : ∀ {n : Nat}, (∀ i, i < n → f i ≤ g i) → su f n ≤ su g n
  | 0, _ => Int.le_refl 0
  | n + 1, h => by
    have h1 := su_le (fun i hi => h i (Nat.lt_succ_of_lt hi))
    have h2 := h n (Nat.lt_succ_self n)
    rw [su_succ, su_succ]; omega
theorem su_zero {f : Nat → Int} : ∀ {n : Nat}, (∀ i, i < n → f i = 0) → su f n = 0
  | 0, _ => rfl
  | n + 1, h => by rw [su_succ, su_zero (fun i hi => h i (Nat.lt_succ_of_lt hi)), h n (Nat.lt_succ_self n)]; rfl
theorem su_nonneg {f : Nat → Int} {n : Nat} (h : ∀ i, i < n → 0 ≤ f i) : 0 ≤ su f n := by
  have h1 : su (fun _ => 0) n ≤ su f n := su_le h
  rw [su_zero (fun _ _ => rfl)] at h1; exact h1
theorem su_add {f g : Nat → Int} : ∀ {n : Nat}, su (fun i => f i + g i) n = su f n + su g n
  | 0 => rfl
  | n + 1 => by rw [su_succ, su_succ, su_succ, su_add]; omega
theorem su_mul {f : Nat → Int} {c : Int} : ∀ {n : Nat}, su (fun i => f i * c) n = su f n * c
  | 0 => (Int.zero_mul c).symm
  | n + 1 => by rw [su_succ, su_succ, su_mul, Int.add_mul]
theorem su_one : ∀ {n : Nat}, su (fun _ => 1) n = (n : Int)
  | 0 => rfl
  | n + 1 => by rw [su_succ, su_one]; omega
def udI (f : Nat → Int) (k : Nat) (x : Int) : Nat → Int := fun j => if j = k then x else f j
theorem udI_self {f : Nat → Int} {k : Nat} {x : Int} : udI f k x k = x := if_pos rfl
theorem udI_ne {f : Nat → Int} {k j : Nat} {x : Int} (h : j ≠ k) : udI f k x j = f j := if_neg h
theorem su_ud_out {f : Nat → Int} {k : Nat} {x : Int} {n : Nat} (hk : n ≤ k) : su (udI f k x) n = su f n := su_congr fun i hi => udI_ne (by omega)
theorem su_ud {f : Nat → Int} {k : Nat} {x : Int} : ∀ {n : Nat}, k < n → su (udI f k x) n = su f n - f k + x
  | 0, h => absurd h (Nat.not_lt_zero _)
  | n + 1, h => by
    rw [su_succ, su_succ]
    by_cases hk : k = n
    · subst hk; rw [su_ud_out (Nat.le_refl _), udI_self]; omega
    · rw [su_ud (by omega), udI_ne (fun e => hk e.symm)]; omega
theorem udI_nonneg {f : Nat → Int} {k : Nat} (h0 : ∀ m, 0 ≤ f m) : ∀ m, 0 ≤ udI f k 0 m := fun m => by
  unfold udI; split
  · exact Int.le_refl 0
  · exact h0 m
/-- what a place that may be none holds -/
def ov (f : Nat → Int) : Option Nat → Int
  | none => 0
  | some m => f m
theorem inj_le {k : Nat} {σ : Nat → Option Nat} : ∀ (n : Nat) (f : Nat → Int), (∀ m, 0 ≤ f m) → (∀ a m, a < n → σ a = some m → m < k) → (∀ a b m, a < n → b < n → σ a = some m → σ b = some m → a = b) → su (fun a => ov f (σ a)) n ≤ su f k
  | 0, f, h0, _, _ => su_nonneg fun i _ => h0 i
  | n + 1, f, h0, hk, hi => by
    rw [su_succ]
    cases hs : σ n with
    | none =>
      have := inj_le n f h0 (fun a m ha => hk a m (Nat.lt_succ_of_lt ha)) (fun a b m ha hb => hi a b m (Nat.lt_succ_of_lt ha) (Nat.lt_succ_of_lt hb))
      show _ + 0 ≤ _; omega
    | some m0 =>
      have hm0 : m0 < k := hk n m0 (Nat.lt_succ_self n) hs
      have h1 := inj_le n (udI f m0 0) (udI_nonneg h0) (fun a m ha => hk a m (Nat.lt_succ_of_lt ha)) (fun a b m ha hb => hi a b m (Nat.lt_succ_of_lt ha) (Nat.lt_succ_of_lt hb))
      rw [su_ud hm0] at h1
      have h2 : su (fun a => ov (udI f m0 0) (σ a)) n = su (fun a => ov f (σ a)) n := su_congr fun a ha => by
        cases hsa : σ a with
        | none => rfl
        | some m1 =>
          show udI f m0 0 m1 = f m1
          refine udI_ne (fun e => ?_)
          subst e
          have := hi a n m1 (Nat.lt_succ_of_lt ha) (Nat.lt_succ_self n) hsa hs
          omega
      rw [h2] at h1
      show _ + f m0 ≤ _; omega
theorem onto_ge {k : Nat} {q : Nat → Option Nat} : ∀ (n : Nat) (f : Nat → Int), (∀ m, 0 ≤ f m) → (∀ m, m < k → f m ≠ 0 → ∃ a, a < n ∧ q a = some m) → su f k ≤ su (fun a => ov f (q a)) n
  | 0, f, h0, h => by
    rw [su_zero (f := f) (fun m hm => Classical.byContradiction fun hn => by obtain ⟨a, ha, -⟩ := h m hm hn; exact absurd ha (Nat.not_lt_zero _))]
    exact Int.le_refl 0
  | n + 1, f, h0, h => by
    rw [su_succ]
    cases hq : q n with
    | none =>
      have := onto_ge n f h0 (fun m hm hf => by
        obtain ⟨a, ha, e⟩ := h m hm hf
        refine ⟨a, ?_, e⟩
        by_cases han : a = n
        · subst han; rw [hq] at e; cases e
        · omega)
      show _ ≤ _ + 0; omega
    | some m0 =>
      have h1 := onto_ge n (udI f m0 0) (udI_nonneg h0) (fun m hm hf => by
        by_cases e : m = m0
        · subst e; rw [udI_self] at hf; exact absurd rfl hf
        · rw [udI_ne e] at hf
          obtain ⟨a, ha, e2⟩ := h m hm hf
          refine ⟨a, ?_, e2⟩
          by_cases han : a = n
          · subst han; rw [hq] at e2; cases e2; exact absurd rfl e
          · omega)
      have h2 : su (fun a => ov (udI f m0 0) (q a)) n ≤ su (fun a => ov f (q a)) n := su_le fun a _ => by
        cases q a with
        | none => exact Int.le_refl 0
        | some m1 =>
          show udI f m0 0 m1 ≤ f m1
          unfold udI; split
          · exact h0 _
          · exact Int.le_refl _
      have h3 : su f k ≤ su (udI f m0 0) k + f m0 := by
        by_cases hk : m0 < k
        · rw [su_ud hk]; omega
        · rw [su_ud_out (by omega)]; have := h0 m0; omega
      show _ ≤ _ + f m0; omega
theorem pigeon (n : Nat) (f : Nat → Nat) (h : ∀ i, i ≤ n → f i < n) : ∃ i j, i < j ∧ j ≤ n ∧ f i = f j := by
  refine Classical.byContradiction fun hn => ?_
  have h1 := inj_le (k := n) (σ := fun i => some (f i)) (n + 1) (fun _ => 1) (fun _ => by decide) (fun a m ha e => by cases e; exact h a (by omega)) (fun a b m ha hb e1 e2 => by
    have e : f a = f b := by have := e1.trans e2.symm; exact Option.some.inj this
    by_cases h1 : a < b
    · exact absurd ⟨a, b, h1, by omega, e⟩ hn
    · by_cases h2 : b < a
      · exact absurd ⟨b, a, h2, by omega, e.symm⟩ hn
      · omega)
  have h2 : su (fun a => ov (fun _ => 1) ((fun i => some (f i)) a)) (n + 1) = ((n + 1 : Nat) : Int) := su_one
  rw [h2, su_one] at h1
  omega
