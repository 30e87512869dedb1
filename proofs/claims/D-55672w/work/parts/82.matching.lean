/-! PURE: greatest pairings. ok a m: a pair can be; i apprentices, k masters -/
def o1 : Option Nat → Int := ov (fun _ => 1)
theorem o1_none : o1 none = 0 := rfl
theorem o1_some {m : Nat} : o1 (some m) = 1 := rfl
theorem o1_nonneg (o : Option Nat) : 0 ≤ o1 o := by
  cases o with
  | none => exact Int.le_refl 0
  | some m => exact (by decide : (0 : Int) ≤ 1)
theorem o1_le (o : Option Nat) : o1 o ≤ 1 := by
  cases o with
  | none => exact (by decide : (0 : Int) ≤ 1)
  | some m => exact Int.le_refl 1
def MO (i k : Nat) (ok : Nat → Nat → Prop) (μ : Nat → Option Nat) : Prop := (∀ a m, a < i → μ a = some m → m < k ∧ ok a m) ∧ ∀ a b m, a < i → b < i → μ a = some m → μ b = some m → a = b
def sz (i : Nat) (μ : Nat → Option Nat) : Int := su (fun a => o1 (μ a)) i
def MaxM (i k : Nat) (ok : Nat → Nat → Prop) (s : Int) : Prop := (∃ μ, MO i k ok μ ∧ sz i μ = s) ∧ ∀ μ, MO i k ok μ → sz i μ ≤ s
theorem MaxM.one {i k : Nat} {ok : Nat → Nat → Prop} {s s' : Int} (h : MaxM i k ok s) (h' : MaxM i k ok s') : s = s' := by
  obtain ⟨⟨μ, a1, a2⟩, a3⟩ := h
  obtain ⟨⟨μ', b1, b2⟩, b3⟩ := h'
  have := a3 μ' b1
  have := b3 μ a1
  omega
theorem MaxM.zero {k : Nat} {ok : Nat → Nat → Prop} : MaxM 0 k ok 0 := ⟨⟨fun _ => none, ⟨fun a m h => absurd h (Nat.not_lt_zero _), fun a b m h => absurd h (Nat.not_lt_zero _)⟩, rfl⟩, fun μ _ => Int.le_refl 0⟩
def ByO (i k : Nat) (ok : Nat → Nat → Prop) (b : Nat → Option Nat) : Prop := (∀ m a, m < k → b m = some a → a < i ∧ ok a m) ∧ ∀ m m' a, m < k → m' < k → b m = some a → b m' = some a → m = m'
theorem ByO.turn {i k : Nat} {ok : Nat → Nat → Prop} {b : Nat → Option Nat} (h : ByO i k ok b) : ∃ μ : Nat → Option Nat, MO i k ok μ ∧ sz i μ = su (fun m => o1 (b m)) k ∧ (∀ a m, a < i → μ a = some m → m < k ∧ b m = some a) ∧ ∀ a m, m < k → b m = some a → μ a = some m := by
  classical
  let μ : Nat → Option Nat := fun a => if h : ∃ m, m < k ∧ b m = some a then some (Classical.choose h) else none
  have h1 : ∀ a m, μ a = some m → m < k ∧ b m = some a := fun a m e => by
    by_cases hx : ∃ m, m < k ∧ b m = some a
    · have e2 : μ a = some (Classical.choose hx) := dif_pos hx
      rw [e2] at e; cases e
      exact Classical.choose_spec hx
    · have e2 : μ a = none := dif_neg hx
      rw [e2] at e; cases e
  have h2 : ∀ a m, m < k → b m = some a → μ a = some m := fun a m hm e => by
    have hx : ∃ m, m < k ∧ b m = some a := ⟨m, hm, e⟩
    have e2 : μ a = some (Classical.choose hx) := dif_pos hx
    rw [e2]
    have e3 := Classical.choose_spec hx
    rw [h.2 _ _ a e3.1 hm e3.2 e]
  have hMO : MO i k ok μ := ⟨fun a m _ e => ⟨(h1 a m e).1, (h.1 m a (h1 a m e).1 (h1 a m e).2).2⟩, fun a a' m _ _ e e' => by
    have := (h1 a m e).2.symm.trans (h1 a' m e').2
    exact Option.some.inj this⟩
  refine ⟨μ, hMO, ?_, fun a m _ e => h1 a m e, h2⟩
  have g1 : su (fun m => ov (fun a => o1 (μ a)) (b m)) k ≤ sz i μ := inj_le k (fun a => o1 (μ a)) (fun a => o1_nonneg _) (fun m a hm e => (h.1 m a hm e).1) (fun m m' a hm hm' e e' => h.2 m m' a hm hm' e e')
  have g2 : su (fun a => ov (fun m => o1 (b m)) (μ a)) i ≤ su (fun m => o1 (b m)) k := inj_le i (fun m => o1 (b m)) (fun m => o1_nonneg _) (fun a m _ e => (h1 a m e).1) (fun a a' m ha ha' e e' => hMO.2 a a' m ha ha' e e')
  have g3 : su (fun m => ov (fun a => o1 (μ a)) (b m)) k = su (fun m => o1 (b m)) k := su_congr fun m hm => by
    cases e : b m with
    | none => rfl
    | some a => show o1 (μ a) = 1; rw [h2 a m hm e]; rfl
  have g4 : su (fun a => ov (fun m => o1 (b m)) (μ a)) i = sz i μ := su_congr fun a ha => by
    cases e : μ a with
    | none => rfl
    | some m => show o1 (b m) = 1; rw [(h1 a m e).2]; rfl
  omega
theorem MO.cut {i k : Nat} {ok : Nat → Nat → Prop} {μ : Nat → Option Nat} (h : MO (i + 1) k ok μ) : MO i k ok μ := ⟨fun a m ha => h.1 a m (by omega), fun a b m ha hb => h.2 a b m (by omega) (by omega)⟩
/-- an apprentice more finds a master -/
theorem MaxM.found {i k : Nat} {ok : Nat → Nat → Prop} {s : Int} (h : MaxM i k ok s) {b : Nat → Option Nat} (hb : ByO (i + 1) k ok b) (hs : su (fun m => o1 (b m)) k = s + 1) : MaxM (i + 1) k ok (s + 1) := by
  obtain ⟨μ, h1, h2, -, -⟩ := hb.turn
  refine ⟨⟨μ, h1, h2.trans hs⟩, fun μ' hμ => ?_⟩
  have h3 := h.2 μ' hμ.cut
  have h4 := o1_le (μ' i)
  show sz i μ' + o1 (μ' i) ≤ _
  omega
/-- an apprentice more finds none: what was seen shows it -/
theorem MaxM.stuck {i k : Nat} {ok : Nat → Nat → Prop} {s : Int} (h : MaxM i k ok s) {b : Nat → Option Nat} (hb : ByO i k ok b) (hs : su (fun m => o1 (b m)) k = s) (seen : Nat → Prop) (h1 : ∀ m, m < k → ok i m → seen m) (h2 : ∀ m, m < k → seen m → ∃ a, b m = some a ∧ ∀ m', m' < k → ok a m' → seen m') : MaxM (i + 1) k ok s := by
  classical
  obtain ⟨μ, g1, g2, g3, g4⟩ := hb.turn
  refine ⟨⟨fun a => if a = i then none else μ a, ⟨fun a m ha e => ?_, fun a a' m ha ha' e e' => ?_⟩, ?_⟩, fun μ' hμ => ?_⟩
  · dsimp only at e
    by_cases hai : a = i
    · rw [if_pos hai] at e; cases e
    · rw [if_neg hai] at e; exact g1.1 a m (by omega) e
  · dsimp only at e e'
    by_cases hai : a = i
    · rw [if_pos hai] at e; cases e
    · rw [if_neg hai] at e
      by_cases hai' : a' = i
      · rw [if_pos hai'] at e'; cases e'
      · rw [if_neg hai'] at e'; exact g1.2 a a' m (by omega) (by omega) e e'
  · show su _ i + o1 (if i = i then none else μ i) = s
    rw [if_pos rfl, o1_none, ← hs, ← g2, Int.add_zero]
    exact su_congr fun a ha => by
      show o1 (if a = i then none else μ a) = o1 (μ a)
      rw [if_neg (by omega : ¬ a = i)]
  · let sn : Nat → Int := fun m => if seen m then 1 else 0
    have sn0 : ∀ m, 0 ≤ sn m := fun m => by show 0 ≤ if seen m then (1 : Int) else 0; split <;> decide
    let un : Option Nat → Int := ov (fun m => if seen m then 0 else 1)
    let ν : Nat → Option Nat := fun a => if (∃ m, μ a = some m ∧ seen m) then μ a else match μ' a with
      | none => none
      | some m => if seen m then none else some m
    have ν1 : ∀ a m, ν a = some m → (μ a = some m ∧ seen m) ∨ (μ' a = some m ∧ ¬ seen m ∧ ¬ ∃ m, μ a = some m ∧ seen m) := fun a m e => by
      by_cases hx : ∃ m, μ a = some m ∧ seen m
      · have e2 : ν a = μ a := if_pos hx
        obtain ⟨m2, x1, x2⟩ := hx
        rw [e2, x1] at e; cases e
        exact Or.inl ⟨x1, x2⟩
      · have e2 : ν a = match μ' a with
          | none => none
          | some m => if seen m then none else some m := if_neg hx
        rw [e2] at e
        cases hu : μ' a with
        | none => rw [hu] at e; cases e
        | some m2 =>
          rw [hu] at e
          by_cases hs2 : seen m2
          · simp only [if_pos hs2] at e; cases e
          · simp only [if_neg hs2] at e; cases e; exact Or.inr ⟨rfl, hs2, hx⟩
    have hν : MO i k ok ν := by
      refine ⟨fun a m ha e => ?_, fun a a' m ha ha' e e' => ?_⟩
      · rcases ν1 a m e with ⟨x1, -⟩ | ⟨x1, -, -⟩
        · exact g1.1 a m ha x1
        · exact hμ.1 a m (by omega) x1
      · rcases ν1 a m e with ⟨x1, x2⟩ | ⟨x1, x2, -⟩
        · rcases ν1 a' m e' with ⟨y1, y2⟩ | ⟨y1, y2, -⟩
          · exact g1.2 a a' m ha ha' x1 y1
          · exact absurd x2 y2
        · rcases ν1 a' m e' with ⟨y1, y2⟩ | ⟨y1, y2, -⟩
          · exact absurd y2 x2
          · exact hμ.2 a a' m (by omega) (by omega) x1 y1
    have e0 := h.2 ν hν
    have e1 : sz (i + 1) μ' = su (fun a => ov sn (μ' a)) (i + 1) + su (fun a => un (μ' a)) (i + 1) := by
      unfold sz
      rw [← su_add]
      refine su_congr fun a _ => ?_
      cases μ' a with
      | none => rfl
      | some m =>
        show (1 : Int) = (if seen m then 1 else 0) + (if seen m then 0 else 1)
        split <;> rfl
    have e2 : su (fun a => ov sn (μ' a)) (i + 1) ≤ su sn k := inj_le (i + 1) sn sn0 (fun a m ha e => (hμ.1 a m ha e).1) hμ.2
    have e3 : su sn k ≤ su (fun a => ov sn (μ a)) i := onto_ge i sn sn0 fun m hm hn => by
      have hsm : seen m := Classical.byContradiction fun hx => hn (if_neg hx)
      obtain ⟨a, x1, -⟩ := h2 m hm hsm
      exact ⟨a, (hb.1 m a hm x1).1, g4 a m hm x1⟩
    have e4 : un (μ' i) = 0 := by
      cases e : μ' i with
      | none => rfl
      | some m =>
        have := hμ.1 i m (by omega) e
        exact if_pos (h1 m this.1 this.2)
    have e5 : su (fun a => ov sn (μ a) + un (μ' a)) i ≤ sz i ν := su_le fun a ha => by
      by_cases hx : ∃ m, μ a = some m ∧ seen m
      · have e2 : ν a = μ a := if_pos hx
        obtain ⟨m, x1, x2⟩ := hx
        rw [e2, x1]
        have x3 : un (μ' a) = 0 := by
          cases e : μ' a with
          | none => rfl
          | some m' =>
            have y1 := hμ.1 a m' (by omega) e
            have y2 := g3 a m ha x1
            obtain ⟨a2, y3, y4⟩ := h2 m y2.1 x2
            rw [y2.2] at y3; cases y3
            exact if_pos (y4 m' y1.1 y1.2)
        rw [x3]
        show (if seen m then (1 : Int) else 0) + 0 ≤ 1
        split <;> decide
      · have e2 : ν a = match μ' a with
          | none => none
          | some m => if seen m then none else some m := if_neg hx
        have x1 : ov sn (μ a) = 0 := by
          cases e : μ a with
          | none => rfl
          | some m => exact if_neg fun hs2 => hx ⟨m, e, hs2⟩
        rw [x1, e2]
        cases μ' a with
        | none => exact Int.le_refl _
        | some m =>
          show 0 + (if seen m then (0 : Int) else 1) ≤ o1 (if seen m then none else some m)
          split
          · exact Int.le_refl 0
          · exact Int.le_refl 1
    rw [su_add] at e5
    rw [su_succ (fun a => un (μ' a)), e4] at e1
    omega
/-- what finds brings -/
def FndF (k : Nat) (ok : Nat → Nat → Prop) (b : Nat → Option Nat) (sn : Nat → Prop) (a : Nat) (b' : Nat → Option Nat) (sn' : Nat → Prop) : Prop :=
  (∀ m, m < k → b' m = b m) ∧ (∀ m, m < k → sn m → sn' m) ∧ (∀ m, m < k → ok a m → sn' m) ∧ ∀ m, m < k → sn' m → sn m ∨ ∃ x, b m = some x ∧ ∀ m', m' < k → ok x m' → sn' m'
def FndT (k : Nat) (ok : Nat → Nat → Prop) (b : Nat → Option Nat) (sn : Nat → Prop) (a : Nat) (b' : Nat → Option Nat) : Prop :=
  (∀ m, m < k → sn m → b' m = b m) ∧ (∀ m m' x, m < k → m' < k → ¬ sn m → ¬ sn m' → b' m = some x → b' m' = some x → m = m') ∧ (∀ m x, m < k → ¬ sn m → b' m = some x → ok x m ∧ (x = a ∨ ∃ m1, m1 < k ∧ ¬ sn m1 ∧ b m1 = some x)) ∧ su (fun m => o1 (b' m)) k = su (fun m => o1 (b m)) k + 1
def FndP (k : Nat) (ok : Nat → Nat → Prop) (b : Nat → Option Nat) (sn : Nat → Prop) (a : Nat) : Prop :=
  (∀ m m' x, m < k → m' < k → ¬ sn m → ¬ sn m' → b m = some x → b m' = some x → m = m') ∧ (∀ m, m < k → ¬ sn m → b m ≠ some a) ∧ ∀ m x, m < k → b m = some x → ok x m
def udO (b : Nat → Option Nat) (m : Nat) (o : Option Nat) : Nat → Option Nat := fun j => if j = m then o else b j
theorem udO_self {b : Nat → Option Nat} {m : Nat} {o : Option Nat} : udO b m o m = o := if_pos rfl
theorem udO_ne {b : Nat → Option Nat} {m j : Nat} {o : Option Nat} (h : j ≠ m) : udO b m o j = b j := if_neg h
theorem sz_udO {b : Nat → Option Nat} {m k : Nat} {o : Option Nat} (hm : m < k) : su (fun j => o1 (udO b m o j)) k = su (fun j => o1 (b j)) k - o1 (b m) + o1 o := by
  rw [show (fun j => o1 (udO b m o j)) = udI (fun j => o1 (b j)) m (o1 o) from by
    funext j
    by_cases hj : j = m
    · subst hj; rw [udO_self, udI_self]
    · rw [udO_ne hj, udI_ne hj]]
  exact su_ud hm
/-- a master that nobody has -/
theorem FndT.take {k : Nat} {ok : Nat → Nat → Prop} {b : Nat → Option Nat} {sn : Nat → Prop} {a m : Nat} (h : FndP k ok b sn a) (hm : m < k) (hs : ¬ sn m) (hok : ok a m) (hn : b m = none) : FndT k ok b sn a (udO b m (some a)) := by
  obtain ⟨h1, h2, h3⟩ := h
  refine ⟨fun m1 hm1 s1 => udO_ne (fun e => hs (e ▸ s1)), fun m1 m2 x g1 g2 s1 s2 e1 e2 => ?_, fun m1 x g1 s1 e1 => ?_, ?_⟩
  · by_cases a1 : m1 = m
    · by_cases a2 : m2 = m
      · rw [a1, a2]
      · subst a1; rw [udO_self] at e1; cases e1; rw [udO_ne a2] at e2; exact absurd e2 (h2 m2 g2 s2)
    · rw [udO_ne a1] at e1
      by_cases a2 : m2 = m
      · subst a2; rw [udO_self] at e2; cases e2; exact absurd e1 (h2 m1 g1 s1)
      · rw [udO_ne a2] at e2; exact h1 m1 m2 x g1 g2 s1 s2 e1 e2
  · by_cases a1 : m1 = m
    · subst a1; rw [udO_self] at e1; cases e1; exact ⟨hok, Or.inl rfl⟩
    · rw [udO_ne a1] at e1; exact ⟨h3 m1 x g1 e1, Or.inr ⟨m1, g1, s1, e1⟩⟩
  · rw [sz_udO hm, hn, o1_none, o1_some]; omega
theorem FndP.inner {k : Nat} {ok : Nat → Nat → Prop} {b : Nat → Option Nat} {sn sn1 : Nat → Prop} {a m x : Nat} (h : FndP k ok b sn a) (hm : m < k) (hs : ¬ sn m) (hx : b m = some x) (hsub : ∀ j, j < k → sn j ∨ j = m → sn1 j) : FndP k ok b sn1 x := by
  obtain ⟨h1, h2, h3⟩ := h
  refine ⟨fun m1 m2 y g1 g2 s1 s2 e1 e2 => h1 m1 m2 y g1 g2 (fun q => s1 (hsub m1 g1 (Or.inl q))) (fun q => s2 (hsub m2 g2 (Or.inl q))) e1 e2, fun m1 g1 s1 e1 => ?_, h3⟩
  have := h1 m1 m x g1 hm (fun q => s1 (hsub m1 g1 (Or.inl q))) hs e1 hx
  exact s1 (hsub m1 g1 (Or.inr this))
/-- the one who had a master finds another one -/
theorem FndT.push {k : Nat} {ok : Nat → Nat → Prop} {b b' : Nat → Option Nat} {sn sn1 : Nat → Prop} {a m x : Nat} (h : FndP k ok b sn a) (hm : m < k) (hs : ¬ sn m) (hok : ok a m) (hx : b m = some x) (hsub : ∀ j, j < k → sn j ∨ j = m → sn1 j) (g : FndT k ok b sn1 x b') : FndT k ok b sn a (udO b' m (some a)) := by
  obtain ⟨h1, h2, h3⟩ := h
  obtain ⟨g1, g2, g3, g4⟩ := g
  have key : ∀ j, j < k → ¬ sn j → j ≠ m → ∀ y, b' j = some y → ok y j ∧ y ≠ a ∧ ((sn1 j ∧ b j = some y) ∨ (¬ sn1 j ∧ (y = x ∨ ∃ m1, m1 < k ∧ ¬ sn1 m1 ∧ b m1 = some y))) := fun j hj s1 hjm y e => by
    by_cases q : sn1 j
    · rw [g1 j hj q] at e
      exact ⟨h3 j y hj e, fun ea => h2 j hj s1 (ea ▸ e), Or.inl ⟨q, e⟩⟩
    · obtain ⟨z1, z2⟩ := g3 j y hj q e
      refine ⟨z1, fun ea => ?_, Or.inr ⟨q, z2⟩⟩
      rcases z2 with z2 | ⟨m1, w1, w2, w3⟩
      · exact h2 m hm hs (by rw [hx, ← z2, ea])
      · exact h2 m1 w1 (fun q2 => w2 (hsub m1 w1 (Or.inl q2))) (ea ▸ w3)
  have cross : ∀ i j y, i < k → j < k → ¬ sn i → i ≠ m → sn1 i → b i = some y → ¬ sn1 j → (y = x ∨ ∃ m1, m1 < k ∧ ¬ sn1 m1 ∧ b m1 = some y) → False := fun i j y hi hj s1 him q1 e q2 z => by
    rcases z with z | ⟨m1, w1, w2, w3⟩
    · subst z; exact him (h1 i m y hi hm s1 hs e hx)
    · have := h1 i m1 y hi w1 s1 (fun q3 => w2 (hsub m1 w1 (Or.inl q3))) e w3
      subst this; exact w2 q1
  refine ⟨fun j hj s1 => ?_, fun i j y hi hj s1 s2 e1 e2 => ?_, fun j y hj s1 e => ?_, ?_⟩
  · rw [udO_ne (fun e : j = m => hs (by rw [← e]; exact s1))]; exact g1 j hj (hsub j hj (Or.inl s1))
  · by_cases a1 : i = m
    · by_cases a2 : j = m
      · rw [a1, a2]
      · subst a1; rw [udO_self] at e1; cases e1; rw [udO_ne a2] at e2; exact absurd rfl (key j hj s2 a2 _ e2).2.1
    · rw [udO_ne a1] at e1
      by_cases a2 : j = m
      · subst a2; rw [udO_self] at e2; cases e2; exact absurd rfl (key i hi s1 a1 _ e1).2.1
      · rw [udO_ne a2] at e2
        rcases (key i hi s1 a1 y e1).2.2 with ⟨u1, u2⟩ | ⟨u1, u2⟩
        · rcases (key j hj s2 a2 y e2).2.2 with ⟨v1, v2⟩ | ⟨v1, v2⟩
          · exact h1 i j y hi hj s1 s2 u2 v2
          · exact (cross i j y hi hj s1 a1 u1 u2 v1 v2).elim
        · rcases (key j hj s2 a2 y e2).2.2 with ⟨v1, v2⟩ | ⟨v1, v2⟩
          · exact (cross j i y hj hi s2 a2 v1 v2 u1 u2).elim
          · exact g2 i j y hi hj u1 v1 e1 e2
  · by_cases a1 : j = m
    · subst a1; rw [udO_self] at e; cases e; exact ⟨hok, Or.inl rfl⟩
    · rw [udO_ne a1] at e
      obtain ⟨z1, -, z3⟩ := key j hj s1 a1 y e
      refine ⟨z1, Or.inr ?_⟩
      rcases z3 with ⟨u1, u2⟩ | ⟨-, u2 | ⟨m1, w1, w2, w3⟩⟩
      · exact ⟨j, hj, s1, u2⟩
      · exact ⟨m, hm, hs, by rw [hx, u2]⟩
      · exact ⟨m1, w1, fun q => w2 (hsub m1 w1 (Or.inl q)), w3⟩
  · rw [sz_udO hm, g1 m hm (hsub m hm (Or.inr rfl)), hx, o1_some, o1_some, g4]; omega
/-- at the top: nothing seen yet -/
theorem FndT.top {k i : Nat} {ok : Nat → Nat → Prop} {b b' : Nat → Option Nat} (hb : ByO i k ok b) (g : FndT k ok b (fun _ => False) i b') : ByO (i + 1) k ok b' ∧ su (fun m => o1 (b' m)) k = su (fun m => o1 (b m)) k + 1 := by
  obtain ⟨-, g2, g3, g4⟩ := g
  refine ⟨⟨fun m a hm e => ?_, fun m m' a hm hm' e e' => g2 m m' a hm hm' (fun q => q) (fun q => q) e e'⟩, g4⟩
  obtain ⟨z1, z2⟩ := g3 m a hm (fun q => q) e
  refine ⟨?_, z1⟩
  rcases z2 with rfl | ⟨m1, w1, -, w3⟩
  · omega
  · have := (hb.1 m1 a w1 w3).1; omega
theorem FndP.top {k i : Nat} {ok : Nat → Nat → Prop} {b : Nat → Option Nat} (hb : ByO i k ok b) : FndP k ok b (fun _ => False) i :=
  ⟨fun m m' x hm hm' _ _ e e' => hb.2 m m' x hm hm' e e', fun m hm _ e => absurd (hb.1 m i hm e).1 (Nat.lt_irrefl _), fun m x hm e => (hb.1 m x hm e).2⟩
theorem ByO.grow {i k : Nat} {ok : Nat → Nat → Prop} {b : Nat → Option Nat} (h : ByO i k ok b) : ByO (i + 1) k ok b := ⟨fun m a hm e => ⟨Nat.lt_succ_of_lt (h.1 m a hm e).1, (h.1 m a hm e).2⟩, h.2⟩
