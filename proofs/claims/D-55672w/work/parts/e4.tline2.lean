/-! Town.line: the loop -/
set_option maxRecDepth 100000
section LJ
variable {G : GT} {c s : Nat}
/-- append of one of our constants of at most one letter -/
theorem l_appLit (hB : BaseF G) {P : Nat → AH → Prop} {h : AH} {ad : Nat → Nat} {T : TS} {a b q bq : Nat} {fq : Nat → Int32} {L B : List Nat} {tx : String} (x : LInv G h ad T a b L) (xs : StrL G q bq 0 tx.length fq (txt tx)) (hl : B.length = tx.length) (ht : ∀ i, i < B.length → txt tx i = tl B i) (hn : L.length + B.length ≤ 60) (hw : B.length ≤ 16) (hc : 1 ≤ c) (hs : 240 ≤ s)
    (hP : ∀ (h' : AH) (b' : Nat), LInv G h' ad T a b' (L ++ B) → Keep (fun y => y = a ∨ y = b) h h' → (b' = b ∨ h b' = none) → P a h') : F_gJ3_append G (h, c, s) a q P := by
  obtain ⟨x1, x2, x3, x4, x5, x6⟩ := xs
  rw [← hl] at x4 x5
  refine l_appendS hB x.2.1 (Or.inr ⟨x1, x2, x3, x4, x5, x6⟩) ht hn hw hc hs (fun h' b' q1 q2 q3 => hP h' b' (x.next q1 q2 q3) q2 q3)
end LJ
section LK
variable {G : GT} {c s : Nat}
theorem tcell_5 {dA : Nat → ClassId} {ad : Nat → Nat} {T : TS} : tcell dA ad T 5 = .inl (dA 0, 6, .inl (cut6 fun j => T (84 + j))) := rfl
theorem tcell_1 {dA : Nat → ClassId} {ad : Nat → Nat} {T : TS} : tcell dA ad T 1 = .inl (dA 6, 6, .inr (.inr (.inr (.inr fun i => some (ad (6 + i)))))) := rfl
theorem tcell_0 {dA : Nat → ClassId} {ad : Nat → Nat} {T : TS} : tcell dA ad T 0 = .inr (1, tfs ad T) := rfl
end LK
section LL
variable {G : GT}
theorem li_key (hLt : LitF G) {j : Nat} (hj : j < 2 ^ 30) (KK : Nat → Prop) (h : ∀ (q b : Nat) (f : Nat → Int32) (tx : String), StrL G q b 0 tx.length f (txt tx) → (if j = 0 then ([] : List Nat) else [32]).length = tx.length → (∀ i, i < (if j = 0 then ([] : List Nat) else [32]).length → txt tx i = tl (if j = 0 then ([] : List Nat) else [32]) i) → KK q) :
    (nI j = 0 → ∃ q : Nat, LitR G RX2 182 "" q ∧ KK q) ∧ (¬ nI j = 0 → ∃ q : Nat, LitR G RX2 184 " " q ∧ KK q) := by
  constructor
  · intro hz
    obtain ⟨q, b, f, h1, h2⟩ := lit_X2_182 hLt
    have hj0 : j = 0 := (nI_eq (by omega) (by decide)).mp (show nI j = nI 0 from hz)
    exact ⟨q, h1, h q b f "" h2 (by rw [if_pos hj0]; rfl) (fun i hi => by rw [if_pos hj0] at hi; exact absurd hi (Nat.not_lt_zero i))⟩
  · intro hz
    obtain ⟨q, b, f, h1, h2⟩ := lit_X2_184 hLt
    have hj0 : j ≠ 0 := fun w => hz (by rw [w]; rfl)
    refine ⟨q, h1, h q b f " " h2 (by rw [if_neg hj0]; rfl) (fun i hi => ?_)⟩
    rw [if_neg hj0] at hi ⊢
    have : i = 0 := by simp at hi; exact hi
    subst this; rfl
end LL
