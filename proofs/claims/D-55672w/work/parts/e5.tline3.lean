/-! Town.line: the loop's spec -/
set_option maxRecDepth 100000
section LM
variable {G : GT}
theorem tc_masters {h : AH} {ad : Nat → Nat} {T : TS} (x : TC G h ad T) : aF G h (ad 0) 1 6 (.int (T 1)) := by
  have x0 := x.2 0 (by omega); rw [tcell_0] at x0; exact Or.inl ⟨_, x0, rfl⟩
theorem tc_costs {h : AH} {ad : Nat → Nat} {T : TS} (x : TC G h ad T) : aF G h (ad 0) 1 0 (.ref (ad 1)) := by
  have x0 := x.2 0 (by omega); rw [tcell_0] at x0; exact Or.inl ⟨_, x0, rfl⟩
theorem tc_pairs {h : AH} {ad : Nat → Nat} {T : TS} (x : TC G h ad T) : aF G h (ad 0) 1 4 (.ref (ad 5)) := by
  have x0 := x.2 0 (by omega); rw [tcell_0] at x0; exact Or.inl ⟨_, x0, rfl⟩
theorem SBL.cls {h : AH} {a b k : Nat} {ml : Int32} {L : List Nat} (x : SBL G h a b k ml L) : aC G h a 13 := by
  obtain ⟨m, f, x⟩ := x
  exact Or.inl ⟨_, x.1⟩
set_option maxHeartbeats 2000000 in
theorem s_lineL (hB : BaseF G) (hLt : LitF G) {Y : Int} {nn kk : Nat} {T : TS} (hI : IT Y nn kk T) {P : Nat → AH → Prop} {ad : Nat → Nat} {a ap : Nat} (ha : ap < nn) :
    ∀ (d j : Nat) (h : AH) (c s b : Nat), j + d = kk → LInv G h ad T a b (lineP T ap j) → 5 * d ≤ c → 730 * d ≤ s → (∀ (h' : AH) (b' : Nat), LInv G h' ad T a b' (lineP T ap kk) → Keep (fun y => y = a ∨ y = b) h h' → (b' = b ∨ h b' = none) → P a h') → ∀ e, L_gX2_line_21 G P (ad 0) (nI ap) a (d + 1 + e) (h, c, s) (nI j) := by
  obtain ⟨hn6, hk6, -, ht1, -⟩ := id hI
  intro d
  induction d with
  | zero =>
    intro j h c s b hj x hc hs hP e
    obtain rfl : j = kk := by omega
    rw [show 0 + 1 + e = e + 1 by omega, L_gX2_line_21]
    refine ⟨T 1, tc_masters x.1, br_t ?_ (hP h b x Keep.rfl' (Or.inl rfl))⟩
    rw [ht1]; exact nI_le (Nat.le_refl _) (by omega)
  | succ d ih =>
    intro j h c s b hj x hc hs hP e
    have hap6 : ap < 6 := by omega
    have hj6 : j < 6 := by omega
    have hlen := lineP_len hI hap6 j (by omega)
    have hpl := piece_len hI hap6 hj6
    rw [show d + 1 + 1 + e = (d + 1 + e) + 1 by omega, L_gX2_line_21]
    refine ⟨T 1, tc_masters x.1, br_f ?_ (jn_i (li_key hLt (by omega) _ (fun q bq fq tx xs hl ht => ?_)))⟩
    · rw [ht1]; exact nI_ge (by omega) (by omega)
    generalize hB1 : (if j = 0 then ([] : List Nat) else [32]) = B1 at hl ht
    have hB1l : B1.length ≤ 1 := by rw [← hB1]; by_cases h0 : j = 0 <;> simp [h0]
    refine ⟨x.2.1.cls, 1, 240, show 1 ≤ c by omega, show 240 ≤ s by omega, l_appLit hB x xs hl ht (by omega) (by omega) (Nat.le_refl _) (Nat.le_refl _) (fun h1 b1 x1 kp1 hb1 => nm_i ?_)⟩
    refine ⟨ad, T, x1.1.1, rfl, x1.1.th, Nat.zero_le _, Nat.zero_le _, ?_⟩
    dsimp only
    sorry
end LM
