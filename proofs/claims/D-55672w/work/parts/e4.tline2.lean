/-! Town.line: the loop -/
set_option maxRecDepth 100000
section LJ
variable {G : GT} {c s : Nat}
/-- append of one of our constants of at most one letter -/
theorem l_appLit (hB : BaseF G) {P : Nat → AH → Prop} {h : AH} {ad : Nat → Nat} {T : TS} {a b q bq : Nat} {fq : Nat → Int32} {L B : List Nat} {tx : String} (x : LInv G h ad T a b L) (xs : StrL G q bq 0 tx.length fq (txt tx)) (hl : B.length = tx.length) (ht : ∀ i, i < B.length → txt tx i = tl B i) (hn : L.length + B.length ≤ 60) (hw : B.length ≤ 16) (hc : 1 ≤ c) (hs : 240 ≤ s)
    (hP : ∀ (h' : AH) (b' : Nat), LInv G h' ad T a b' (L ++ B) → Keep (fun y => y = a ∨ y = b) h h' → (b' = b ∨ h b' = none) → P a h') : F_gJ3_append G (h, c, s) a q P := by
  obtain ⟨x1, x2, x3, x4, x5, x6⟩ := xs
  rw [← hl] at x4 x5
  refine l_appendS hB x.2.1 (Or.inr ⟨x1, x2, x3, x4, x5, x6⟩) ht hn hw hc hs (fun h' b' q1 q2 q3 => hP h' b' (x.next q1 q2 q3) q2 q3)
end LJ
section LK
variable {G : GT} {c s : Nat}
theorem tcell_5 {dA : Nat → ClassId} {ad : Nat → Nat} {T : TS} : tcell dA ad T 5 = .inl (dA 0, 6, .inl (cut6 fun j => T (84 + j))) := rfl
theorem tcell_1 {dA : Nat → ClassId} {ad : Nat → Nat} {T : TS} : tcell dA ad T 1 = .inl (dA 6, 6, .inr (.inr (.inr (.inr fun i => some (ad (6 + i)))))) := rfl
theorem tcell_0 {dA : Nat → ClassId} {ad : Nat → Nat} {T : TS} : tcell dA ad T 0 = .inr (1, tfs ad T) := rfl
end LK
section LL
variable {G : GT}
theorem li_0 : LitF G → LitOK G RX2 182 "" := lit_X2_182
set_option maxHeartbeats 1000000 in
theorem s_lineL (hB : BaseF G) (hLt : LitF G) {Y : Int} {nn kk : Nat} {T : TS} (hI : IT Y nn kk T) {P : Nat → AH → Prop} {ad : Nat → Nat} {a ap : Nat} (ha : ap < nn) :
    ∀ (d j : Nat) (h : AH) (c s b : Nat), j + d = kk → LInv G h ad T a b (lineP T ap j) → 5 * d ≤ c → 730 * d ≤ s → (∀ (h' : AH) (b' : Nat), LInv G h' ad T a b' (lineP T ap kk) → Keep (fun y => y = a ∨ y = b) h h' → (b' = b ∨ h b' = none) → P a h') → ∀ e, L_gX2_line_21 G P (ad 0) (nI ap) a (d + 1 + e) (h, c, s) (nI j) := by
  obtain ⟨hn6, hk6, -, ht1, -⟩ := id hI
  intro d
  induction d with
  | zero =>
    intro j h c s b hj x hc hs hP e
    obtain rfl : j = kk := by omega
    rw [show 0 + 1 + e = e + 1 by omega, L_gX2_line_21]
    have x0 := x.1.2 0 (by omega)
    rw [tcell_0] at x0
    refine ⟨T 1, Or.inl ⟨_, x0, rfl⟩, br_t ?_ (hP h b x Keep.rfl' (Or.inl rfl))⟩
    rw [ht1]; exact nI_le (Nat.le_refl _) (by omega)
  | succ d ih =>
    intro j h c s b hj x hc hs hP e
    rw [show d + 1 + 1 + e = (d + 1 + e) + 1 by omega, L_gX2_line_21]
    have x0 := x.1.2 0 (by omega)
    rw [tcell_0] at x0
    refine ⟨T 1, Or.inl ⟨_, x0, rfl⟩, br_f ?_ (jn_i ?_)⟩
    · rw [ht1]; exact nI_ge (by omega) (by omega)
    sorry
end LL
