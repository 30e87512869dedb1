/-! Town.line: the letters -/
set_option maxRecDepth 100000
def pieceL (T : TS) (ap j : Nat) : List Nat := (if j = 0 then [] else [32]) ++ ((if T (6 + 6 * ap + j) = -1 then [45] else dec (T (6 + 6 * ap + j)).toNatClampNeg) ++ (if T (84 + ap) = nI j then [42] else []))
def lineP (T : TS) (ap : Nat) : Nat → List Nat
  | 0 => dec ap ++ [58]
  | j + 1 => lineP T ap j ++ pieceL T ap j
theorem dec_le {v : Nat} (hv : v < 100) : (dec v).length ≤ 2 := by
  rw [dec_len]; unfold sb_dg
  by_cases h1 : v < 10
  · rw [if_pos h1]; omega
  · rw [if_neg h1, if_pos hv]; omega
theorem piece_len {Y : Int} {n k : Nat} {T : TS} (hI : IT Y n k T) {ap j : Nat} (ha : ap < 6) (hj : j < 6) : (pieceL T ap j).length ≤ 4 := by
  unfold pieceL
  rw [List.length_append, List.length_append]
  have h1 : (if j = 0 then ([] : List Nat) else [32]).length ≤ 1 := by by_cases h : j = 0 <;> simp [h]
  have h3 : (if T (84 + ap) = nI j then ([42] : List Nat) else []).length ≤ 1 := by by_cases h : T (84 + ap) = nI j <;> simp [h]
  have h2 : (if T (6 + 6 * ap + j) = -1 then ([45] : List Nat) else dec (T (6 + 6 * ap + j)).toNatClampNeg).length ≤ 2 := by
    by_cases h : T (6 + 6 * ap + j) = -1
    · rw [if_pos h]; simp
    · rw [if_neg h]
      have := (hI.cost ha hj).resolve_left h
      refine dec_le ?_
      have h4 : (T (6 + 6 * ap + j)).toNatClampNeg = (cT T ap j).toNat := rfl
      omega
  omega
theorem lineP_len {Y : Int} {n k : Nat} {T : TS} (hI : IT Y n k T) {ap : Nat} (ha : ap < 6) : ∀ j, j ≤ 6 → (lineP T ap j).length ≤ 3 + 4 * j
  | 0, _ => by
    have := dec_le (v := ap) (by omega)
    simp only [lineP, List.length_append, List.length_cons, List.length_nil]; omega
  | j + 1, hj => by
    have h1 := lineP_len hI ha j (by omega)
    have h2 := piece_len hI ha (j := j) (by omega)
    simp only [lineP, List.length_append]; omega
section LI
variable {G : GT} {c s : Nat}
theorem lit_empty {G : GT} {q b : Nat} {f : Nat → Int32} {L : List Nat} {tx : String} (x : StrL G q b 0 tx.length f (txt tx)) (hl : L.length = tx.length) (ht : ∀ i, i < L.length → txt tx i = tl L i) (h : AH) : StrA G h q b 0 L.length f (tl L) := by
  obtain ⟨x1, x2, x3, x4, x5, x6⟩ := x
  rw [← hl] at x4 x5
  exact Or.inr ⟨x1, x2, x3, x4, x5.congr (fun j hj => (ht j hj).symm), x6⟩
/-- what a line's loop keeps: the town, the builder, and that they are apart -/
def LInv (G : GT) (h : AH) (ad : Nat → Nat) (T : TS) (a b : Nat) (L : List Nat) : Prop := TC G h ad T ∧ SBL G h a b 0 0 L ∧ ∀ k, k < 18 → ad k ≠ a ∧ ad k ≠ b
theorem LInv.next {h h' : AH} {ad : Nat → Nat} {T : TS} {a b b' : Nat} {L L' : List Nat} (x : LInv G h ad T a b L) (y : SBL G h' a b' 0 0 L') (kp : Keep (fun y => y = a ∨ y = b) h h') (hb : b' = b ∨ h b' = none) : LInv G h' ad T a b' L' := by
  obtain ⟨x1, x2, x3⟩ := x
  refine ⟨x1.keep kp (fun k hk w => w.elim (x3 k hk).1 (x3 k hk).2), y, fun k hk => ⟨(x3 k hk).1, fun z => ?_⟩⟩
  rcases hb with rfl | hb
  · exact (x3 k hk).2 z
  · have := x1.2 k hk; rw [z, hb] at this; cases this
theorem LInv.kept {h h' : AH} {ad : Nat → Nat} {T : TS} {a b : Nat} {L : List Nat} (x : LInv G h ad T a b L) (kp : Keep (fun _ => False) h h') : LInv G h' ad T a b L := by
  obtain ⟨x1, ⟨m, f, x2⟩, x3⟩ := x
  exact ⟨x1.keep kp (fun _ _ w => w), ⟨m, f, x2.keep kp (fun w => w) (fun w => w)⟩, x3⟩
end LI
