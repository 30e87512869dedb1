/-! PURE: what is known behind trying all: how many, the least, how many have it, the first -/
abbrev GS : Type := Nat × Nat × Int × (Nat → Nat)
def gst (cs : (Nat → Nat) → Int) (s : GS) (w : Nat → Nat) : GS :=
  (s.1 + 1, if cs w < s.2.2.1 then 1 else if cs w = s.2.2.1 then s.2.1 + 1 else s.2.1, if cs w < s.2.2.1 then cs w else s.2.2.1, if cs w < s.2.2.1 then w else s.2.2.2)
def gfold (cs : (Nat → Nat) → Int) (D : Int) (w0 : Nat → Nat) (L : List (Nat → Nat)) : GS := L.foldl (gst cs) (0, 0, D, w0)
def lmin (cs : (Nat → Nat) → Int) (D : Int) (L : List (Nat → Nat)) : Int := L.foldl (fun b w => if cs w < b then cs w else b) D
def GInv (cs : (Nat → Nat) → Int) (D : Int) (L : List (Nat → Nat)) (s : GS) : Prop :=
  s.1 = L.length ∧ (L = [] → s.2.2.1 = D) ∧ (∀ w ∈ L, s.2.2.1 ≤ cs w) ∧ (L ≠ [] → ∃ w ∈ L, cs w = s.2.2.1) ∧ s.2.1 = L.countP fun w => cs w == s.2.2.1
theorem GInv.step {cs : (Nat → Nat) → Int} {D : Int} {L : List (Nat → Nat)} {s : GS} (h : GInv cs D L s) {w : Nat → Nat} (hw : cs w < D) : GInv cs D (L ++ [w]) (gst cs s w) := by
  obtain ⟨h1, h2, h3, h4, h5⟩ := h
  refine ⟨?_, fun q => ?_, fun v hv => ?_, fun _ => ?_, ?_⟩
  · show s.1 + 1 = _; rw [List.length_append, h1]; rfl
  · simp at q
  · show (if cs w < s.2.2.1 then cs w else s.2.2.1) ≤ cs v
    rcases List.mem_append.mp hv with q | q
    · have := h3 v q; split <;> omega
    · have e : v = w := by simpa using q
      subst e; split <;> omega
  · show ∃ v ∈ L ++ [w], cs v = if cs w < s.2.2.1 then cs w else s.2.2.1
    split
    · exact ⟨w, by simp, rfl⟩
    · rename_i hx
      have hL : L ≠ [] := fun e => hx (by rw [h2 e]; exact hw)
      obtain ⟨v, g1, g2⟩ := h4 hL
      exact ⟨v, by simp [g1], g2⟩
  · show (if cs w < s.2.2.1 then 1 else if cs w = s.2.2.1 then s.2.1 + 1 else s.2.1) = (L ++ [w]).countP fun v => cs v == if cs w < s.2.2.1 then cs w else s.2.2.1
    rw [List.countP_append]
    by_cases hx : cs w < s.2.2.1
    · rw [if_pos hx, if_pos hx]
      have : L.countP (fun v => cs v == cs w) = 0 := List.countP_eq_zero.mpr fun v hv => by
        have := h3 v hv
        have : ¬ cs v = cs w := by omega
        simpa using this
      rw [this]; simp
    · rw [if_neg hx, if_neg hx]
      by_cases hy : cs w = s.2.2.1
      · rw [if_pos hy, h5]; simp [hy]
      · rw [if_neg hy, h5]; simp [hy]
theorem gfold_inv {cs : (Nat → Nat) → Int} {D : Int} {w0 : Nat → Nat} {L : List (Nat → Nat)} (h : ∀ w ∈ L, cs w < D) : GInv cs D L (gfold cs D w0 L) := by
  have key : ∀ (L2 L1 : List (Nat → Nat)) (s : GS), GInv cs D L1 s → (∀ w ∈ L2, cs w < D) → GInv cs D (L1 ++ L2) (L2.foldl (gst cs) s) := by
    intro L2
    induction L2 with
    | nil => intro L1 s hs _; rw [List.append_nil]; exact hs
    | cons w L2 ih =>
      intro L1 s hs hL
      have := ih (L1 ++ [w]) (gst cs s w) (hs.step (hL w (by simp))) (fun v hv => hL v (by simp [hv]))
      rw [List.append_assoc] at this
      exact this
  have := key L [] (0, 0, D, w0) ⟨rfl, fun _ => rfl, fun w hw => (by cases hw), fun q => absurd rfl q, rfl⟩ h
  rw [List.nil_append] at this
  exact this
theorem lmin_le {cs : (Nat → Nat) → Int} : ∀ (L : List (Nat → Nat)) (D : Int), lmin cs D L ≤ D ∧ ∀ w ∈ L, lmin cs D L ≤ cs w
  | [], D => ⟨Int.le_refl _, fun w hw => (by cases hw)⟩
  | v :: L, D => by
    obtain ⟨h1, h2⟩ := lmin_le (cs := cs) L (if cs v < D then cs v else D)
    have e : lmin cs D (v :: L) = lmin cs (if cs v < D then cs v else D) L := rfl
    rw [e]
    have h3 : lmin cs (if cs v < D then cs v else D) L ≤ D ∧ lmin cs (if cs v < D then cs v else D) L ≤ cs v := by
      by_cases hx : cs v < D
      · rw [if_pos hx] at h1 ⊢; omega
      · rw [if_neg hx] at h1 ⊢; omega
    refine ⟨h3.1, fun w hw => ?_⟩
    rcases List.mem_cons.mp hw with q | q
    · subst q; exact h3.2
    · exact h2 w q
theorem lmin_is {cs : (Nat → Nat) → Int} : ∀ (L : List (Nat → Nat)) (D : Int), lmin cs D L = D ∨ ∃ w ∈ L, cs w = lmin cs D L
  | [], D => Or.inl rfl
  | v :: L, D => by
    have e : lmin cs D (v :: L) = lmin cs (if cs v < D then cs v else D) L := rfl
    rw [e]
    rcases lmin_is (cs := cs) L (if cs v < D then cs v else D) with h | ⟨w, h1, h2⟩
    · by_cases hx : cs v < D
      · rw [if_pos hx] at h ⊢; exact Or.inr ⟨v, by simp, h.symm⟩
      · rw [if_neg hx] at h ⊢; exact Or.inl h
    · exact Or.inr ⟨w, by simp [h1], h2⟩
theorem gfold_least {cs : (Nat → Nat) → Int} {D : Int} {w0 : Nat → Nat} : ∀ (L : List (Nat → Nat)), (gfold cs D w0 L).2.2.1 = lmin cs D L := by
  have key : ∀ (L : List (Nat → Nat)) (s : GS), (L.foldl (gst cs) s).2.2.1 = L.foldl (fun b w => if cs w < b then cs w else b) s.2.2.1 := by
    intro L
    induction L with
    | nil => intro s; rfl
    | cons w L ih => intro s; exact ih (gst cs s w)
  exact fun L => key L _
theorem foldl_filter {α : Type} {g : α → (Nat → Nat) → α} {p : (Nat → Nat) → Bool} : ∀ (L : List (Nat → Nat)) (s : α), (L.filter p).foldl g s = L.foldl (fun s w => if p w = true then g s w else s) s
  | [], _ => rfl
  | w :: L, s => by
    by_cases h : p w = true
    · rw [List.filter_cons_of_pos h]
      show (L.filter p).foldl g (g s w) = L.foldl _ (if p w = true then g s w else s)
      rw [if_pos h]; exact foldl_filter L _
    · rw [List.filter_cons_of_neg h]
      show (L.filter p).foldl g s = L.foldl _ (if p w = true then g s w else s)
      rw [if_neg h]; exact foldl_filter L _
/-- a pair is in all that cost the least: two ways to see it -/
theorem needed {cs : (Nat → Nat) → Int} {D : Int} {w0 w1 : Nat → Nat} {L : List (Nat → Nat)} (h : ∀ w ∈ L, cs w < D) (p : (Nat → Nat) → Bool) :
    ((gfold cs D w1 (L.filter p)).1 ≠ 0 ∧ (gfold cs D w1 (L.filter p)).2.2.1 = (gfold cs D w0 L).2.2.1 ∧ (gfold cs D w1 (L.filter p)).2.1 = (gfold cs D w0 L).2.1) ↔ ((gfold cs D w0 L).1 ≠ 0 ∧ (gfold cs D w0 L).2.2.1 < lmin cs D (L.filter fun w => !p w)) := by
  obtain ⟨a1, a2, a3, a4, a5⟩ := gfold_inv (w0 := w0) h
  obtain ⟨b1, b2, b3, b4, b5⟩ := gfold_inv (w0 := w1) (L := L.filter p) (fun w hw => h w (List.mem_filter.mp hw).1)
  generalize gfold cs D w0 L = s at *
  generalize gfold cs D w1 (L.filter p) = t at *
  have hcnt : ∀ v : Int, L.countP (fun w => cs w == v) = (L.filter p).countP (fun w => cs w == v) + (L.filter fun w => !p w).countP (fun w => cs w == v) := fun v => by
    rw [List.countP_filter, List.countP_filter]
    clear a1 a2 a3 a4 a5 b1 b2 b3 b4 b5 h
    induction L with
    | nil => rfl
    | cons w L ih =>
      simp only [List.countP_cons]
      rw [ih]
      cases p w <;> cases (cs w == v) <;> simp <;> omega
  have hlen : L = [] ↔ L.length = 0 := List.length_eq_zero_iff.symm
  constructor
  · rintro ⟨g1, g2, g3⟩
    have hf : L.filter p ≠ [] := fun e => g1 (by rw [b1, e]; rfl)
    have hL : L ≠ [] := fun e => hf (by rw [e]; rfl)
    refine ⟨fun e => hL (hlen.mpr (by omega)), ?_⟩
    have hz : (L.filter fun w => !p w).countP (fun w => cs w == s.2.2.1) = 0 := by
      have := hcnt s.2.2.1
      rw [g2] at b5
      omega
    rcases lmin_is (cs := cs) (L.filter fun w => !p w) D with e | ⟨w, e1, e2⟩
    · rw [e]
      obtain ⟨w, x1, x2⟩ := a4 hL
      rw [← x2]; exact h w x1
    · rw [← e2]
      have x1 := a3 w (List.mem_filter.mp e1).1
      have x2 : ¬ cs w = s.2.2.1 := by
        have := List.countP_eq_zero.mp hz w e1
        simpa using this
      omega
  · rintro ⟨g1, g2⟩
    have hL : L ≠ [] := fun e => g1 (by rw [a1, e]; rfl)
    obtain ⟨w, x1, x2⟩ := a4 hL
    have hl := lmin_le (cs := cs) (L.filter fun w => !p w) D
    have hz : (L.filter fun w => !p w).countP (fun w => cs w == s.2.2.1) = 0 := List.countP_eq_zero.mpr fun v hv => by
      have := hl.2 v hv
      have : ¬ cs v = s.2.2.1 := by omega
      simpa using this
    have hw : w ∈ L.filter p := by
      refine List.mem_filter.mpr ⟨x1, ?_⟩
      cases hp : p w with
      | true => rfl
      | false =>
        have := hl.2 w (List.mem_filter.mpr ⟨x1, by simp [hp]⟩)
        omega
    have hf : L.filter p ≠ [] := fun e => by rw [e] at hw; cases hw
    have g3 : t.2.2.1 = s.2.2.1 := by
      have y1 := b3 w hw
      obtain ⟨v, y2, y3⟩ := b4 hf
      have y4 := a3 v (List.mem_filter.mp y2).1
      omega
    refine ⟨fun e => hf (List.length_eq_zero_iff.mp (by omega)), g3, ?_⟩
    have := hcnt s.2.2.1
    rw [g3] at b5
    omega
