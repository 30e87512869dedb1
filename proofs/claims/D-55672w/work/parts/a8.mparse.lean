/-! PURE: texts. A place and whether all went well so far; the model reads orders -/
abbrev PT : Type := Nat × Bool
def chr (tx : Nat → Int32) (len p : Nat) : Int32 := if p < len then tx p else -1
def nd (tx : Nat → Int32) (len : Nat) (c : Int32) (s : PT) : PT := if s.2 = true then (if chr tx len s.1 = c then (s.1 + 1, true) else (s.1, false)) else s
def nds (tx : Nat → Int32) (len : Nat) : List Int32 → PT → PT
  | [], s => s
  | c :: l, s => nds tx len l (nd tx len c s)
abbrev isdg (x : Int32) : Prop := 48 ≤ x ∧ x ≤ 57
def nm1 (tx : Nat → Int32) (len : Nat) (s : PT) : Int32 × PT := if s.2 = true then (if isdg (chr tx len s.1) then (chr tx len s.1 - 48, (s.1 + 1, true)) else (0, (s.1, false))) else (0, s)
def nm2 (tx : Nat → Int32) (len : Nat) (s : PT) : Int32 × PT := if s.2 = true then (if isdg (chr tx len s.1) then (if isdg (chr tx len (s.1 + 1)) then (10 * (chr tx len s.1 - 48) + (chr tx len (s.1 + 1) - 48), (s.1 + 2, true)) else (chr tx len s.1 - 48, (s.1 + 1, true))) else (0, (s.1, false))) else (0, s)
/-- the word behind a letter: the order's own letter, the place -/
def wrd (tx : Nat → Int32) (len : Nat) (c : Int32) (s : PT) : Int32 × PT :=
  if c = 97 then (97, nds tx len [112, 112, 114, 101, 110, 116, 105, 99, 101] s) else if c = 99 then (99, nds tx len [111, 115, 116] s) else if c = 108 then (108, nds tx len [101, 97, 118, 101] s)
  else if c = 109 then (109, nds tx len [97, 115, 116, 101, 114] s) else if c = 115 then (115, nds tx len [101, 116, 116, 108, 101] s) else if c = 121 then (121, nds tx len [101, 97, 114] s)
  else if chr tx len s.1 = 105 then (105, nds tx len [105, 100] s) else (c, nds tx len [97, 114] s)
abbrev isLet (c : Int32) : Prop := c = 97 ∨ c = 109 ∨ c = 99 ∨ c = 98 ∨ c = 115 ∨ c = 108 ∨ c = 121
abbrev plain (c : Int32) : Prop := c = 97 ∨ c = 109 ∨ c = 105 ∨ c = 115 ∨ c = 121
def od1 (tx : Nat → Int32) (len p : Nat) : OD × PT :=
  if ¬ isLet (chr tx len p) then ((0, 0, 0, 0), (p, false)) else
  if plain (wrd tx len (chr tx len p) (p + 1, true)).1 then (((wrd tx len (chr tx len p) (p + 1, true)).1, 0, 0, 0), (wrd tx len (chr tx len p) (p + 1, true)).2) else
  if (wrd tx len (chr tx len p) (p + 1, true)).1 = 108 then ((108, (nm1 tx len (nd tx len 32 (wrd tx len (chr tx len p) (p + 1, true)).2)).1, 0, 0), (nm1 tx len (nd tx len 32 (wrd tx len (chr tx len p) (p + 1, true)).2)).2) else
  if (wrd tx len (chr tx len p) (p + 1, true)).1 = 99 then ((99, (nm1 tx len (nd tx len 32 (wrd tx len (chr tx len p) (p + 1, true)).2)).1, (nm1 tx len (nm1 tx len (nd tx len 32 (wrd tx len (chr tx len p) (p + 1, true)).2)).2).1, (nm2 tx len (nd tx len 61 (nm1 tx len (nm1 tx len (nd tx len 32 (wrd tx len (chr tx len p) (p + 1, true)).2)).2).2)).1), (nm2 tx len (nd tx len 61 (nm1 tx len (nm1 tx len (nd tx len 32 (wrd tx len (chr tx len p) (p + 1, true)).2)).2).2)).2) else
  (((wrd tx len (chr tx len p) (p + 1, true)).1, (nm1 tx len (nd tx len 32 (wrd tx len (chr tx len p) (p + 1, true)).2)).1, (nm1 tx len (nm1 tx len (nd tx len 32 (wrd tx len (chr tx len p) (p + 1, true)).2)).2).1, 0), (nm1 tx len (nm1 tx len (nd tx len 32 (wrd tx len (chr tx len p) (p + 1, true)).2)).2).2)
def pwh (tx : Nat → Int32) (len : Nat) : Nat → PT → List OD → List OD × PT
  | 0, s, L => (L, s)
  | f + 1, s, L => if s.2 = true ∧ chr tx len s.1 = 59 then pwh tx len f (od1 tx len (s.1 + 1)).2 (L ++ [(od1 tx len (s.1 + 1)).1]) else (L, s)
def prs (tx : Nat → Int32) (len : Nat) : List OD × PT :=
  if (pwh tx len 61 (od1 tx len 0).2 [(od1 tx len 0).1]).2.2 = true ∧ (pwh tx len 61 (od1 tx len 0).2 [(od1 tx len 0).1]).2.1 < len then ((pwh tx len 61 (od1 tx len 0).2 [(od1 tx len 0).1]).1, ((pwh tx len 61 (od1 tx len 0).2 [(od1 tx len 0).1]).2.1, false)) else pwh tx len 61 (od1 tx len 0).2 [(od1 tx len 0).1]
/-! the model's state of reading -/
def ftI (s : PT) : Int32 := if s.2 = true then -1 else nI s.1
def pst (S : MS) (s : PT) : MS := sput (sput S 0 16 (nI s.1)) 0 17 (ftI s)
def TX (S : MS) (tx : Nat → Int32) (len : Nat) : Prop := S 0 15 = nI len ∧ len ≤ 60 ∧ ∀ i, i < len → S 4 i = tx i ∧ 0 ≤ (tx i).toInt
section PSS
variable {S : MS} {tx : Nat → Int32} {len : Nat} {s : PT}
theorem pst16 : pst S s 0 16 = nI s.1 := by unfold pst; rw [sput_self, pk_un (by decide), sput_self, pk_us]
theorem pst17 : pst S s 0 17 = ftI s := by unfold pst; rw [sput_self, pk_us]
theorem pst0 {j : Nat} (h1 : j ≠ 16) (h2 : j ≠ 17) : pst S s 0 j = S 0 j := by unfold pst; rw [sput_self, pk_un h2, sput_self, pk_un h1]
theorem pst_ne {i : Nat} (h : i ≠ 0) : pst S s i = S i := by unfold pst; rw [sput_ne h, sput_ne h]
theorem sput0_comm {i j : Nat} {v w : Int32} (h : i ≠ j) : sput (sput S 0 i v) 0 j w = sput (sput S 0 j w) 0 i v := by
  funext a
  unfold sput
  by_cases ha : a = 0
  · subst ha
    simp only [if_true]
    funext b
    unfold upd
    by_cases h1 : b = j
    · subst h1
      have : ¬ b = i := fun q => h q.symm
      simp [this]
    · simp [h1]
  · simp [ha]
theorem sput_comm {i j a : Nat} {v w : Int32} (h : a ≠ 0) : sput (sput S 0 i v) a j w = sput (sput S a j w) 0 i v := by
  funext b
  unfold sput
  by_cases hb : b = a
  · subst hb; simp [h]
  · by_cases h0 : b = 0
    · subst h0; simp [hb]
    · simp [hb, h0]
theorem pst_put {a j : Nat} {v : Int32} (h : a ≠ 0) : sput (pst S s) a j v = pst (sput S a j v) s := by unfold pst; rw [sput_comm h, sput_comm h]
theorem pst_put0 {j : Nat} {v : Int32} (h1 : j ≠ 16) (h2 : j ≠ 17) : sput (pst S s) 0 j v = pst (sput S 0 j v) s := by unfold pst; rw [sput0_comm h2.symm, sput0_comm h1.symm]
theorem pst_next {p : Nat} : sput (pst S (p, true)) 0 16 (nI (p + 1)) = pst S (p + 1, true) := by
  unfold pst; rw [sput0_comm (by decide), sput0_sput0]; rfl
theorem pst_fault {p : Nat} : sput (pst S (p, true)) 0 17 (nI p) = pst S (p, false) := by unfold pst; rw [sput0_sput0]; rfl
theorem TX.put (h : TX S tx len) {j : Nat} {v : Int32} : TX (sput S 5 j v) tx len := ⟨by rw [sput_ne (by decide)]; exact h.1, h.2.1, fun i hi => by rw [sput_ne (by decide)]; exact h.2.2 i hi⟩
theorem TX.put0 (h : TX S tx len) {j : Nat} {v : Int32} (hj : j ≠ 15) : TX (sput S 0 j v) tx len := ⟨by rw [sput_self, pk_un hj.symm]; exact h.1, h.2.1, fun i hi => by rw [sput_ne (by decide)]; exact h.2.2 i hi⟩
theorem ft_neg (hs : s.1 ≤ 60) : (ftI s < 0 ↔ s.2 = true) ∧ (0 ≤ ftI s ↔ ¬ s.2 = true) := by
  unfold ftI
  by_cases h : s.2 = true
  · rw [if_pos h]
    exact ⟨⟨fun _ => h, fun _ => (by decide : (-1 : Int32) < 0)⟩, ⟨fun q => absurd q (by decide : ¬ (0 : Int32) ≤ -1), fun q => absurd h q⟩⟩
  · rw [if_neg h]
    exact ⟨⟨fun q => absurd q (nI_pos (by omega)), fun q => absurd q h⟩, fun _ => h, fun _ => nI_pos' (by omega)⟩
theorem chr_lt {p : Nat} (h : TX S tx len) {c : Int32} (hc : 0 ≤ c.toInt) (e : chr tx len p = c) : p < len := by
  unfold chr at e
  by_cases q : p < len
  · exact q
  · rw [if_neg q] at e
    have : (-1 : Int32).toInt = c.toInt := congrArg Int32.toInt e
    have h1 : (-1 : Int32).toInt = -1 := by decide
    omega
theorem s_msign {P : Int32 → MS → Prop} (h : TX S tx len) (hs : s.1 ≤ len) (hP : P (chr tx len s.1) (pst S s)) : F_msign (pst S s) P := by
  obtain ⟨h1, h2, h3⟩ := h
  unfold F_msign
  rw [pst16, pst0 (by decide) (by decide), h1, pst_ne (by decide), nI_leI (by omega) (by omega)]
  unfold chr at hP
  refine ⟨fun q => by rw [if_neg (by omega)] at hP; exact hP, fun q => ⟨vp_in_nI (by omega) (by decide), ?_⟩⟩
  rw [if_pos (by omega)] at hP
  rw [nI_clamp (by omega), (h3 s.1 (by omega)).1]; exact hP
theorem nd_le {c : Int32} (h : TX S tx len) (hc : 0 ≤ c.toInt) (hs : s.1 ≤ len) : (nd tx len c s).1 ≤ len ∧ s.1 ≤ (nd tx len c s).1 := by
  unfold nd
  split
  · split
    · exact ⟨chr_lt h hc (by assumption), Nat.le_succ _⟩
    · exact ⟨hs, Nat.le_refl _⟩
  · exact ⟨hs, Nat.le_refl _⟩
theorem s_mneeds {P : MS → Prop} {c : Int32} (h : TX S tx len) (hs : s.1 ≤ len) (hP : P (pst S (nd tx len c s))) : F_mneeds (pst S s) c P := by
  have hl := h.2.1
  unfold F_mneeds
  rw [pst17, (ft_neg (by omega)).1]
  unfold nd at hP
  refine ⟨fun q => s_msign h hs ?_, fun q => by rw [if_neg q] at hP; exact hP⟩
  rw [if_pos q] at hP
  obtain ⟨p, b⟩ := s
  dsimp only at q hP hs ⊢
  subst q
  refine ⟨fun e => nm_i ?_, fun e => nm_i ?_⟩
  · rw [if_pos e] at hP
    rw [pst16, nI_1, pst_next]; exact hP
  · rw [if_neg e] at hP
    rw [pst16, pst_fault]; exact hP
theorem nds_le (h : TX S tx len) : ∀ (l : List Int32) (s : PT), (∀ c ∈ l, 0 ≤ c.toInt) → s.1 ≤ len → (nds tx len l s).1 ≤ len ∧ s.1 ≤ (nds tx len l s).1
  | [], s, _, hs => ⟨hs, Nat.le_refl _⟩
  | c :: l, s, hl, hs => by
    obtain ⟨h1, h2⟩ := nd_le h (hl c (by simp)) hs
    obtain ⟨h3, h4⟩ := nds_le h l (nd tx len c s) (fun c hc => hl c (by simp [hc])) h1
    exact ⟨h3, by show s.1 ≤ (nds tx len l (nd tx len c s)).1; omega⟩
theorem s_msigns3 {P : MS → Prop} {a b c : Int32} (h : TX S tx len) (ha : 0 ≤ a.toInt) (hb : 0 ≤ b.toInt) (hc : c ≠ 0) (hs : s.1 ≤ len) (hP : P (pst S (nds tx len [a, b, c] s))) : F_msigns (pst S s) a b c P := by
  unfold F_msigns
  have h1 := (nd_le h ha hs).1
  have h2 := (nd_le h hb h1).1
  exact s_mneeds h hs (s_mneeds h h1 ⟨fun q => absurd q hc, fun _ => s_mneeds h h2 hP⟩)
theorem s_msigns2 {P : MS → Prop} {a b : Int32} (h : TX S tx len) (ha : 0 ≤ a.toInt) (hs : s.1 ≤ len) (hP : P (pst S (nds tx len [a, b] s))) : F_msigns (pst S s) a b 0 P := by
  unfold F_msigns
  have h1 := (nd_le h ha hs).1
  exact s_mneeds h hs (s_mneeds h h1 ⟨fun _ => hP, fun q => (q rfl).elim⟩)
theorem bet_dg {x : Int32} : bet x 48 57 = if isdg x then 1 else 0 := rfl
theorem isdg_lt {p : Nat} (h : TX S tx len) (e : isdg (chr tx len p)) : p < len := by
  unfold chr at e
  by_cases q : p < len
  · exact q
  · rw [if_neg q] at e; exact absurd e.1 (by decide)
theorem nm1_le (h : TX S tx len) (hs : s.1 ≤ len) : (nm1 tx len s).2.1 ≤ len ∧ s.1 ≤ (nm1 tx len s).2.1 := by
  unfold nm1
  split
  · split
    · rename_i e; exact ⟨isdg_lt h e, Nat.le_succ _⟩
    · exact ⟨hs, Nat.le_refl _⟩
  · exact ⟨hs, Nat.le_refl _⟩
theorem nm2_le (h : TX S tx len) (hs : s.1 ≤ len) : (nm2 tx len s).2.1 ≤ len ∧ s.1 ≤ (nm2 tx len s).2.1 := by
  unfold nm2
  split
  · split
    · rename_i e
      split
      · rename_i e2; exact ⟨isdg_lt h e2, by show s.1 ≤ s.1 + 2; omega⟩
      · exact ⟨isdg_lt h e, Nat.le_succ _⟩
    · exact ⟨hs, Nat.le_refl _⟩
  · exact ⟨hs, Nat.le_refl _⟩
theorem t00 {x : Int32} : 10 * 0 + x - 48 = x - 48 := by rw [Int32.mul_zero, Int32.zero_add]
theorem t10 {x y : Int32} : 10 * x + y - 48 = 10 * x + (y - 48) := by rw [Int32.sub_eq_add_neg, Int32.sub_eq_add_neg, Int32.add_assoc]
theorem s_mnumber1 {P : Int32 → MS → Prop} (h : TX S tx len) (hs : s.1 ≤ len) (hP : P (nm1 tx len s).1 (pst S (nm1 tx len s).2)) : F_mnumber (pst S s) 1 P := by
  have hl := h.2.1
  unfold F_mnumber
  rw [pst17, (ft_neg (by omega)).1]
  unfold nm1 at hP
  refine ⟨fun q => s_msign h hs (s_min ?_), fun q => by rw [if_neg q] at hP; exact hP⟩
  rw [if_pos q] at hP
  rw [bet_dg]
  obtain ⟨p, b⟩ := s
  dsimp only at q hP hs ⊢
  subst q
  by_cases e : isdg (chr tx len p)
  · rw [if_pos e] at hP ⊢
    have hp := isdg_lt h e
    refine ⟨fun q => absurd q (by decide), fun _ => ?_⟩
    show L_mnumber_37 P 1 (99998 + 1 + 1) (pst S (p, true)) 0 0
    unfold L_mnumber_37
    refine ⟨fun q => absurd q (by decide), fun _ => s_msign h hs (s_min ?_)⟩
    rw [bet_dg, if_pos e]
    refine ⟨fun q => absurd q (by decide), fun _ => s_msign h hs (nm_i ?_)⟩
    rw [pst16, nI_1, pst_next, t00]
    unfold L_mnumber_37
    exact ⟨fun _ => hP, fun q => absurd (by decide : (1 : Int32) ≤ 0 + 1) q⟩
  · rw [if_neg e] at hP ⊢
    refine ⟨fun _ => nm_i ?_, fun q => (q rfl).elim⟩
    rw [pst16, pst_fault]; exact hP
theorem s_mnumber2 {P : Int32 → MS → Prop} (h : TX S tx len) (hs : s.1 ≤ len) (hP : P (nm2 tx len s).1 (pst S (nm2 tx len s).2)) : F_mnumber (pst S s) 2 P := by
  have hl := h.2.1
  unfold F_mnumber
  rw [pst17, (ft_neg (by omega)).1]
  unfold nm2 at hP
  refine ⟨fun q => s_msign h hs (s_min ?_), fun q => by rw [if_neg q] at hP; exact hP⟩
  rw [if_pos q] at hP
  rw [bet_dg]
  obtain ⟨p, b⟩ := s
  dsimp only at q hP hs ⊢
  subst q
  by_cases e : isdg (chr tx len p)
  · rw [if_pos e] at hP ⊢
    have hp := isdg_lt h e
    refine ⟨fun q => absurd q (by decide), fun _ => ?_⟩
    show L_mnumber_37 P 2 (99997 + 1 + 1 + 1) (pst S (p, true)) 0 0
    unfold L_mnumber_37
    refine ⟨fun q => absurd q (by decide), fun _ => s_msign h hs (s_min ?_)⟩
    rw [bet_dg, if_pos e]
    refine ⟨fun q => absurd q (by decide), fun _ => s_msign h hs (nm_i ?_)⟩
    rw [pst16, nI_1, pst_next, t00]
    have hs1 : (p + 1, true).1 ≤ len := hp
    unfold L_mnumber_37
    refine ⟨fun q => absurd q (by decide), fun _ => s_msign h hs1 (s_min ?_)⟩
    rw [bet_dg]
    dsimp only
    by_cases e2 : isdg (chr tx len (p + 1))
    · rw [if_pos e2] at hP ⊢
      refine ⟨fun q => absurd q (by decide), fun _ => s_msign h hs1 (nm_i ?_)⟩
      rw [pst16, nI_1, pst_next, t10]
      unfold L_mnumber_37
      exact ⟨fun _ => hP, fun q => absurd (by decide : (2 : Int32) ≤ 0 + 1 + 1) q⟩
    · rw [if_neg e2] at hP ⊢
      exact ⟨fun _ => hP, fun q => (q rfl).elim⟩
  · rw [if_neg e] at hP ⊢
    refine ⟨fun _ => nm_i ?_, fun q => (q rfl).elim⟩
    rw [pst16, pst_fault]; exact hP
end PSS
