/-! builders that hold a list of letters -/
set_option maxRecDepth 100000
def tl (L : List Nat) : Nat → Nat := fun i => L.getD i 0
def dec (v : Nat) : List Nat := (List.range (sb_dg v)).map (sb_dec v)
theorem dec_len (v : Nat) : (dec v).length = sb_dg v := by simp [dec]
theorem tl_app_lo {A B : List Nat} {i : Nat} (h : i < A.length) : tl (A ++ B) i = tl A i := by
  unfold tl; simp [List.getD_eq_getElem?_getD, List.getElem?_append_left h]
theorem tl_app_hi {A B : List Nat} {i : Nat} (h : A.length ≤ i) : tl (A ++ B) i = tl B (i - A.length) := by
  unfold tl; simp [List.getD_eq_getElem?_getD, List.getElem?_append_right h]
theorem tl_dec {v i : Nat} (h : i < sb_dg v) : tl (dec v) i = sb_dec v i := by
  unfold tl dec; simp [List.getD_eq_getElem?_getD, h]
theorem tl_cat {A B : List Nat} {t : Nat → Nat} (hB : ∀ i, i < B.length → t i = tl B i) {i : Nat} (hi : i < (A ++ B).length) : tl (A ++ B) i = sb_cat (tl A) A.length t i := by
  rw [List.length_append] at hi
  unfold sb_cat
  by_cases h : i < A.length
  · rw [if_pos h, tl_app_lo h]
  · rw [if_neg h, tl_app_hi (by omega), hB _ (by omega)]
/-- a builder that holds the letters L -/
def SBL (G : GT) (h : AH) (a b k : Nat) (ml : Int32) (L : List Nat) : Prop := ∃ (m : Nat) (f : Nat → Int32), SBA G h a b k ml m L.length f (tl L)
theorem SBL.of {G : GT} {h : AH} {a b k : Nat} {ml : Int32} {m n : Nat} {f : Nat → Int32} {t : Nat → Nat} {L : List Nat} (x : SBA G h a b k ml m n f t) (hn : L.length = n) (ht : ∀ i, i < n → tl L i = t i) : SBL G h a b k ml L := by
  subst hn
  obtain ⟨x1, x2, x3, x4, x5, x6⟩ := x
  exact ⟨m, f, x1, x2, x3, x4, x5.congr ht, x6⟩
section TX2
variable {G : GT} {h : AH} {c s a b : Nat} {ml : Int32} {L : List Nat}
theorem l_appendI (hB : BaseF G) {P : Nat → AH → Prop} {v : Nat} (x : SBL G h a b 0 ml L) (hn : L.length + sb_dg v ≤ 60) (hv : v < 1000) (hc : 1 ≤ c) (hs : 240 ≤ s)
    (hP : ∀ (h' : AH) (b' : Nat), SBL G h' a b' 0 ml (L ++ dec v) → Keep (fun y => y = a ∨ y = b) h h' → (b' = b ∨ h b' = none) → P a h') : F_gJ3_append_2 G (h, c, s) a (nI v) P := by
  obtain ⟨m, f, x⟩ := x
  refine s_appendI hB x hn hv hc hs (fun h' b' m' f' q1 q2 q3 => hP h' b' (SBL.of q1 ?_ (fun i hi => ?_)) q2 q3)
  · rw [List.length_append, dec_len]
  · exact tl_cat (fun j hj => (tl_dec (by rw [dec_len] at hj; exact hj)).symm) (by rw [List.length_append, dec_len]; exact hi)
theorem l_append3 (hB : BaseF G) {P : Nat → AH → Prop} {k ch : Nat} (x : SBL G h a b k ml L) (hn : L.length < 60) (hch : ch < 65536) (hc : 2 ≤ c) (hs : 480 ≤ s)
    (hP : ∀ (h' : AH) (b' k' : Nat), SBL G h' a b' k' ml (L ++ [ch]) → (k = 0 → ch < 256 → k' = 0) → Keep (fun y => y = a ∨ y = b) h h' → (b' = b ∨ h b' = none) → P a h') : F_gJ3_append_3 G (h, c, s) a (nI ch) P := by
  obtain ⟨m, f, x⟩ := x
  refine s_append3 hB x hn hch hc hs (fun h' b' k' m' f' q1 q2 q3 q4 => hP h' b' k' (SBL.of q1 (by simp) (fun i hi => ?_)) q2 q3 q4)
  unfold tcat
  by_cases h1 : i < L.length
  · rw [if_pos h1, tl_app_lo h1]
  · rw [if_neg h1, tl_app_hi (by omega), show i - L.length = 0 by omega]; rfl
theorem l_appendS (hB : BaseF G) {P : Nat → AH → Prop} {q bs : Nat} {fs : Nat → Int32} {ts : Nat → Nat} {B : List Nat} (x : SBL G h a b 0 ml L) (xs : StrA G h q bs 0 B.length fs ts) (hts : ∀ i, i < B.length → ts i = tl B i) (hn : L.length + B.length ≤ 60) (hw : B.length ≤ 16) (hc : 1 ≤ c) (hs : 240 ≤ s)
    (hP : ∀ (h' : AH) (b' : Nat), SBL G h' a b' 0 ml (L ++ B) → Keep (fun y => y = a ∨ y = b) h h' → (b' = b ∨ h b' = none) → P a h') : F_gJ3_append G (h, c, s) a q P := by
  obtain ⟨m, f, x⟩ := x
  refine s_appendS hB x xs hn hw hc hs (fun h' b' m' f' q1 q2 q3 => hP h' b' (SBL.of q1 (by rw [List.length_append]) (fun i hi => ?_)) q2 q3)
  exact tl_cat hts (by rw [List.length_append]; exact hi)
end TX2
