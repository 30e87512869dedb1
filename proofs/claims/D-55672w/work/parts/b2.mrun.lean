/-! PURE: the model parses and runs -/
/-- what the world beside sees of the model: rows 0 .. 9, the tape, the line, the numbers that matter -/
def Jx (S S' : MS) : Prop := (∀ j, j < 960 → S' 1 j = S 1 j) ∧ S' 4 = S 4 ∧ S' 6 = S 6 ∧ ∀ j, j ≠ 4 → j ≠ 11 → j ≠ 12 → j ≠ 13 → j ≠ 16 → j ≠ 17 → j ≠ 20 → S' 0 j = S 0 j
theorem Jx.rf {S : MS} : Jx S S := ⟨fun _ _ => rfl, rfl, rfl, fun _ _ _ _ _ _ _ _ => rfl⟩
theorem Jx.tr {S S' S'' : MS} (h : Jx S S') (h' : Jx S' S'') : Jx S S'' := ⟨fun j hj => (h'.1 j hj).trans (h.1 j hj), h'.2.1.trans h.2.1, h'.2.2.1.trans h.2.2.1, fun j a b c d e f g => (h'.2.2.2 j a b c d e f g).trans (h.2.2.2 j a b c d e f g)⟩
theorem Jq.x {S S' : MS} (h : Jq S S') : Jx S S' := ⟨fun j hj => h.1 j (by omega), h.2.1, h.2.2.2.1, fun j _ b c d _ _ _ => h.2.2.2.2 j b c d⟩
theorem Jx.put {S S' : MS} (h : Jx S S') {j : Nat} {v : Int32} : Jx (sput S 0 j v) (sput S' 0 j v) := by
  refine ⟨fun i hi => by rw [sput0_1, sput0_1]; exact h.1 i hi, by rw [sput_ne (by decide), sput_ne (by decide)]; exact h.2.1, by rw [sput_ne (by decide), sput_ne (by decide)]; exact h.2.2.1, fun i a b c d e f g => ?_⟩
  rw [sput_self, sput_self]
  by_cases q : i = j
  · subst q; rw [pk_us, pk_us]
  · rw [pk_un q, pk_un q]; exact h.2.2.2 i a b c d e f g
theorem Jx.set {S S' : MS} (h : Jx S S') {T T' : TS} (hT : ∀ j, j < 960 → T' j = T j) : Jx (sset S T) (sset S' T') := by
  refine ⟨fun i hi => by rw [sset_1, sset_1]; exact hT i hi, by rw [sset_ne (by decide), sset_ne (by decide)]; exact h.2.1, by rw [sset_ne (by decide), sset_ne (by decide)]; exact h.2.2.1, fun i a b c d e f g => ?_⟩
  rw [sset_ne (by decide), sset_ne (by decide)]; exact h.2.2.2 i a b c d e f g
theorem Jx.pst {S : MS} {s : PT} : Jx S (pst S s) := ⟨fun j _ => by rw [pst_ne (by decide)], pst_ne (by decide), pst_ne (by decide), fun j _ _ _ _ e f _ => pst0 e f⟩
theorem Jx.ob {S : MS} {c : Nat} {o : OD} : Jx S (ob S c o) := ⟨fun j _ => by rw [ob_ne (by decide), sput0_1], by rw [ob_ne (by decide), sput_ne (by decide)], by rw [ob_ne (by decide), sput_ne (by decide)], fun j _ _ _ _ _ _ g => by rw [ob_ne (by decide), sput_self, pk_un g]⟩
theorem Jx.p20 {S : MS} {v : Int32} : Jx S (sput S 0 20 v) := ⟨fun j _ => by rw [sput0_1], by rw [sput_ne (by decide)], by rw [sput_ne (by decide)], fun j _ _ _ _ _ _ g => by rw [sput_self, pk_un g]⟩
theorem Jx.p4 {S : MS} {v : Int32} : Jx S (sput S 0 4 v) := ⟨fun j _ => by rw [sput0_1], by rw [sput_ne (by decide)], by rw [sput_ne (by decide)], fun j g _ _ _ _ _ _ => by rw [sput_self, pk_un g]⟩
def obsL (S : MS) : List OD → Nat → MS
  | [], _ => S
  | o :: l, c => obsL (ob S c o) l (c + 1)
theorem obsL_snoc {o : OD} : ∀ (l : List OD) (S : MS) (c : Nat), obsL S (l ++ [o]) c = ob (obsL S l c) (c + l.length) o
  | [], S, c => rfl
  | x :: l, S, c => by
    show obsL (ob S c x) (l ++ [o]) (c + 1) = ob (obsL (ob S c x) l (c + 1)) (c + (l.length + 1)) o
    rw [obsL_snoc l, show c + 1 + l.length = c + (l.length + 1) by omega]
theorem obsL_x : ∀ (l : List OD) (S : MS) (c : Nat), Jx S (obsL S l c)
  | [], S, c => Jx.rf
  | x :: l, S, c => Jx.ob.tr (obsL_x l (ob S c x) (c + 1))
theorem obsL_TX {tx : Nat → Int32} {len : Nat} : ∀ (l : List OD) (S : MS) (c : Nat), TX S tx len → TX (obsL S l c) tx len
  | [], S, c, h => h
  | x :: l, S, c, h => obsL_TX l (ob S c x) (c + 1) h.ob
theorem obsL_20 : ∀ (l : List OD) (S : MS) (c : Nat), S 0 20 = nI c → obsL S l c 0 20 = nI (c + l.length)
  | [], S, c, h => h
  | x :: l, S, c, h => by
    show obsL (ob S c x) l (c + 1) 0 20 = nI (c + (l.length + 1))
    rw [obsL_20 l (ob S c x) (c + 1) (by rw [ob_ne (by decide), sput_self, pk_us]), show c + 1 + l.length = c + (l.length + 1) by omega]
theorem obsL_lo : ∀ (l : List OD) (S : MS) (c j : Nat), j < 4 * c → obsL S l c 5 j = S 5 j
  | [], S, c, j, h => rfl
  | x :: l, S, c, j, h => by
    show obsL (ob S c x) l (c + 1) 5 j = S 5 j
    rw [obsL_lo l (ob S c x) (c + 1) j (by omega), ob_5, if_neg (by omega), if_neg (by omega), if_neg (by omega), if_neg (by omega)]
theorem obsL_at : ∀ (l : List OD) (S : MS) (c i : Nat) (o : OD), l[i]? = some o → obsL S l c 5 (4 * (c + i)) = o.1 ∧ obsL S l c 5 (4 * (c + i) + 1) = o.2.1 ∧ obsL S l c 5 (4 * (c + i) + 2) = o.2.2.1 ∧ obsL S l c 5 (4 * (c + i) + 3) = o.2.2.2
  | [], S, c, i, o, h => by simp at h
  | x :: l, S, c, 0, o, h => by
    have e : x = o := by simpa using h
    subst e
    show obsL (ob S c x) l (c + 1) 5 (4 * (c + 0)) = _ ∧ obsL (ob S c x) l (c + 1) 5 (4 * (c + 0) + 1) = _ ∧ obsL (ob S c x) l (c + 1) 5 (4 * (c + 0) + 2) = _ ∧ obsL (ob S c x) l (c + 1) 5 (4 * (c + 0) + 3) = _
    rw [obsL_lo l _ (c + 1) _ (by omega), obsL_lo l _ (c + 1) _ (by omega), obsL_lo l _ (c + 1) _ (by omega), obsL_lo l _ (c + 1) _ (by omega), ob_5, ob_5, ob_5, ob_5]
    refine ⟨if_pos (by omega), ?_, ?_, ?_⟩
    · rw [if_neg (by omega), if_pos (by omega)]
    · rw [if_neg (by omega), if_neg (by omega), if_pos (by omega)]
    · rw [if_neg (by omega), if_neg (by omega), if_neg (by omega), if_pos (by omega)]
  | x :: l, S, c, i + 1, o, h => by
    have := obsL_at l (ob S c x) (c + 1) i o (by simpa using h)
    rw [show c + 1 + i = c + (i + 1) by omega] at this
    exact this
section PW
variable {tx : Nat → Int32} {len : Nat}
theorem pwh_len {S : MS} (h : TX S tx len) : ∀ (f : Nat) (s : PT) (L : List OD), s.1 ≤ len → L.length ≤ s.1 + 1 → (s.2 = true → ∀ o ∈ L, okO o) → (pwh tx len f s L).2.1 ≤ len ∧ (pwh tx len f s L).1.length ≤ (pwh tx len f s L).2.1 + 1 ∧ ((pwh tx len f s L).2.2 = true → ∀ o ∈ (pwh tx len f s L).1, okO o)
  | 0, s, L, h1, h2, h3 => ⟨h1, h2, h3⟩
  | f + 1, s, L, h1, h2, h3 => by
    unfold pwh
    by_cases q : s.2 = true ∧ chr tx len s.1 = 59
    · rw [if_pos q]
      have hp := chr_lt h (by decide) q.2
      have hl := od1_le h (show s.1 + 1 ≤ len from hp)
      refine pwh_len h f _ _ hl.1 (by rw [List.length_append]; show L.length + 1 ≤ _; omega) (fun e o ho => ?_)
      rcases List.mem_append.mp ho with z | z
      · exact h3 q.1 o z
      · have : o = (od1 tx len (s.1 + 1)).1 := by simpa using z
        rw [this]; exact od1_ok e
    · rw [if_neg q]; exact ⟨h1, h2, h3⟩
theorem s_mparseL {S : MS} (h : TX S tx len) (h20 : S 0 20 = nI 0) {K P : MS → Prop} : ∀ (f : Nat) (s : PT) (L : List OD) (g : Nat), s.1 ≤ len → L.length ≤ s.1 + 1 → len < f + s.1 → f ≤ g → K (pst (obsL S (pwh tx len f s L).1 0) (pwh tx len f s L).2) → L_mparse_19 K P g (pst (obsL S L 0) s)
  | 0, s, L, g, h1, h2, h3, _, _ => by omega
  | f + 1, s, L, 0, h1, h2, h3, h4, h5 => by omega
  | f + 1, s, L, g + 1, h1, h2, h3, h4, h5 => by
    have hl := h.2.1
    unfold pwh at h5
    unfold L_mparse_19
    rw [pst17, (ft_neg (by omega)).2]
    refine ⟨fun q => by rw [if_neg fun z => q z.1] at h5; exact h5, fun q => s_msign (obsL_TX L S 0 h) h1 ⟨fun e => nm_i ?_, fun e => by rw [if_neg fun z => e z.2] at h5; exact h5⟩⟩
    have hs2 : s.2 = true := Classical.byContradiction q
    rw [if_pos ⟨hs2, e⟩] at h5
    have hp := chr_lt h (by decide) e
    obtain ⟨p, b⟩ := s
    dsimp only at hs2 hp h1 h2 h3 h5 ⊢
    subst hs2
    have hod := od1_le h (show p + 1 ≤ len from hp)
    rw [pst16, nI_1, pst_next]
    refine s_morder (cnt := L.length) (obsL_TX L S 0 h) hp (by omega) (by rw [obsL_20 L S 0 h20, Nat.zero_add]) ?_
    have e1 : ob (obsL S L 0) L.length (od1 tx len (p + 1)).1 = obsL S (L ++ [(od1 tx len (p + 1)).1]) 0 := by rw [obsL_snoc, Nat.zero_add]
    rw [e1]
    exact s_mparseL h h20 f _ _ g hod.1 (by rw [List.length_append]; show L.length + 1 ≤ _; omega) (by omega) (by omega) h5
theorem s_mparse {S : MS} (h : TX S tx len) {P : MS → Prop} (hP : P (pst (obsL (sput S 0 20 0) (prs tx len).1 0) (prs tx len).2)) : F_mparse S P := by
  have hl := h.2.1
  unfold F_mparse
  refine nm_i (nm_i (nm_i ?_))
  have e0 : sput (sput (sput S 0 16 0) 0 17 (-1)) 0 20 0 = pst (sput S 0 20 0) (0, true) := pst_put0 (s := (0, true)) (by decide) (by decide)
  rw [e0]
  have hT : TX (sput S 0 20 0) tx len := h.put0 (by decide)
  have h20 : sput S 0 20 0 0 20 = nI 0 := by rw [sput_self, pk_us]; rfl
  have hod := od1_le (p := 0) h (Nat.zero_le _)
  refine s_morder hT (Nat.zero_le _) (by decide) h20 ?_
  have e1 : ob (sput S 0 20 0) 0 (od1 tx len 0).1 = obsL (sput S 0 20 0) [(od1 tx len 0).1] 0 := rfl
  rw [e1]
  unfold prs at hP
  refine s_mparseL hT h20 61 _ _ NF hod.1 (by show 1 ≤ _; omega) (by omega) (Nat.le_of_ble_eq_true rfl) ?_
  have hw := pwh_len h 61 (od1 tx len 0).2 [(od1 tx len 0).1] hod.1 (by show 1 ≤ _; omega) (fun e o ho => by
    have : o = (od1 tx len 0).1 := by simpa using ho
    rw [this]; exact od1_ok e)
  generalize pwh tx len 61 (od1 tx len 0).2 [(od1 tx len 0).1] = r at hP hw ⊢
  obtain ⟨L, s⟩ := r
  dsimp only at hP hw ⊢
  have hTL := obsL_TX L (sput S 0 20 0) 0 hT
  rw [pst17, (ft_neg (by omega)).2, pst16, pst0 (by decide) (by decide), hTL.1, nI_leI (by omega) (by omega)]
  refine ⟨fun q => by rw [if_neg fun z => q z.1] at hP; exact hP, fun q => ⟨fun q2 => by rw [if_neg fun z => by omega] at hP; exact hP, fun q2 => nm_i ?_⟩⟩
  have hs2 : s.2 = true := Classical.byContradiction q
  rw [if_pos ⟨hs2, by omega⟩] at hP
  obtain ⟨p, b⟩ := s
  dsimp only at hs2 hP ⊢
  subst hs2
  rw [pst_fault]; exact hP
theorem prs_ok {S : MS} (h : TX S tx len) : (prs tx len).1.length ≤ 61 ∧ (prs tx len).2.1 ≤ len ∧ ((prs tx len).2.2 = true → ∀ o ∈ (prs tx len).1, okO o) := by
  have hl := h.2.1
  have hod := od1_le (p := 0) h (Nat.zero_le _)
  have hw := pwh_len h 61 (od1 tx len 0).2 [(od1 tx len 0).1] hod.1 (by show 1 ≤ _; omega) (fun e o ho => by
    have : o = (od1 tx len 0).1 := by simpa using ho
    rw [this]; exact od1_ok e)
  unfold prs
  generalize pwh tx len 61 (od1 tx len 0).2 [(od1 tx len 0).1] = r at hw ⊢
  split
  · exact ⟨by dsimp only; omega, hw.1, fun q => by cases q⟩
  · exact ⟨by omega, hw.1, hw.2.2⟩
end PW
/-! the run -/
def runM (L : List OD) (c : Nat) (T1 : TS) (S : MS) (P : Int32 → MS → Prop) : Prop := match rnO 1 L 0 T1 with
  | .inl q => ∀ S', Jx (sput (sput (sput (sput (sput (sput S 0 15 0) 0 7 q.2.1) 0 8 q.2.2) 0 5 10) 0 6 (nI q.1)) 0 0 2) S' → P 0 S'
  | .inr T' => ∀ S', Jx (sset (sput (sput (sput S 0 15 0) 0 0 0) 0 2 (nI (cpl c))) (pushT c T')) S' → P (nI L.length) S'
/-- the model's state while it does orders: like S but for T, and what is kept of looking and telling -/
def Ju (S : MS) (T : TS) (S' : MS) : Prop := S' 1 = T ∧ S' 4 = S 4 ∧ S' 5 = S 5 ∧ S' 6 = S 6 ∧ ∀ j, j ≠ 4 → j ≠ 11 → j ≠ 12 → j ≠ 13 → S' 0 j = S 0 j
theorem s_mrunL {K : MS → Int32 → Prop} {P : Int32 → MS → Prop} {L : List OD} {S0 : MS} (hL : L.length ≤ 61) (h20 : S0 0 20 = nI L.length) (hat : ∀ i o, L[i]? = some o → S0 5 (4 * i) = o.1 ∧ S0 5 (4 * i + 1) = o.2.1 ∧ S0 5 (4 * i + 2) = o.2.2.1 ∧ S0 5 (4 * i + 3) = o.2.2.2) (hok : ∀ o ∈ L, okO o) (hK : ∀ (S' : MS) (T' : TS), Ju S0 T' S' → rnO 1 L 0 (S0 1) = .inr T' → K S' (nI L.length)) (hX : ∀ (S1 S' : MS) (T' : TS) (j : Nat) (r d : Int32), j < L.length → Ju S0 T' S1 → Jk (rfz S1 r d) S' → (∀ i, 96 ≤ i → T' i = S0 1 i) → rnO 1 L 0 (S0 1) = .inl (j, r, d) → K S' (nI j)) : ∀ (l : List OD) (i g : Nat) (S : MS) (T : TS) (Y : Int) (n k : Nat), (∀ q, l[q]? = L[i + q]?) → i + l.length = L.length → l.length < g → Ju S0 T S → IT Y n k T → Y + l.length ≤ 100000 → (∀ q, 96 ≤ q → T q = S0 1 q) → rnO 1 l i T = rnO 1 L 0 (S0 1) → L_mrun_37 K P g S (nI i)
  | l, i, 0, S, T, Y, n, k, _, _, hg, _, _, _, _, _ => absurd hg (Nat.not_lt_zero _)
  | [], i, g + 1, S, T, Y, n, k, hl, hi, hg, hJ, hI, hY, hh, hr => by
    have hi2 : i = L.length := by simpa using hi
    unfold L_mrun_37
    rw [hJ.2.2.2.2 20 (by decide) (by decide) (by decide) (by decide), h20]
    refine ⟨fun _ => ?_, fun q => absurd (by rw [hi2]; exact nI_le (Nat.le_refl _) (by omega)) q⟩
    rw [hi2]
    exact hK S T hJ hr.symm
  | o :: l, i, g + 1, S, T, Y, n, k, hl, hi, hg, hJ, hI, hY, hh, hr => by
    have hi1 : i < L.length := by rw [← hi, List.length_cons]; omega
    have ho : L[i]? = some o := by have := hl 0; simpa using this.symm
    have hlen : ((o :: l).length : Int) = l.length + 1 := by rw [List.length_cons]; omega
    obtain ⟨a0, a1, a2, a3⟩ := hat i o ho
    unfold L_mrun_37
    rw [hJ.2.2.2.2 20 (by decide) (by decide) (by decide) (by decide), h20, four, nI_1]
    refine ⟨fun q => absurd q (nI_ge hi1 (by omega)), fun _ => ?_⟩
    have hIS : IT Y n k (S 1) := by rw [hJ.1]; exact hI
    refine s_mdoes hIS (p := 4 * i) (by omega) (hok o (List.mem_of_getElem? ho)) (by rw [hJ.2.2.1]; exact a0) (by rw [hJ.2.2.1]; exact a1) (by rw [hJ.2.2.1]; exact a2) (by rw [hJ.2.2.1]; exact a3) ?_
    rw [hJ.1]
    have hdo : dO 1 T o = doesO n k 1 T o := by unfold dO; rw [hI.nT, hI.kT]
    have e9 : rnO 1 (o :: l) i T = match dO 1 T o with
      | .inl r => .inl (i, r.1, r.2)
      | .inr v => rnO 1 l (i + 1) v.2 := rfl
    rw [e9, hdo] at hr
    cases hd : doesO n k 1 T o with
    | inl r =>
      rw [hd] at hr
      have hr : (.inl (i, r.1, r.2) : (Nat × Int32 × Int32) ⊕ TS) = rnO 1 L 0 (S0 1) := hr
      intro S' hS'
      refine ⟨fun _ => hX S S' T i r.1 r.2 hi1 hJ hS' hh hr.symm, fun q => (q rfl).elim⟩
    | inr v =>
      rw [hd] at hr
      have hr : rnO 1 l (i + 1) v.2 = rnO 1 L 0 (S0 1) := hr
      intro S' hS'
      refine ⟨fun q => absurd q (by decide), fun _ => ?_⟩
      obtain ⟨⟨n', k', hI'⟩, -, hhi⟩ := does_kp hI (by omega) hd
      have hJ' : Ju S0 v.2 S' := by
        obtain ⟨j1, j2, j3, j4, j5⟩ := hS'
        refine ⟨by rw [j1, sput0_1, sset_1], by rw [j2, sput_ne (by decide), sset_ne (by decide)]; exact hJ.2.1, by rw [j3, sput_ne (by decide), sset_ne (by decide)]; exact hJ.2.2.1, by rw [j4, sput_ne (by decide), sset_ne (by decide)]; exact hJ.2.2.2.1, fun j b c d e => ?_⟩
        rw [j5 j c d e, sput_self, pk_un b, sset_ne (by decide)]; exact hJ.2.2.2.2 j b c d e
      refine s_mrunL hL h20 hat hok hK hX l (i + 1) g S' v.2 (Y + 1) n' k' (fun q => by have := hl (q + 1); rw [List.getElem?_cons_succ] at this; rw [this, show i + (q + 1) = i + 1 + q by omega]) (by rw [← hi, List.length_cons]; omega) (by rw [List.length_cons] at hg; omega) hJ' hI' (by omega) (fun q hq => by rw [hhi q hq, hh q hq]) hr
theorem jx_back {S : MS} {T : TS} (h : ∀ i, 96 ≤ i → T i = cpT 0 10 (S 1) i) : ∀ j, j < 960 → cpT 10 0 T j = S 1 j := fun j hj => by
  by_cases q : j < 96
  · have e1 := cpT_in (f := 10) (t := 0) (T := T) q
    rw [show 96 * 0 + j = j by omega] at e1
    have e2 := cpT_in (f := 0) (t := 10) (T := S 1) q
    rw [e1, h _ (by omega), e2, show 96 * 0 + j = j by omega]
  · rw [cpT_out (by omega), h j (by omega), cpT_out (by omega)]
theorem rnO_hi : ∀ (l : List OD) (i : Nat) (T T' : TS) (Y : Int) (n k : Nat), IT Y n k T → Y + l.length ≤ 100000 → rnO 1 l i T = .inr T' → (∃ n' k', IT (Y + l.length) n' k' T') ∧ (B3 T → B3 T') ∧ ∀ j, 96 ≤ j → T' j = T j
  | [], i, T, T', Y, n, k, hI, hY, h => by
    cases h
    exact ⟨⟨n, k, hI.mono (by omega)⟩, fun z => z, fun _ _ => rfl⟩
  | o :: l, i, T, T', Y, n, k, hI, hY, h => by
    have hlen : ((o :: l).length : Int) = l.length + 1 := by rw [List.length_cons]; omega
    have e9 : rnO 1 (o :: l) i T = match dO 1 T o with
      | .inl r => .inl (i, r.1, r.2)
      | .inr v => rnO 1 l (i + 1) v.2 := rfl
    have hdo : dO 1 T o = doesO n k 1 T o := by unfold dO; rw [hI.nT, hI.kT]
    rw [e9, hdo] at h
    cases hd : doesO n k 1 T o with
    | inl r => rw [hd] at h; cases h
    | inr v =>
      rw [hd] at h
      have h : rnO 1 l (i + 1) v.2 = .inr T' := h
      obtain ⟨⟨n', k', hI'⟩, hb, hhi⟩ := does_kp hI (by omega) hd
      obtain ⟨⟨n2, k2, h1⟩, h2, h3⟩ := rnO_hi l (i + 1) v.2 T' (Y + 1) n' k' hI' (by omega) h
      refine ⟨⟨n2, k2, h1.mono (by omega)⟩, fun z => h2 (hb z), fun j hj => by rw [h3 j hj, hhi j hj]⟩
theorem sp0 {S : MS} {a j : Nat} {v : Int32} : sput S 0 a v 0 j = if j = a then v else S 0 j := by rw [sput_self]; rfl
def Jb (S S' : MS) : Prop := S' 4 = S 4 ∧ S' 6 = S 6 ∧ ∀ j, j ≠ 4 → j ≠ 11 → j ≠ 12 → j ≠ 13 → j ≠ 16 → j ≠ 17 → j ≠ 20 → S' 0 j = S 0 j
theorem Jx.b {S S' : MS} (h : Jx S S') : Jb S S' := h.2
theorem Jb.put {S S' : MS} (h : Jb S S') {j : Nat} {v : Int32} : Jb (sput S 0 j v) (sput S' 0 j v) := by
  refine ⟨by rw [sput_ne (by decide), sput_ne (by decide)]; exact h.1, by rw [sput_ne (by decide), sput_ne (by decide)]; exact h.2.1, fun i a b c d e f g => ?_⟩
  rw [sp0, sp0]
  split
  · rfl
  · exact h.2.2 i a b c d e f g
theorem Jb.p4 {S S' : MS} (h : Jb S S') {v : Int32} : Jb S (sput S' 0 4 v) := ⟨by rw [sput_ne (by decide)]; exact h.1, by rw [sput_ne (by decide)]; exact h.2.1, fun i a b c d e f g => by rw [sp0, if_neg a]; exact h.2.2 i a b c d e f g⟩
theorem Jb.set {S S' : MS} (h : Jb S S') {T T' : TS} (hT : ∀ j, j < 960 → T' j = T j) : Jx (sset S T) (sset S' T') := ⟨fun i hi => by rw [sset_1, sset_1]; exact hT i hi, by rw [sset_ne (by decide), sset_ne (by decide)]; exact h.1, by rw [sset_ne (by decide), sset_ne (by decide)]; exact h.2.1, fun i a b c d e f g => by rw [sset_ne (by decide), sset_ne (by decide)]; exact h.2.2 i a b c d e f g⟩
theorem Ju.b {S S' : MS} {T : TS} (h : Ju S T S') : Jb S S' := ⟨h.2.1, h.2.2.2.1, fun j a b c d _ _ _ => h.2.2.2.2 j a b c d⟩
theorem Jk.b {S S' : MS} (h : Jk S S') : Jb S S' := ⟨h.2.1, h.2.2.2.1, fun j _ b c d _ _ _ => h.2.2.2.2 j b c d⟩
theorem Jb.tr {S S' S'' : MS} (h : Jb S S') (h' : Jb S' S'') : Jb S S'' := ⟨h'.1.trans h.1, h'.2.1.trans h.2.1, fun j a b c d e f g => (h'.2.2 j a b c d e f g).trans (h.2.2 j a b c d e f g)⟩
theorem Jb.sset {S : MS} {T : TS} : Jb S (sset S T) := ⟨sset_ne (by decide), sset_ne (by decide), fun j _ _ _ _ _ _ _ => by rw [sset_ne (by decide)]⟩
theorem obsL_1 : ∀ (l : List OD) (S : MS) (c : Nat), obsL S l c 1 = S 1
  | [], S, c => rfl
  | x :: l, S, c => by
    show obsL (ob S c x) l (c + 1) 1 = S 1
    rw [obsL_1 l, ob_ne (by decide), sput0_1]
theorem s_mrun {Y : Int} {n k c len : Nat} {tx : Nat → Int32} {S : MS} {P : Int32 → MS → Prop} (h : TX S tx len) (hI : IT Y n k (S 1)) (hY : Y ≤ 90000) (hc : c ≤ 8) (h2 : S 0 2 = nI c) (h0 : (prs tx len).2.2 = false → ∀ S', Jx (sput (sput (sput S 0 15 0) 0 18 (nI (prs tx len).2.1)) 0 0 1) S' → P 0 S') (h1 : (prs tx len).2.2 = true → runM (prs tx len).1 c (cpT 0 10 (S 1)) S P) : F_mrun S P := by
  obtain ⟨g1, g2, g3⟩ := prs_ok h
  have hl := h.2.1
  unfold F_mrun
  refine s_mparse h (nm_i ?_)
  generalize prs tx len = r at h0 h1 g1 g2 g3 ⊢
  obtain ⟨L, s⟩ := r
  dsimp only at h0 h1 g1 g2 g3 ⊢
  have hB := obsL_x L (sput S 0 20 0) 0
  have hB5 := obsL_at L (sput S 0 20 0) 0
  have hB20 := obsL_20 L (sput S 0 20 0) 0 (by rw [sput_self, pk_us]; rfl)
  have hB1 : obsL (sput S 0 20 0) L 0 1 = S 1 := by rw [obsL_1, sput0_1]
  rw [Nat.zero_add] at hB20
  generalize obsL (sput S 0 20 0) L 0 = B at hB hB5 hB20 hB1 ⊢
  have hBx : Jx S B := Jx.p20.tr hB
  have e17 : sput (pst B s) 0 15 0 0 17 = ftI s := by rw [sput_self, pk_un (by decide), pst17]
  rw [e17, (ft_neg (by omega)).1]
  have hx1 : Jx (sput S 0 15 0) (sput (pst B s) 0 15 0) := (hBx.tr Jx.pst).put
  refine ⟨fun hs => ?_, fun hs => nm_i (nm_i (h0 (by simpa using hs) _ ?_))⟩
  · have h1 := h1 hs
    have hB1' : sput (pst B s) 0 15 0 1 = S 1 := by rw [sput0_1, pst_ne (by decide), hB1]
    refine s_mbegins ?_
    rw [hB1']
    have h20' : sset (sput (pst B s) 0 15 0) (cpT 0 10 (S 1)) 0 20 = nI L.length := by rw [sset_ne (by decide), sp0, if_neg (by decide), pst0 (by decide) (by decide), hB20]
    have h5' : ∀ q, sset (sput (pst B s) 0 15 0) (cpT 0 10 (S 1)) 5 q = B 5 q := fun q => by rw [sset_ne (by decide), sput_ne (by decide), pst_ne (by decide)]
    have hb4 : Jb (sput S 0 15 0) (sset (sput (pst B s) 0 15 0) (cpT 0 10 (S 1))) := hx1.b.tr Jb.sset
    generalize hS4 : sset (sput (pst B s) 0 15 0) (cpT 0 10 (S 1)) = S4 at h20' h5' hb4 ⊢
    have hS41 : S4 1 = cpT 0 10 (S 1) := by rw [← hS4, sset_1]
    have h2' : S4 0 2 = nI c := by rw [hb4.2.2 2 (by decide) (by decide) (by decide) (by decide) (by decide) (by decide) (by decide), sp0, if_neg (by decide), h2]
    unfold runM at h1
    refine s_mrunL (K := fun S_9 w1_10 => jn (α := MS → Prop) (fun S_12 => nm (sput S_12 0 4 (S_12 0 20)) (fun S_13 => jn (α := MS → Int32 → Prop) (fun S_15 t_16 => F_mends S_15 t_16 2 (fun r_18 S_17 => P r_18 S_17)) (fun K_14 => (w1_10 = (S_13 0 20) → K_14 S_13 1) ∧ (¬ w1_10 = (S_13 0 20) → K_14 S_13 0)))) (fun K_11 => ((S_9 0 20) ≤ w1_10 → K_11 S_9) ∧ (¬ (S_9 0 20) ≤ w1_10 → nm (sput S_9 0 7 (S_9 0 5)) (fun S_21 => nm (sput S_21 0 8 (S_21 0 6)) (fun S_22 => nm (sput S_22 0 5 10) (fun S_23 => nm (sput S_23 0 6 w1_10) (fun S_24 => K_11 S_24))))))) g1 h20' (fun i o ho => by have := hB5 i o ho; rw [Nat.zero_add] at this; rw [h5', h5', h5', h5']; exact this) (g3 hs) (fun S' T' hJ hr => ?_) (fun S1 S' T' j r d hj hJ hk hh hr => ?_) L 0 NF S4 (cpT 0 10 (S 1)) Y n k (fun q => by rw [Nat.zero_add]) (by omega) (by unfold NF; omega) ⟨hS41, rfl, rfl, rfl, fun _ _ _ _ _ => rfl⟩ hI.cp (by omega) (fun q _ => by rw [hS41]) (by rw [hS41])
    · rw [hS41] at hr
      rw [hr] at h1
      have e20 : S' 0 20 = nI L.length := by rw [hJ.2.2.2.2 20 (by decide) (by decide) (by decide) (by decide), h20']
      have e2 : S' 0 2 = nI c := by rw [hJ.2.2.2.2 2 (by decide) (by decide) (by decide) (by decide), h2']
      refine jn_i ⟨fun _ => nm_i (jn_i ⟨fun _ => s_mends1 hc (by rw [sp0, if_neg (by decide), e2]) ?_, fun q => absurd (by rw [sp0, if_neg (by decide), e20]) q⟩), fun q => absurd (by rw [e20]; exact nI_le (Nat.le_refl _) (by omega)) q⟩
      rw [sp0, if_pos rfl, sput0_1, hJ.1, e20]
      exact h1 _ (((hb4.tr hJ.b).p4.put.put).set fun _ _ => rfl)
    · rw [hS41] at hr
      rw [hr] at h1
      have kv : ∀ i, i ≠ 11 → i ≠ 12 → i ≠ 13 → S' 0 i = if i = 7 then 0 else if i = 6 then d else if i = 5 then r else S1 0 i := fun i a b c => by
        rw [hk.2.2.2.2 i a b c]; unfold rfz; rw [sp0, sp0, sp0]
      have e20 : S' 0 20 = nI L.length := by
        rw [kv 20 (by decide) (by decide) (by decide), if_neg (by decide), if_neg (by decide), if_neg (by decide), hJ.2.2.2.2 20 (by decide) (by decide) (by decide) (by decide), h20']
      have e5 : S' 0 5 = r := by rw [kv 5 (by decide) (by decide) (by decide), if_neg (by decide), if_neg (by decide), if_pos rfl]
      have e6 : S' 0 6 = d := by rw [kv 6 (by decide) (by decide) (by decide), if_neg (by decide), if_pos rfl]
      have e1 : S' 1 = T' := by rw [hk.1, rfz_1, hJ.1]
      have hne : ¬ nI j = nI L.length := fun q => by have := (nI_eq (by omega) (by omega)).mp q; omega
      refine jn_i ⟨fun q => absurd q (by rw [e20]; exact nI_ge hj (by omega)), fun _ => nm_i (nm_i (nm_i (nm_i (nm_i (jn_i ⟨fun q => absurd q (by rw [sp0, if_neg (by decide), sp0, if_neg (by decide), sp0, if_neg (by decide), sp0, if_neg (by decide), sp0, if_neg (by decide), e20]; exact hne), fun _ => s_mends0 ?_⟩)))))⟩
      rw [sput0_1, sput0_1, sput0_1, sput0_1, sput0_1, e1, sp0, if_neg (by decide), e5, e6]
      refine h1 _ ⟨fun i hi => ?_, ?_, ?_, fun i a b c2 d2 e f g => ?_⟩
      · rw [sset_1, sput0_1, sput0_1, sput0_1, sput0_1, sput0_1, sput0_1]
        exact jx_back (fun q hq => by rw [hh q hq, hS41]) i hi
      · rw [sset_ne (by decide), sput_ne (by decide), sput_ne (by decide), sput_ne (by decide), sput_ne (by decide), sput_ne (by decide), sput_ne (by decide), sput_ne (by decide), sput_ne (by decide), sput_ne (by decide), sput_ne (by decide), sput_ne (by decide), sput_ne (by decide)]
        have := (hb4.tr (hJ.b)).1
        rw [sput_ne (by decide)] at this
        rw [hk.2.1]; unfold rfz
        rw [sput_ne (by decide), sput_ne (by decide), sput_ne (by decide)]; exact this
      · rw [sset_ne (by decide), sput_ne (by decide), sput_ne (by decide), sput_ne (by decide), sput_ne (by decide), sput_ne (by decide), sput_ne (by decide), sput_ne (by decide), sput_ne (by decide), sput_ne (by decide), sput_ne (by decide), sput_ne (by decide), sput_ne (by decide)]
        have := (hb4.tr (hJ.b)).2.1
        rw [sput_ne (by decide)] at this
        rw [hk.2.2.2.1]; unfold rfz
        rw [sput_ne (by decide), sput_ne (by decide), sput_ne (by decide)]; exact this
      · rw [sset_ne (by decide)]
        have hv := (hb4.tr hJ.b).2.2 i a b c2 d2 e f g
        simp only [sp0] at hv ⊢
        rw [kv i b c2 d2]
        by_cases q0 : i = 0
        · simp [q0]
        by_cases q6 : i = 6
        · simp [q6]
        by_cases q5 : i = 5
        · simp [q5]
        by_cases q8 : i = 8
        · simp [q8]
        by_cases q7 : i = 7
        · simp [q7]
        simp only [if_neg q0, if_neg q6, if_neg q5, if_neg q8, if_neg q7, if_neg a]
        exact hv
  · have e18 : ftI s = nI s.1 := if_neg hs
    rw [e18]
    exact hx1.put.put
