/-! PURE: the model reads orders, one behind another -/
section ORD
variable {S : MS} {tx : Nat → Int32} {len : Nat} {s : PT}
theorem s_mword {P : Int32 → MS → Prop} {c : Int32} (h : TX S tx len) (hs : s.1 ≤ len) (hP : P (wrd tx len c s).1 (pst S (wrd tx len c s).2)) : F_mword (pst S s) c P := by
  unfold F_mword
  unfold wrd at hP
  have d3 : ∀ (a b c : Int32) (s : PT), 0 ≤ a.toInt → 0 ≤ b.toInt → 0 ≤ c.toInt → s.1 ≤ len → (nds tx len [a, b, c] s).1 ≤ len := fun a b c s ha hb hc hs => (nds_le h [a, b, c] s (fun x hx => by
    rcases List.mem_cons.mp hx with rfl | hx
    · exact ha
    rcases List.mem_cons.mp hx with rfl | hx
    · exact hb
    rcases List.mem_cons.mp hx with rfl | hx
    · exact hc
    cases hx) hs).1
  refine ⟨fun e => ?_, fun e => ⟨fun e1 => ?_, fun e1 => ⟨fun e2 => ?_, fun e2 => ⟨fun e3 => ?_, fun e3 => ⟨fun e4 => ?_, fun e4 => ⟨fun e5 => ?_, fun e5 => s_msign h hs ⟨fun e6 => ?_, fun e6 => ?_⟩⟩⟩⟩⟩⟩⟩
  · rw [if_pos e] at hP
    subst e
    have h1 := d3 112 112 114 s (by decide) (by decide) (by decide) hs
    have h2 := d3 101 110 116 _ (by decide) (by decide) (by decide) h1
    exact s_msigns3 h (by decide) (by decide) (by decide) hs (s_msigns3 h (by decide) (by decide) (by decide) h1 (s_msigns3 h (by decide) (by decide) (by decide) h2 hP))
  · rw [if_neg e, if_pos e1] at hP
    subst e1
    exact s_msigns3 h (by decide) (by decide) (by decide) hs hP
  · rw [if_neg e, if_neg e1, if_pos e2] at hP
    subst e2
    have h1 := d3 101 97 118 s (by decide) (by decide) (by decide) hs
    exact s_msigns3 h (by decide) (by decide) (by decide) hs (s_mneeds h h1 hP)
  · rw [if_neg e, if_neg e1, if_neg e2, if_pos e3] at hP
    subst e3
    have h1 := d3 97 115 116 s (by decide) (by decide) (by decide) hs
    exact s_msigns3 h (by decide) (by decide) (by decide) hs (s_msigns2 h (by decide) h1 hP)
  · rw [if_neg e, if_neg e1, if_neg e2, if_neg e3, if_pos e4] at hP
    subst e4
    have h1 := d3 101 116 116 s (by decide) (by decide) (by decide) hs
    exact s_msigns3 h (by decide) (by decide) (by decide) hs (s_msigns2 h (by decide) h1 hP)
  · rw [if_neg e, if_neg e1, if_neg e2, if_neg e3, if_neg e4, if_pos e5] at hP
    subst e5
    exact s_msigns3 h (by decide) (by decide) (by decide) hs hP
  · rw [if_neg e, if_neg e1, if_neg e2, if_neg e3, if_neg e4, if_neg e5, if_pos e6] at hP
    exact s_msigns2 h (by decide) hs hP
  · rw [if_neg e, if_neg e1, if_neg e2, if_neg e3, if_neg e4, if_neg e5, if_neg e6] at hP
    exact s_msigns2 h (by decide) hs hP
theorem wrd_le {c : Int32} (h : TX S tx len) (hs : s.1 ≤ len) : (wrd tx len c s).2.1 ≤ len ∧ s.1 ≤ (wrd tx len c s).2.1 := by
  have key : ∀ l : List Int32, (∀ c ∈ l, 0 ≤ c.toInt) → (nds tx len l s).1 ≤ len ∧ s.1 ≤ (nds tx len l s).1 := fun l hl => nds_le h l s hl hs
  unfold wrd
  split
  · exact key _ (by decide)
  · split
    · exact key _ (by decide)
    · split
      · exact key _ (by decide)
      · split
        · exact key _ (by decide)
        · split
          · exact key _ (by decide)
          · split
            · exact key _ (by decide)
            · split
              · exact key _ (by decide)
              · exact key _ (by decide)
/-- the model's numbers with an order more -/
def ob (S : MS) (cnt : Nat) (o : OD) : MS := fun i => if i = 5 then (fun j => if j = 4 * cnt then o.1 else if j = 4 * cnt + 1 then o.2.1 else if j = 4 * cnt + 2 then o.2.2.1 else if j = 4 * cnt + 3 then o.2.2.2 else S 5 j) else sput S 0 20 (nI (cnt + 1)) i
theorem ob_5 {cnt : Nat} {o : OD} {j : Nat} : ob S cnt o 5 j = if j = 4 * cnt then o.1 else if j = 4 * cnt + 1 then o.2.1 else if j = 4 * cnt + 2 then o.2.2.1 else if j = 4 * cnt + 3 then o.2.2.2 else S 5 j := rfl
theorem ob_ne {cnt : Nat} {o : OD} {i : Nat} (h : i ≠ 5) : ob S cnt o i = sput S 0 20 (nI (cnt + 1)) i := if_neg h
theorem ob_put {cnt q : Nat} {o o' : OD} {v : Int32} (h : ∀ j, (if j = q then v else ob S cnt o 5 j) = ob S cnt o' 5 j) : sput (ob S cnt o) 5 q v = ob S cnt o' := by
  funext i
  by_cases h5 : i = 5
  · subst h5
    rw [sput_self]
    funext j
    exact h j
  · rw [sput_ne h5, ob_ne h5, ob_ne h5]
theorem ob_put0 {cnt : Nat} {o : OD} {v : Int32} : sput (ob S cnt o) 5 (4 * cnt) v = ob S cnt (v, o.2) := ob_put fun j => by
  rw [ob_5, ob_5]; by_cases e : j = 4 * cnt <;> simp [e]
theorem ob_put1 {cnt : Nat} {q a b c v : Int32} : sput (ob S cnt (q, a, b, c)) 5 (4 * cnt + 1) v = ob S cnt (q, v, b, c) := ob_put fun j => by
  rw [ob_5, ob_5]; dsimp only
  by_cases e : j = 4 * cnt + 1
  · subst e; rw [if_pos rfl, if_neg (by omega), if_pos rfl]
  · rw [if_neg e, if_neg e, if_neg e]
theorem ob_put2 {cnt : Nat} {q a b c v : Int32} : sput (ob S cnt (q, a, b, c)) 5 (4 * cnt + 2) v = ob S cnt (q, a, v, c) := ob_put fun j => by
  rw [ob_5, ob_5]; dsimp only
  by_cases e : j = 4 * cnt + 2
  · subst e; rw [if_pos rfl, if_neg (by omega), if_neg (by omega), if_pos rfl]
  · rw [if_neg e, if_neg e, if_neg e]
theorem ob_put3 {cnt : Nat} {q a b c v : Int32} : sput (ob S cnt (q, a, b, c)) 5 (4 * cnt + 3) v = ob S cnt (q, a, b, v) := ob_put fun j => by
  rw [ob_5, ob_5]; dsimp only
  by_cases e : j = 4 * cnt + 3
  · subst e; rw [if_pos rfl, if_neg (by omega), if_neg (by omega), if_neg (by omega), if_pos rfl]
  · rw [if_neg e, if_neg e, if_neg e]
theorem TX.ob {cnt : Nat} {o : OD} (h : TX S tx len) : TX (ob S cnt o) tx len := ⟨by rw [ob_ne (by decide), sput_self, pk_un (by decide)]; exact h.1, h.2.1, fun i hi => by rw [ob_ne (by decide), sput_ne (by decide)]; exact h.2.2 i hi⟩
theorem four (c : Nat) : (4 : Int32) * nI c = nI (4 * c) := pk_mul 4 c
theorem od1_le {p : Nat} (h : TX S tx len) (hp : p ≤ len) : (od1 tx len p).2.1 ≤ len ∧ p ≤ (od1 tx len p).2.1 := by
  unfold od1
  by_cases hc : isLet (chr tx len p)
  · rw [if_neg (fun q => q hc)]
    have hp1 : p < len := by
      rcases hc with e | e | e | e | e | e | e <;> exact chr_lt h (by decide) e
    have hw := wrd_le (s := (p + 1, true)) (c := chr tx len p) h hp1
    generalize wrd tx len (chr tx len p) (p + 1, true) = w at hw ⊢
    have hw2 : p + 1 ≤ w.2.1 := hw.2
    split
    · exact ⟨hw.1, by dsimp only; omega⟩
    · have h1 := nd_le (c := 32) h (by decide) hw.1
      generalize nd tx len 32 w.2 = s1 at h1 ⊢
      have h2 := nm1_le h h1.1
      generalize nm1 tx len s1 = s2 at h2 ⊢
      split
      · exact ⟨h2.1, by dsimp only; omega⟩
      · have h3 := nm1_le h h2.1
        generalize nm1 tx len s2.2 = s3 at h3 ⊢
        split
        · have h4 := nd_le (c := 61) h (by decide) h3.1
          generalize nd tx len 61 s3.2 = s4 at h4 ⊢
          have h5 := nm2_le h h4.1
          exact ⟨h5.1, by dsimp only; omega⟩
        · exact ⟨h3.1, by dsimp only; omega⟩
  · rw [if_pos hc]; exact ⟨hp, Nat.le_refl _⟩
theorem od1_ok {p : Nat} (h : (od1 tx len p).2.2 = true) : okO (od1 tx len p).1 := by
  unfold od1 at h ⊢
  by_cases hc : isLet (chr tx len p)
  · rw [if_neg (fun q => q hc)] at h ⊢
    have hk : (wrd tx len (chr tx len p) (p + 1, true)).1 = 105 ∨ (wrd tx len (chr tx len p) (p + 1, true)).1 = chr tx len p := by
      unfold wrd
      by_cases e : chr tx len p = 97
      · rw [if_pos e]; exact Or.inr e.symm
      rw [if_neg e]
      by_cases e : chr tx len p = 99
      · rw [if_pos e]; exact Or.inr e.symm
      rw [if_neg e]
      by_cases e : chr tx len p = 108
      · rw [if_pos e]; exact Or.inr e.symm
      rw [if_neg e]
      by_cases e : chr tx len p = 109
      · rw [if_pos e]; exact Or.inr e.symm
      rw [if_neg e]
      by_cases e : chr tx len p = 115
      · rw [if_pos e]; exact Or.inr e.symm
      rw [if_neg e]
      by_cases e : chr tx len p = 121
      · rw [if_pos e]; exact Or.inr e.symm
      rw [if_neg e]
      split
      · exact Or.inl rfl
      · exact Or.inr rfl
    generalize wrd tx len (chr tx len p) (p + 1, true) = w at hk h ⊢
    have hall : okO (w.1, 0, 0, 0) := by
      show w.1 = 97 ∨ w.1 = 109 ∨ w.1 = 99 ∨ w.1 = 98 ∨ w.1 = 105 ∨ w.1 = 115 ∨ w.1 = 108 ∨ w.1 = 121
      rcases hk with e | e
      · rw [e]; simp
      · rw [e]
        rcases hc with q | q | q | q | q | q | q <;> rw [q] <;> simp
    split
    · exact hall
    · split
      · exact Or.inr (Or.inr (Or.inr (Or.inr (Or.inr (Or.inr (Or.inl rfl))))))
      · split
        · exact Or.inr (Or.inr (Or.inl rfl))
        · exact hall
  · rw [if_pos hc] at h; cases h
set_option maxHeartbeats 1000000 in
theorem s_morder {P : MS → Prop} {p cnt : Nat} (h : TX S tx len) (hp : p ≤ len) (hc : cnt ≤ 60) (h20 : S 0 20 = nI cnt) (hP : P (pst (ob S cnt (od1 tx len p).1) (od1 tx len p).2)) : F_morder (pst S (p, true)) P := by
  unfold F_morder
  refine nm_i ?_
  have e20 : pst S (p, true) 0 20 = nI cnt := by rw [pst0 (by decide) (by decide), h20]
  rw [e20, nI_1, pst_put0 (by decide) (by decide), four]
  have hT1 : TX (sput S 0 20 (nI (cnt + 1))) tx len := h.put0 (by decide)
  refine s_msign (s := (p, true)) hT1 hp ?_
  dsimp only
  have hz : ∀ Q : MS → Prop, Q (pst (ob S cnt (0, 0, 0, 0)) (p, true)) → L_morder_24 Q P (nI (4 * cnt)) (chr tx len p) NF (pst (sput S 0 20 (nI (cnt + 1))) (p, true)) 0 := fun Q hQ => by
    refine loop_i (σ := MS) (fun f i S1 => L_morder_24 Q P (nI (4 * cnt)) (chr tx len p) f (pst S1 (p, true)) (nI i)) (fun i S1 => (∀ q, q ≠ 5 → S1 q = sput S 0 20 (nI (cnt + 1)) q) ∧ ∀ j, S1 5 j = if 4 * cnt ≤ j ∧ j < 4 * cnt + i then 0 else S 5 j) 4 (fun f S1 hx => ?_) (fun f i S1 hi hx ih => ?_) NF 0 _ (Nat.zero_le _) (by unfold NF; omega) ⟨fun _ _ => rfl, fun j => by rw [sput_ne (by decide), if_neg (by omega)]⟩
    · unfold L_morder_24
      refine ⟨fun _ => ?_, fun q => absurd (nI_le (Nat.le_refl 4) (by decide)) q⟩
      have e : S1 = ob S cnt (0, 0, 0, 0) := by
        funext i
        by_cases h5 : i = 5
        · subst h5
          funext j
          rw [hx.2 j, ob_5]
          dsimp only
          by_cases a : 4 * cnt ≤ j ∧ j < 4 * cnt + 4
          · rw [if_pos a]
            by_cases a1 : j = 4 * cnt
            · rw [if_pos a1]
            rw [if_neg a1]
            by_cases a2 : j = 4 * cnt + 1
            · rw [if_pos a2]
            rw [if_neg a2]
            by_cases a3 : j = 4 * cnt + 2
            · rw [if_pos a3]
            rw [if_neg a3, if_pos (by omega)]
          · rw [if_neg a, if_neg (by omega), if_neg (by omega), if_neg (by omega), if_neg (by omega)]
        · rw [hx.1 i h5, ob_ne h5]
      rw [e]; exact hQ
    · unfold L_morder_24
      rw [nI_add, nI_clamp (by omega), nI_1 i]
      refine ⟨fun q => absurd q (nI_ge hi (by decide) : ¬ nI 4 ≤ nI i), fun _ => ⟨vp_in_nI (by omega) (by decide), nm_i ?_⟩⟩
      rw [pst_put (by decide)]
      refine ih _ ⟨fun q hq => by rw [sput_ne hq]; exact hx.1 q hq, fun j => ?_⟩
      rw [sput_self]
      by_cases e : j = 4 * cnt + i
      · subst e; rw [pk_us, if_pos (by omega)]
      · rw [pk_un e, hx.2 j]
        by_cases a : 4 * cnt ≤ j ∧ j < 4 * cnt + i
        · rw [if_pos a, if_pos (by omega)]
        · rw [if_neg a, if_neg (by omega)]
  refine hz _ (jn_i ?_)
  have hT2 : TX (ob S cnt (0, 0, 0, 0)) tx len := h.ob
  unfold od1 at hP
  -- behind a letter
  have fin : isLet (chr tx len p) → nm (sput (pst (ob S cnt (0, 0, 0, 0)) (p, true)) 0 16 (pst (ob S cnt (0, 0, 0, 0)) (p, true) 0 16 + 1)) (fun S_9 => F_mword S_9 (chr tx len p) (fun r_11 S_10 => vp_in (nI (4 * cnt)) 244 ∧ nm (sput S_10 5 (Int32.toNatClampNeg (nI (4 * cnt))) r_11) (fun S_12 => (r_11 = 97 → P S_12) ∧ (¬ r_11 = 97 → (r_11 = 109 → P S_12) ∧ (¬ r_11 = 109 → (r_11 = 105 → P S_12) ∧ (¬ r_11 = 105 → (r_11 = 115 → P S_12) ∧ (¬ r_11 = 115 → (r_11 = 121 → P S_12) ∧ (¬ r_11 = 121 → F_mneeds S_12 32 (fun S_18 => F_mnumber S_18 1 (fun r_20 S_19 => vp_in (nI (4 * cnt) + 1) 244 ∧ nm (sput S_19 5 (Int32.toNatClampNeg (nI (4 * cnt) + 1)) r_20) (fun S_21 => (r_11 = 108 → P S_21) ∧ (¬ r_11 = 108 → F_mnumber S_21 1 (fun r_24 S_23 => vp_in (nI (4 * cnt) + 2) 244 ∧ nm (sput S_23 5 (Int32.toNatClampNeg (nI (4 * cnt) + 2)) r_24) (fun S_25 => (r_11 = 99 → F_mneeds S_25 61 (fun S_27 => F_mnumber S_27 2 (fun r_29 S_28 => vp_in (nI (4 * cnt) + 3) 244 ∧ nm (sput S_28 5 (Int32.toNatClampNeg (nI (4 * cnt) + 3)) r_29) (fun S_30 => P S_30)))) ∧ (¬ r_11 = 99 → P S_25))))))))))))))) := fun hlet => by
    rw [if_neg (fun q => q hlet)] at hP
    have hp1 : p < len := by
      rcases hlet with e | e | e | e | e | e | e <;> exact chr_lt h (by decide) e
    refine nm_i ?_
    rw [pst16, nI_1, pst_next]
    refine s_mword (s := (p + 1, true)) hT2 hp1 ?_
    have hw := wrd_le (s := (p + 1, true)) (c := chr tx len p) h hp1
    generalize wrd tx len (chr tx len p) (p + 1, true) = w at hw hP ⊢
    rw [nI_1, show (nI (4 * cnt) : Int32) + 2 = nI (4 * cnt + 2) from nI_add _ 2, show (nI (4 * cnt) : Int32) + 3 = nI (4 * cnt + 3) from nI_add _ 3, nI_clamp (by omega), nI_clamp (by omega), nI_clamp (by omega), nI_clamp (by omega)]
    refine ⟨vp_in_nI (by omega) (by decide), nm_i ?_⟩
    rw [pst_put (by decide), ob_put0]
    have pl : plain w.1 → P (pst (ob S cnt (w.1, 0, 0, 0)) w.2) := fun q => by rw [if_pos q] at hP; exact hP
    refine ⟨fun e => pl (Or.inl e), fun n1 => ⟨fun e => pl (Or.inr (Or.inl e)), fun n2 => ⟨fun e => pl (Or.inr (Or.inr (Or.inl e))), fun n3 => ⟨fun e => pl (Or.inr (Or.inr (Or.inr (Or.inl e)))), fun n4 => ⟨fun e => pl (Or.inr (Or.inr (Or.inr (Or.inr e)))), fun n5 => ?_⟩⟩⟩⟩⟩
    have hnp : ¬ plain w.1 := fun q => by
      rcases q with q | q | q | q | q
      · exact n1 q
      · exact n2 q
      · exact n3 q
      · exact n4 q
      · exact n5 q
    rw [if_neg hnp] at hP
    refine s_mneeds h.ob hw.1 ?_
    have h1 := nd_le (c := 32) h (by decide) hw.1
    generalize nd tx len 32 w.2 = s1 at h1 hP ⊢
    refine s_mnumber1 h.ob h1.1 ?_
    have h2 := nm1_le h h1.1
    generalize nm1 tx len s1 = s2 at h2 hP ⊢
    refine ⟨vp_in_nI (by omega) (by decide), nm_i ?_⟩
    rw [pst_put (by decide), ob_put1]
    refine ⟨fun e => ?_, fun e => s_mnumber1 h.ob h2.1 ?_⟩
    · rw [if_pos e] at hP; rw [e]; exact hP
    · rw [if_neg e] at hP
      have h3 := nm1_le h h2.1
      generalize nm1 tx len s2.2 = s3 at h3 hP ⊢
      refine ⟨vp_in_nI (by omega) (by decide), nm_i ?_⟩
      rw [pst_put (by decide), ob_put2]
      refine ⟨fun e2 => s_mneeds h.ob h3.1 ?_, fun e2 => ?_⟩
      · rw [if_pos e2] at hP
        have h4 := nd_le (c := 61) h (by decide) h3.1
        generalize nd tx len 61 s3.2 = s4 at h4 hP ⊢
        refine s_mnumber2 h.ob h4.1 ⟨vp_in_nI (by omega) (by decide), nm_i ?_⟩
        rw [pst_put (by decide), ob_put3, e2]; exact hP
      · rw [if_neg e2] at hP; exact hP
  refine ⟨fun e => fin (Or.inl e), fun n1 => ⟨fun e => fin (Or.inr (Or.inl e)), fun n2 => ⟨fun e => fin (Or.inr (Or.inr (Or.inl e))), fun n3 => ⟨fun e => fin (Or.inr (Or.inr (Or.inr (Or.inl e)))), fun n4 => ⟨fun e => fin (Or.inr (Or.inr (Or.inr (Or.inr (Or.inl e))))), fun n5 => ⟨fun e => fin (Or.inr (Or.inr (Or.inr (Or.inr (Or.inr (Or.inl e)))))), fun n6 => ⟨fun e => fin (Or.inr (Or.inr (Or.inr (Or.inr (Or.inr (Or.inr e)))))), fun n7 => nm_i ?_⟩⟩⟩⟩⟩⟩⟩
  have hn : ¬ isLet (chr tx len p) := fun q => by
    rcases q with q | q | q | q | q | q | q
    · exact n1 q
    · exact n2 q
    · exact n3 q
    · exact n4 q
    · exact n5 q
    · exact n6 q
    · exact n7 q
  rw [if_pos hn] at hP
  rw [pst16, pst_fault]; exact hP
end ORD
