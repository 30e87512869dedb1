/-! PURE: Known, behind trying all -/
theorem mask_bit : ∀ u, u < 64 → ∀ i, i < 6 → ((nI u >>> (nI i &&& 31)) &&& 1) = if u.testBit i = true then 1 else 0 := by decide +kernel
theorem mask_or : ∀ u, u < 64 → ∀ i, i < 6 → nI u ||| (1 <<< (nI i &&& 31)) = nI (u ||| 2 ^ i) ∧ u ||| 2 ^ i < 64 := by decide +kernel
theorem mask_tb : ∀ u, u < 64 → ∀ i, i < 6 → ∀ j, j < 6 → (u ||| 2 ^ i).testBit j = (j == i || u.testBit j) := by decide +kernel
def hit (n p : Nat) (w : Nat → Nat) : Bool := decide (p / 6 < n) && w (p / 6) == p % 6
abbrev DD : Int := 1000000
def g0 (n : Nat) (T : TS) (L : List (Nat → Nat)) : GS := gfold (rcs n T) DD (fun _ => 0) L
/-- what stands in Known's cells behind a list of pairings -/
def KS (n : Nat) (T : TS) (L : List (Nat → Nat)) (K : TS) : Prop :=
  K 78 = nI n ∧ (K 79).toInt = (g0 n T L).2.2.1 ∧ K 80 = nI (g0 n T L).1 ∧ K 81 = nI (g0 n T L).2.1 ∧ (∀ a, a < n → K a = nI ((g0 n T L).2.2.2 a)) ∧ ∀ p, p < 36 → (K (6 + p)).toInt = lmin (rcs n T) DD (L.filter (hit n p)) ∧ (K (42 + p)).toInt = lmin (rcs n T) DD (L.filter fun w => !hit n p w)
theorem g0_snoc {n : Nat} {T : TS} {L : List (Nat → Nat)} {w : Nat → Nat} : g0 n T (L ++ [w]) = gst (rcs n T) (g0 n T L) w := by unfold g0 gfold; rw [List.foldl_append]; rfl
theorem lmin_snoc {cs : (Nat → Nat) → Int} {D : Int} {L : List (Nat → Nat)} {w : Nat → Nat} : lmin cs D (L ++ [w]) = if cs w < lmin cs D L then cs w else lmin cs D L := by unfold lmin; rw [List.foldl_append]; rfl
theorem hit_div {n p : Nat} (hp : p < 36) : (nI p / 6 : Int32) = nI (p / 6) ∧ (nI p - nI p / 6 * 6 : Int32) = nI (p % 6) := ⟨pk_div (d := 6) (by omega) (by omega) (by omega), pk_rem (d := 6) (by omega) (by omega) (by omega)⟩
/-- one pairing more in a cell of the least -/
theorem min_cell {x y : Int32} {i : Int} {cs : (Nat → Nat) → Int} {D : Int} {L : List (Nat → Nat)} {w : Nat → Nat} (hx : x.toInt = cs w) (hy : y.toInt = lmin cs D L) : (if x < y then x else y).toInt = lmin cs D (L ++ [w]) := by
  rw [lmin_snoc, ← hx, ← hy]
  by_cases h : x < y
  · rw [if_pos h, if_pos (Int32.lt_iff_toInt_lt.mp h)]
  · rw [if_neg h, if_neg fun q => h (Int32.lt_iff_toInt_lt.mpr q)]
set_option maxHeartbeats 1000000 in
theorem s_kloop {n : Nat} {T : TS} {L : List (Nat → Nat)} {w : Nat → Nat} {x : Int32} {K0 : TS} {P : TS → Prop} (hn : n ≤ 6) (hw : ∀ a, a < n → w a < 6) (hx : x.toInt = rcs n T w) (h78 : K0 78 = nI n) (hm : ∀ a, a < n → K0 (82 + a) = nI (w a)) (hc : ∀ p, p < 36 → (K0 (6 + p)).toInt = lmin (rcs n T) DD (L.filter (hit n p)) ∧ (K0 (42 + p)).toInt = lmin (rcs n T) DD (L.filter fun w => !hit n p w))
    (h : ∀ K, (∀ j, j < 6 ∨ 78 ≤ j → K j = K0 j) → (∀ p, p < 36 → (K (6 + p)).toInt = lmin (rcs n T) DD ((L ++ [w]).filter (hit n p)) ∧ (K (42 + p)).toInt = lmin (rcs n T) DD ((L ++ [w]).filter fun w => !hit n p w)) → P K) : L_kcounts_74 P x NF K0 0 := by
  refine loop_i (σ := TS) (fun f i K => L_kcounts_74 P x f K (nI i)) (fun i K => (∀ j, j < 6 ∨ 78 ≤ j → K j = K0 j) ∧ (∀ p, p < i → (K (6 + p)).toInt = lmin (rcs n T) DD ((L ++ [w]).filter (hit n p)) ∧ (K (42 + p)).toInt = lmin (rcs n T) DD ((L ++ [w]).filter fun w => !hit n p w)) ∧ ∀ p, i ≤ p → p < 36 → K (6 + p) = K0 (6 + p) ∧ K (42 + p) = K0 (42 + p)) 36 (fun f K hI => ?_) (fun f i K hi hI ih => ?_) NF 0 K0 (Nat.zero_le _) (by unfold NF; omega) ⟨fun _ _ => rfl, fun p hp => absurd hp (Nat.not_lt_zero _), fun p _ _ => ⟨rfl, rfl⟩⟩
  · unfold L_kcounts_74
    exact ⟨fun _ => h K hI.1 hI.2.1, fun q => absurd (nI_le (Nat.le_refl 36) (by decide)) q⟩
  · obtain ⟨i1, i2, i3⟩ := hI
    obtain ⟨d1, d2⟩ := hit_div (n := n) hi
    have hd : i / 6 < 6 := by omega
    unfold L_kcounts_74
    refine ⟨fun q => absurd q (nI_ge hi (by decide) : ¬ nI 36 ≤ nI i), fun _ => jn_i (jn_i ?_)⟩
    rw [d2, d1, ix (show i < 36 by omega) (by decide), ix hd (by decide), nI_1, i1 78 (by omega), h78, nI_leI (by omega) (by omega)]
    have hfil : ∀ (p : (Nat → Nat) → Bool), p w = true → (L ++ [w]).filter p = L.filter p ++ [w] := fun p hp => by rw [List.filter_append]; simp [hp]
    have hfin : ∀ (p : (Nat → Nat) → Bool), p w = false → (L ++ [w]).filter p = L.filter p := fun p hp => by rw [List.filter_append]; simp [hp]
    -- not a pair of it
    have hno : hit n i w = false → vp_in (nI i) 36 ∧ vp_in (nI i) 36 ∧ nm (upd K (42 + i) (if x < K (42 + i) then x else K (42 + i))) (fun K_13 => L_kcounts_74 P x f K_13 (nI (i + 1))) := fun hh => by
      refine ⟨vp_in_nI hi (by decide), vp_in_nI hi (by decide), nm_i (ih _ ⟨fun j hj => by rw [pk_un (by omega)]; exact i1 j hj, fun p hp => ?_, fun p h1 h2 => ?_⟩)⟩
      · by_cases e : p = i
        · subst e
          rw [pk_un (by omega), pk_us, hfin _ hh, hfil (fun w => !hit n p w) (by simp [hh])]
          refine ⟨by rw [(i3 p (by omega) hi).1]; exact (hc p hi).1, ?_⟩
          rw [(i3 p (by omega) hi).2]
          exact min_cell (i := 0) hx (hc p hi).2
        · rw [pk_un (by omega), pk_un (by omega)]; exact i2 p (by omega)
      · rw [pk_un (by omega), pk_un (by omega)]; exact i3 p (by omega) h2
    have hyes : hit n i w = true → vp_in (nI i) 36 ∧ vp_in (nI i) 36 ∧ nm (upd K (6 + i) (if x < K (6 + i) then x else K (6 + i))) (fun K_14 => L_kcounts_74 P x f K_14 (nI (i + 1))) := fun hh => by
      refine ⟨vp_in_nI hi (by decide), vp_in_nI hi (by decide), nm_i (ih _ ⟨fun j hj => by rw [pk_un (by omega)]; exact i1 j hj, fun p hp => ?_, fun p h1 h2 => ?_⟩)⟩
      · by_cases e : p = i
        · subst e
          rw [pk_us, pk_un (by omega), hfil _ hh, hfin (fun w => !hit n p w) (by simp [hh])]
          refine ⟨?_, by rw [(i3 p (by omega) hi).2]; exact (hc p hi).2⟩
          rw [(i3 p (by omega) hi).1]
          exact min_cell (i := 0) hx (hc p hi).1
        · rw [pk_un (by omega), pk_un (by omega)]; exact i2 p (by omega)
      · rw [pk_un (by omega), pk_un (by omega)]; exact i3 p (by omega) h2
    refine ⟨fun q => ⟨fun _ => hno (by simp [hit]; omega), fun q2 => (q2 rfl).elim⟩, fun q => ⟨vp_in_nI hd (by decide), fun q2 => ⟨fun q3 => absurd q3 (by decide), fun _ => hyes ?_⟩, fun q2 => ⟨fun _ => hno ?_, fun q3 => (q3 rfl).elim⟩⟩⟩
    · rw [i1 _ (by omega), hm _ (by omega)] at q2
      have := hw (i / 6) (by omega)
      have e := (nI_eq (by omega) (by omega)).mp q2
      simp [hit, e]; omega
    · rw [i1 _ (by omega), hm _ (by omega)] at q2
      have := hw (i / 6) (by omega)
      have e : ¬ w (i / 6) = i % 6 := fun z => q2 (by rw [z])
      simp [hit, e]
theorem s_kcounts {n : Nat} {T : TS} {L : List (Nat → Nat)} {w : Nat → Nat} {x : Int32} {K : TS} {P : TS → Prop} (hn : n ≤ 6) (hw : ∀ a, a < n → w a < 6) (hx : x.toInt = rcs n T w) (hK : KS n T L K) (hm : ∀ a, a < n → K (82 + a) = nI (w a)) (h : ∀ K', KS n T (L ++ [w]) K' → (∀ j, 82 ≤ j → K' j = K j) → P K') : F_kcounts K x P := by
  obtain ⟨k1, k2, k3, k4, k5, k6⟩ := hK
  have hg := g0_snoc (n := n) (T := T) (L := L) (w := w)
  unfold F_kcounts
  refine nm_i (jn_i ?_)
  -- behind the numbers
  have fin : ∀ t : Int32, t = nI (gst (rcs n T) (g0 n T L) w).2.1 → nm (upd (upd K 80 (K 80 + 1)) 81 t) (fun K_5 => jn (α := TS → Prop) (fun K_7 => L_kcounts_74 P x NF K_7 0) (fun K_6 => (K_5 79 ≤ x → K_6 K_5) ∧ (¬ K_5 79 ≤ x → nm (upd K_5 79 x) (fun K_20 => nm (cpyK K_20) (fun K_21 => K_6 K_21))))) := fun t ht => by
    refine nm_i (jn_i ?_)
    have e79 : upd (upd K 80 (K 80 + 1)) 81 t 79 = K 79 := by rw [pk_un (by omega), pk_un (by omega)]
    rw [e79, Int32.le_iff_toInt_le, k2, hx]
    have lo : ∀ j, j < 79 → upd (upd K 80 (K 80 + 1)) 81 t j = K j := fun j hj => by rw [pk_un (by omega), pk_un (by omega)]
    have hi : ∀ j, 82 ≤ j → upd (upd K 80 (K 80 + 1)) 81 t j = K j := fun j hj => by rw [pk_un (by omega), pk_un (by omega)]
    have e80 : upd (upd K 80 (K 80 + 1)) 81 t 80 = nI (gst (rcs n T) (g0 n T L) w).1 := by rw [pk_un (by omega), pk_us, k3, nI_1]; rfl
    refine ⟨fun q => ?_, fun q => nm_i (nm_i ?_)⟩
    · refine s_kloop hn hw hx (by rw [lo 78 (by omega)]; exact k1) (fun a ha => by rw [hi _ (by omega)]; exact hm a ha) (fun p hp => by rw [lo _ (by omega), lo _ (by omega)]; exact k6 p hp) (fun K' h1 h2 => h K' ⟨?_, ?_, ?_, ?_, fun a ha => ?_, h2⟩ fun j hj => by rw [h1 j (by omega)]; exact hi j hj)
      · rw [h1 78 (by omega), lo 78 (by omega)]; exact k1
      · rw [h1 79 (by omega), e79, hg, k2]
        show _ = if rcs n T w < (g0 n T L).2.2.1 then _ else _
        rw [if_neg (by omega)]
      · rw [h1 80 (by omega), e80, hg]
      · rw [h1 81 (by omega), pk_us, hg]; exact ht
      · rw [h1 a (by omega), lo a (by omega), hg, k5 a ha]
        show _ = nI ((if rcs n T w < (g0 n T L).2.2.1 then w else (g0 n T L).2.2.2) a)
        rw [if_neg (by omega)]
    · have c6 : ∀ j, 6 ≤ j → cpyK (upd (upd (upd K 80 (K 80 + 1)) 81 t) 79 x) j = upd (upd (upd K 80 (K 80 + 1)) 81 t) 79 x j := fun j hj => if_neg (by omega)
      have cc : ∀ j, 6 ≤ j → j ≠ 79 → cpyK (upd (upd (upd K 80 (K 80 + 1)) 81 t) 79 x) j = upd (upd K 80 (K 80 + 1)) 81 t j := fun j hj h9 => by rw [c6 j hj, pk_un h9]
      refine s_kloop hn hw hx (by rw [cc 78 (by omega) (by omega), lo 78 (by omega)]; exact k1) (fun a ha => by rw [cc _ (by omega) (by omega), hi _ (by omega)]; exact hm a ha) (fun p hp => by rw [cc _ (by omega) (by omega), cc _ (by omega) (by omega), lo _ (by omega), lo _ (by omega)]; exact k6 p hp) (fun K' h1 h2 => h K' ⟨?_, ?_, ?_, ?_, fun a ha => ?_, h2⟩ fun j hj => by rw [h1 j (by omega), cc j (by omega) (by omega)]; exact hi j hj)
      · rw [h1 78 (by omega), cc 78 (by omega) (by omega), lo 78 (by omega)]; exact k1
      · rw [h1 79 (by omega), c6 79 (by omega), pk_us, hg, hx]
        show _ = if rcs n T w < (g0 n T L).2.2.1 then _ else _
        rw [if_pos (by omega)]
      · rw [h1 80 (by omega), cc 80 (by omega) (by omega), e80, hg]
      · rw [h1 81 (by omega), cc 81 (by omega) (by omega), pk_us, hg]; exact ht
      · have ca : cpyK (upd (upd (upd K 80 (K 80 + 1)) 81 t) 79 x) a = upd (upd (upd K 80 (K 80 + 1)) 81 t) 79 x (82 + a) := if_pos (by omega)
        rw [h1 a (by omega), ca, pk_un (by omega), hi _ (by omega), hm a ha, hg]
        show _ = nI ((if rcs n T w < (g0 n T L).2.2.1 then w else (g0 n T L).2.2.2) a)
        rw [if_pos (by omega)]
  have e79 : upd K 80 (K 80 + 1) 79 = K 79 := pk_un (by omega)
  have e81 : upd K 80 (K 80 + 1) 81 = K 81 := pk_un (by omega)
  rw [e79, e81]
  have hle : K 79 ≤ x ↔ (g0 n T L).2.2.1 ≤ rcs n T w := by rw [Int32.le_iff_toInt_le, k2, hx]
  have heq : x = K 79 ↔ rcs n T w = (g0 n T L).2.2.1 := by rw [← hx, ← k2]; exact ⟨fun q => by rw [q], fun q => Int32.toInt_inj.mp q⟩
  refine ⟨fun q => ⟨fun q2 => fin _ ?_, fun q2 => fin _ ?_⟩, fun q => fin _ ?_⟩
  · rw [k4, nI_1]
    show _ = nI (if rcs n T w < (g0 n T L).2.2.1 then 1 else if rcs n T w = (g0 n T L).2.2.1 then (g0 n T L).2.1 + 1 else (g0 n T L).2.1)
    rw [if_neg (by have := hle.mp q; omega), if_pos (heq.mp q2)]
  · rw [k4]
    show _ = nI (if rcs n T w < (g0 n T L).2.2.1 then 1 else if rcs n T w = (g0 n T L).2.2.1 then (g0 n T L).2.1 + 1 else (g0 n T L).2.1)
    rw [if_neg (by have := hle.mp q; omega), if_neg fun z => q2 (heq.mpr z)]
  · show _ = nI (if rcs n T w < (g0 n T L).2.2.1 then 1 else if rcs n T w = (g0 n T L).2.2.1 then (g0 n T L).2.1 + 1 else (g0 n T L).2.1)
    rw [if_pos (Int.not_le.mp fun z => q (hle.mpr z))]; rfl
