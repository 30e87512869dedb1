/-! PURE: what the model's small methods answer -/
def sset (S : MS) (T : TS) : MS := fun i => if i = 1 then T else S i
theorem sset_1 {S : MS} {T : TS} : sset S T 1 = T := if_pos rfl
theorem sset_ne {S : MS} {T : TS} {i : Nat} (h : i ≠ 1) : sset S T i = S i := if_neg h
theorem sput_1 {S : MS} {k : Nat} {v : Int32} : sput S 1 k v = sset S (upd (S 1) k v) := by
  funext i; unfold sput sset; rfl
theorem sset_sset {S : MS} {T T' : TS} : sset (sset S T) T' = sset S T' := by
  funext i; unfold sset; by_cases h : i = 1 <;> simp [h]
theorem sput_sset {S : MS} {T : TS} {k : Nat} {v : Int32} : sput (sset S T) 1 k v = sset S (upd T k v) := by rw [sput_1, sset_1, sset_sset]
theorem sset_id {S : MS} : sset S (S 1) = S := by
  funext i; unfold sset; by_cases h : i = 1
  · rw [if_pos h, h]
  · rw [if_neg h]
theorem c6 (m : Nat) : (6 : Int32) + nI m = nI (6 + m) := nI_add 6 m
theorem c78 (m : Nat) : (78 : Int32) + nI m = nI (78 + m) := nI_add 78 m
theorem c84 (m : Nat) : (84 : Int32) + nI m = nI (84 + m) := nI_add 84 m
theorem c90 (m : Nat) : (90 : Int32) + nI m = nI (90 + m) := nI_add 90 m
theorem c42 (m : Nat) : (42 : Int32) + nI m = nI (42 + m) := nI_add 42 m
theorem cc6 (a m : Nat) : ((6 : Int32) + 6 * nI a) + nI m = nI (6 + 6 * a + m) := by
  rw [show (6 : Int32) * nI a = nI (6 * a) from pk_mul 6 a, c6, nI_add]
theorem cs42 (a m : Nat) : ((42 : Int32) + 6 * nI a) + nI m = nI (42 + 6 * a + m) := by
  rw [show (6 : Int32) * nI a = nI (6 * a) from pk_mul 6 a, c42, nI_add]
theorem cl {m : Nat} (h : m < 1152) : (nI m).toNatClampNeg = m := nI_clamp (by omega)
theorem k0 : Int32.toNatClampNeg (0) = 0 := by decide
theorem k1 : Int32.toNatClampNeg (1) = 1 := by decide
theorem k2 : Int32.toNatClampNeg (2) = 2 := by decide
theorem k3 : Int32.toNatClampNeg (3) = 3 := by decide
theorem k4 : Int32.toNatClampNeg (4) = 4 := by decide
theorem k5 : Int32.toNatClampNeg (5) = 5 := by decide
theorem vi {m : Nat} (h : m < 1152) : vp_in (nI m) 1152 := vp_in_nI h (by decide)
theorem v0 : vp_in 0 1152 := vi (m := 0) (by decide)
theorem v1 : vp_in 1 1152 := vi (m := 1) (by decide)
theorem v2 : vp_in 2 1152 := vi (m := 2) (by decide)
theorem v3 : vp_in 3 1152 := vi (m := 3) (by decide)
theorem v4 : vp_in 4 1152 := vi (m := 4) (by decide)
theorem v5 : vp_in 5 1152 := vi (m := 5) (by decide)
section MSP
variable {Y : Int} {n k : Nat} {S : MS} {P : Int32 → MS → Prop}
theorem s_min {x lo hi : Int32} (h : P (bet x lo hi) S) : F_min S x lo hi P := by
  unfold F_min
  unfold bet at h
  refine ⟨fun e => ?_, fun e => ⟨fun e2 => ?_, fun e2 => ?_⟩⟩
  · rw [if_neg fun z => Int32.not_lt.mpr z.1 e] at h; exact h
  · rw [if_neg fun z => Int32.not_lt.mpr z.2 e2] at h; exact h
  · rw [if_pos ⟨Int32.not_lt.mp e, Int32.not_lt.mp e2⟩] at h; exact h
theorem s_mc {a m : Nat} (ha : a < 6) (hm : m < 6) (h : P (S 1 (6 + 6 * a + m)) S) : F_mc S (nI a) (nI m) P := by
  unfold F_mc
  rw [cc6, cl (by omega)]
  exact ⟨vi (by omega), h⟩
theorem s_misBarred {a m : Nat} (ha : a < 6) (hm : m < 6) (h0 : okT (S 1) a m = false → P 1 S) (h1 : okT (S 1) a m = true → P 0 S) : F_misBarred S (nI a) (nI m) P := by
  unfold F_misBarred
  exact s_mc ha hm ⟨fun e => h0 (by simp [okT, e]), fun e => h1 (by simp [okT, e])⟩
theorem nb (b : Prop) [Decidable b] : narrow .boolean (.int (if b then 1 else 0)) = .int (if b then 1 else 0) := by split <;> rfl
theorem s_misApprentice (hn : n ≤ 6) (ht : S 1 0 = nI n) {x : Int32} (h0 : ¬ inR x n → P 0 S) (h1 : inR x n → P 1 S) : F_misApprentice S x P := by
  unfold F_misApprentice
  rw [k0, ht]
  refine ⟨v0, s_min ?_⟩
  by_cases e : inR x n
  · rw [bet_t (by omega) e]; exact ⟨rfl, h1 e⟩
  · rw [bet_f (by omega) e]; exact ⟨rfl, h0 e⟩
theorem s_misMaster (hk : k ≤ 6) (ht : S 1 1 = nI k) {x : Int32} (h0 : ¬ inR x k → P 0 S) (h1 : inR x k → P 1 S) : F_misMaster S x P := by
  unfold F_misMaster
  rw [k1, ht]
  refine ⟨v1, s_min ?_⟩
  by_cases e : inR x k
  · rw [bet_t (by omega) e]; exact ⟨rfl, h1 e⟩
  · rw [bet_f (by omega) e]; exact ⟨rfl, h0 e⟩
theorem s_misThere0 (h : P 0 (sput S 0 0 1)) : F_misThere S 0 P := by
  unfold F_misThere
  exact ⟨fun _ => nm_i ⟨rfl, h⟩, fun q => (q rfl).elim⟩
theorem s_misThere1 (h : P 1 (sput S 0 0 0)) : F_misThere S 1 P := by
  unfold F_misThere
  exact ⟨fun q => absurd q (by decide), fun _ => nm_i ⟨rfl, h⟩⟩
/-- refused: what stands then in the numbers -/
def rfz (S : MS) (by_ with_ : Int32) : MS := sput (sput (sput S 0 5 by_) 0 6 with_) 0 7 0
theorem s_mrefuses0 {x y : Int32} (h : P 0 S) : F_mrefuses S 0 x y P := by
  unfold F_mrefuses
  exact ⟨fun _ => ⟨rfl, h⟩, fun q => (q rfl).elim⟩
theorem s_mrefuses1 {x y : Int32} (h : P 1 (rfz S x y)) : F_mrefuses S 1 x y P := by
  unfold F_mrefuses
  exact ⟨fun q => absurd q (by decide), fun _ => nm_i (nm_i (nm_i ⟨rfl, h⟩))⟩
theorem s_mheavy {a m : Nat} (ha : a < 6) (hm : m < 6) (h : P (hvI (S 1) a m) S) : F_mheavy S (nI a) (nI m) P := by
  unfold F_mheavy
  refine s_mc ha hm ⟨v0, ?_⟩
  rw [c78, cl (by omega), k0]
  exact ⟨vi (by omega), h⟩
theorem s_mlikes (hI : IT Y n k (S 1)) {a : Nat} (ha : a < 6) (h : P (enc (lk n k (S 1) a none)) S) : F_mlikes S (nI a) P := by
  have hk := hI.k6
  have ht1 := hI.t1
  unfold F_mlikes
  refine loop_i (σ := Unit) (fun f i _ => L_mlikes_4 P (nI a) f S (enc (best (fun m => okT (S 1) a m && !((none : Option Nat) == some m)) (fun m => hv n (cT (S 1)) (pT (S 1)) a m) i)) (nI i)) (fun _ _ => True) k (fun f _ _ => ?_) (fun f i _ hi _ ih => ?_) NF 0 () (Nat.zero_le _) (by unfold NF; omega) trivial
  · unfold L_mlikes_4
    rw [k1]
    exact ⟨v1, fun _ => h, fun q => absurd (ht1 ▸ nI_le (Nat.le_refl k) (by omega)) q⟩
  · have ih := ih () trivial
    generalize hw : (fun m => hv n (cT (S 1)) (pT (S 1)) a m) = w at *
    generalize ho : (fun m => okT (S 1) a m && !((none : Option Nat) == some m)) = ok at *
    have key : best ok w (i + 1) = match best ok w i with
      | none => if ok i = true then some i else none
      | some b => if ok i = true ∧ w i < w b then some i else some b := rfl
    have hok : ok i = okT (S 1) a i := by rw [← ho]; simp
    rw [← nI_1] at ih
    unfold L_mlikes_4
    rw [k1]
    refine ⟨v1, fun q => absurd q (ht1 ▸ nI_ge hi (by omega)), fun _ => s_misBarred ha (by omega) (fun e => ⟨fun q => absurd q (by decide), fun _ => ?_⟩) (fun e => ⟨fun _ => jn_i ?_, fun q => (q rfl).elim⟩)⟩
    · have e1 : ok i = false := by rw [hok, e]
      have e2 : best ok w (i + 1) = best ok w i := by
        rw [key]
        cases best ok w i with
        | none => simp [e1]
        | some b => simp [e1]
      rw [← e2]; exact ih
    · have e1 : ok i = true := by rw [hok, e]
      cases hbest : best ok w i with
      | none =>
        rw [hbest] at key
        refine ⟨fun _ => ?_, fun q => (q rfl).elim⟩
        have e2 : best ok w (i + 1) = some i := by rw [key]; exact if_pos e1
        rw [e2] at ih; exact ih
      | some b =>
        rw [hbest] at key
        have hbi := (best_some hbest).1
        refine ⟨fun q => absurd q (nI_ne_m1 (by omega)), fun _ => s_mheavy ha (by omega) (s_mheavy ha (by omega) ?_)⟩
        have g1 := (hv_bd hI ha (m := i) (by omega)).2.2
        have g2 := (hv_bd hI ha (m := b) (by omega)).2.2
        have w1 : w i = hv n (cT (S 1)) (pT (S 1)) a i := by rw [← hw]
        have w2 : w b = hv n (cT (S 1)) (pT (S 1)) a b := by rw [← hw]
        have hle : hvI (S 1) a b ≤ hvI (S 1) a i ↔ w b ≤ w i := by rw [Int32.le_iff_toInt_le, g1, g2, w1, w2]
        refine ⟨fun q => ?_, fun q => ?_⟩
        · have e2 : best ok w (i + 1) = some b := by rw [key]; exact if_neg fun z => by have := hle.mp q; omega
          rw [e2] at ih; exact ih
        · have e2 : best ok w (i + 1) = some i := by rw [key]; exact if_pos ⟨e1, Int.not_le.mp fun z => q (hle.mpr z)⟩
          rw [e2] at ih; exact ih
/-- the next burden as the model keeps it -/
def nxI (T : TS) (a : Nat) : Option Nat → Int32
  | none => 1000000
  | some b => hvI T a b
theorem one_sub {x y : Int32} : 1 + x - y = x - y + 1 := by
  rw [Int32.sub_eq_add_neg, Int32.sub_eq_add_neg, Int32.add_comm 1 x, Int32.add_assoc, Int32.add_comm 1 (-y), ← Int32.add_assoc]
theorem s_mraise (hI : IT Y n k (S 1)) {a : Nat} (ha : a < 6) (h : P (mvI n k (S 1) a) S) : F_mraise S (nI a) P := by
  have hk := hI.k6
  have ht1 := hI.t1
  unfold F_mraise
  refine s_mlikes hI ha ?_
  generalize hbut : lk n k (S 1) a none = but
  have hb6 : ∀ m, but = some m → m < 6 := fun m e => by have := lk_lt (hbut.trans e); omega
  refine loop_i (σ := Unit) (fun f i _ => L_mraise_12 _ P (nI a) (enc but) f S (nxI (S 1) a (best (fun m => okT (S 1) a m && !(but == some m)) (fun m => hv n (cT (S 1)) (pT (S 1)) a m) i)) (nI i)) (fun _ _ => True) k (fun f _ _ => ?_) (fun f i _ hi _ ih => ?_) NF 0 () (Nat.zero_le _) (by unfold NF; omega) trivial
  · unfold L_mraise_12
    rw [k1]
    refine ⟨v1, fun _ => ?_, fun q => absurd (ht1 ▸ nI_le (Nat.le_refl k) (by omega)) q⟩
    unfold mvI at h
    rw [hbut] at h
    cases but with
    | none => exact ⟨fun _ => h, fun q => (q rfl).elim⟩
    | some b =>
      have hb := hb6 b rfl
      refine ⟨fun q => absurd q (nI_ne_m1 (by omega)), fun _ => ?_⟩
      have e2 : best (fun m => okT (S 1) a m && !(some b == some m)) (fun m => hv n (cT (S 1)) (pT (S 1)) a m) k = lk n k (S 1) a (some b) := rfl
      rw [e2]
      cases hl2 : lk n k (S 1) a (some b) with
      | none =>
        simp only [hl2] at h
        exact ⟨fun _ => h, fun q => (q rfl).elim⟩
      | some b2 =>
        simp only [hl2] at h
        have hb2 := lk_lt hl2
        have g := hv_bd hI ha (m := b2) (by omega)
        refine ⟨fun q => ?_, fun _ => s_mheavy ha hb ?_⟩
        · have q2 : hvI (S 1) a b2 = 1000000 := q
          have e3 := g.2.2
          rw [q2] at e3
          have e4 : (1000000 : Int32).toInt = 1000000 := by decide
          omega
        · rw [one_sub]; exact h
  · have ih := ih () trivial
    generalize hw : (fun m => hv n (cT (S 1)) (pT (S 1)) a m) = w at *
    generalize ho : (fun m => okT (S 1) a m && !(but == some m)) = ok at *
    have key : best ok w (i + 1) = match best ok w i with
      | none => if ok i = true then some i else none
      | some b => if ok i = true ∧ w i < w b then some i else some b := rfl
    have hok : ok i = (okT (S 1) a i && !(but == some i)) := by rw [← ho]
    have hbi : nI i = enc but ↔ but = some i := by
      cases but with
      | none => exact ⟨fun e => absurd e (nI_ne_m1 (by omega)), fun e => by cases e⟩
      | some m =>
        have := hb6 m rfl
        rw [show enc (some m) = nI m from rfl, nI_eq (by omega) (by omega)]
        exact ⟨fun e => by rw [e], fun e => by cases e; rfl⟩
    have hno : ok i = false → best ok w (i + 1) = best ok w i := fun e1 => by
      rw [key]
      cases best ok w i with
      | none => simp [e1]
      | some b => simp [e1]
    unfold L_mraise_12
    rw [k1, nI_1]
    refine ⟨v1, fun q => absurd q (ht1 ▸ nI_ge hi (by omega)), fun _ => ⟨fun q => ?_, fun q => s_misBarred ha (by omega) (fun e => ⟨fun q2 => absurd q2 (by decide), fun _ => ?_⟩) (fun e => ⟨fun _ => s_mheavy ha (by omega) ?_, fun q2 => (q2 rfl).elim⟩)⟩⟩
    · rw [hno (by rw [hok, hbi.mp q]; simp)] at ih; exact ih
    · rw [hno (by rw [hok, e]; rfl)] at ih; exact ih
    · have e1 : ok i = true := by
        rw [hok, e]
        cases hbb : (but == some i) with
        | false => rfl
        | true => exact absurd (hbi.mpr (by simpa using hbb)) q
      have g1 := hv_bd hI ha (m := i) (by omega)
      cases hbest : best ok w i with
      | none =>
        rw [hbest] at key
        have e2 : best ok w (i + 1) = some i := by rw [key]; exact if_pos e1
        rw [e2] at ih
        refine ⟨fun q2 => ?_, fun _ => s_mheavy ha (by omega) ih⟩
        have q3 : (1000000 : Int32).toInt ≤ (hvI (S 1) a i).toInt := Int32.le_iff_toInt_le.mp q2
        have e4 : (1000000 : Int32).toInt = 1000000 := by decide
        omega
      | some b =>
        rw [hbest] at key
        have hbb := (best_some hbest).1
        have g2 := (hv_bd hI ha (m := b) (by omega)).2.2
        have w1 : w i = hv n (cT (S 1)) (pT (S 1)) a i := by rw [← hw]
        have w2 : w b = hv n (cT (S 1)) (pT (S 1)) a b := by rw [← hw]
        have hle : hvI (S 1) a b ≤ hvI (S 1) a i ↔ w b ≤ w i := by rw [Int32.le_iff_toInt_le, g1.2.2, g2, w1, w2]
        refine ⟨fun q2 => ?_, fun q2 => s_mheavy ha (by omega) ?_⟩
        · have e2 : best ok w (i + 1) = some b := by rw [key]; exact if_neg fun z => by have := hle.mp q2; omega
          rw [e2] at ih; exact ih
        · have e2 : best ok w (i + 1) = some i := by rw [key]; exact if_pos ⟨e1, Int.not_le.mp fun z => q2 (hle.mpr z)⟩
          rw [e2] at ih; exact ih
theorem s_mheldBy (hn : n ≤ 6) (ht : S 1 0 = nI n) {x : Int32} (h : P (enc (atA n (S 1) x)) S) : F_mheldBy S x P := by
  unfold F_mheldBy
  refine loop_i (σ := Unit) (fun f i _ => L_mheldBy_2 P x f S (nI i)) (fun i _ => fstA (fun a => decide (S 1 (84 + a) = x)) (n - i) i = atA n (S 1) x) n (fun f _ hx => ?_) (fun f i _ hi hx ih => ?_) NF 0 () (Nat.zero_le _) (by unfold NF; omega) rfl
  · unfold L_mheldBy_2
    rw [Nat.sub_self] at hx
    rw [← hx] at h
    rw [k0]
    exact ⟨v0, fun _ => h, fun q => absurd (ht ▸ nI_le (Nat.le_refl n) (by omega)) q⟩
  · unfold L_mheldBy_2
    rw [fstA_step hi] at hx
    rw [k0, c84, cl (by omega), nI_1]
    refine ⟨v0, fun q => absurd q (ht ▸ nI_ge hi (by omega)), fun _ => ⟨vi (by omega), fun e => ?_, fun e => ?_⟩⟩
    · rw [if_pos (by simp [e])] at hx
      rw [← hx] at h; exact h
    · rw [if_neg (by simp [e])] at hx
      exact ih () hx
theorem s_mfirstFree (hn : n ≤ 6) (ht : S 1 0 = nI n) (h : P (enc (frA n (S 1))) S) : F_mfirstFree S P := by
  unfold F_mfirstFree
  refine loop_i (σ := Unit) (fun f i _ => L_mfirstFree_2 P f S (nI i)) (fun i _ => fstA (fun a => decide (S 1 (84 + a) = -1)) (n - i) i = frA n (S 1)) n (fun f _ hx => ?_) (fun f i _ hi hx ih => ?_) NF 0 () (Nat.zero_le _) (by unfold NF; omega) rfl
  · unfold L_mfirstFree_2
    rw [Nat.sub_self] at hx
    rw [← hx] at h
    rw [k0]
    exact ⟨v0, fun _ => h, fun q => absurd (ht ▸ nI_le (Nat.le_refl n) (by omega)) q⟩
  · unfold L_mfirstFree_2
    rw [fstA_step hi] at hx
    rw [k0, c84, cl (by omega), nI_1]
    refine ⟨v0, fun q => absurd q (ht ▸ nI_ge hi (by omega)), fun _ => ⟨vi (by omega), fun e => ?_, fun e => ?_⟩⟩
    · rw [if_pos (by simp [e])] at hx
      rw [← hx] at h; exact h
    · rw [if_neg (by simp [e])] at hx
      exact ih () hx
theorem s_mwhyNot (hI : IT Y n k (S 1)) {a : Nat} (ha : a < 6) (h : P (match lk n k (S 1) a none with
    | none => 6
    | some m => if pT (S 1) m + mvs n k (S 1) a ≤ 9999 then 0 else 7) S) : F_mwhyNot S (nI a) P := by
  have hk := hI.k6
  unfold F_mwhyNot
  refine s_mlikes hI ha ?_
  cases hl : lk n k (S 1) a none with
  | none => simp only [hl] at h; exact ⟨fun _ => h, fun q => (q rfl).elim⟩
  | some m =>
    have hm := lk_lt hl
    simp only [hl] at h
    rw [enc_some, c78, cl (by omega)]
    refine ⟨fun q => absurd q (nI_ne_m1 (by omega)), fun _ => ⟨vi (by omega), s_mraise hI ha ?_⟩⟩
    rw [le9999 hI ha (show m < 6 by omega)]
    exact ⟨fun q => by rw [if_pos q] at h; exact h, fun q => by rw [if_neg q] at h; exact h⟩
theorem s_mbidsNow (hI : IT Y n k (S 1)) {a m : Nat} (ha : a < 6) (hl : lk n k (S 1) a none = some m) (h : P (enc (atA n (S 1) (nI m))) (sset S (bidT n k 1 (S 1) a m))) : F_mbidsNow S (nI a) P := by
  have hn := hI.n6
  have hk := hI.k6
  have hm := lk_lt hl
  unfold F_mbidsNow
  refine s_mlikes hI ha ?_
  rw [hl, enc_some]
  refine s_mheldBy hn hI.t0 ?_
  rw [c78, c84, c90, cl (by omega), cl (by omega), cl (by omega), k3, k4]
  refine ⟨vi (by omega), s_mraise hI ha ⟨vi (by omega), nm_i ?_⟩⟩
  rw [sput_1]
  refine jn_i ?_
  have fin : ∀ X : TS, X = bidX n k (S 1) a m → X 3 = S 1 3 → X (90 + m) = S 1 (90 + m) → vp_in (nI (84 + a)) 1152 ∧ nm (sput (sset S X) 1 (84 + a) (nI m)) (fun S_10 => vp_in 3 1152 ∧ vp_in 3 1152 ∧ nm (sput S_10 1 3 (S_10 1 3 + 1)) (fun S_11 => vp_in (nI (90 + m)) 1152 ∧ vp_in (nI (90 + m)) 1152 ∧ nm (sput S_11 1 (90 + m) (S_11 1 (90 + m) + 1)) (fun S_12 => P (enc (atA n (S 1) (nI m))) S_12))) := fun X hX h3 h9 => by
    refine ⟨vi (by omega), nm_i ⟨v3, v3, nm_i ⟨vi (by omega), vi (by omega), nm_i ?_⟩⟩⟩
    rw [sput_sset, sset_1, sput_sset, sset_1, sput_sset]
    rw [pk_un (by omega : (3 : Nat) ≠ 84 + a), h3, pk_un (by omega : 90 + m ≠ 3), pk_un (by omega : 90 + m ≠ 84 + a), h9, hX]
    exact h
  cases ho : atA n (S 1) (nI m) with
  | none =>
    rw [ho] at fin
    have hX : bidX n k (S 1) a m = upd (S 1) (78 + m) (S 1 (78 + m) + mvI n k (S 1) a) := by unfold bidX; rw [ho]
    exact ⟨fun _ => fin _ hX.symm (pk_un (by omega)) (pk_un (by omega)), fun q => (q rfl).elim⟩
  | some o =>
    rw [ho] at fin
    have ho1 := (atA_some ho).1
    have hX : bidX n k (S 1) a m = upd (upd (upd (S 1) (78 + m) (S 1 (78 + m) + mvI n k (S 1) a)) (84 + o) (-1)) 4 (S 1 4 + 1) := by unfold bidX; rw [ho]
    rw [enc_some, c84, cl (by omega)]
    refine ⟨fun q => absurd q (nI_ne_m1 (by omega)), fun _ => ⟨vi (by omega), nm_i ⟨v4, v4, nm_i ?_⟩⟩⟩
    rw [sput_sset, sset_1, sput_sset, pk_un (by omega : (4 : Nat) ≠ 84 + o), pk_un (by omega : (4 : Nat) ≠ 78 + m)]
    exact fin _ hX.symm (by rw [pk_un (by omega), pk_un (by omega), pk_un (by omega)]) (by rw [pk_un (by omega), pk_un (by omega), pk_un (by omega)])
end MSP
