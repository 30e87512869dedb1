/-! PURE: what the town's small methods answer -/
theorem ix {a N : Nat} (h : a < N) (hN : N ≤ 1000) : (nI a).toNatClampNeg = a := nI_clamp (by omega)
section IT
variable {Y : Int} {n k : Nat} {T : TS}
theorem IT.n6 (h : IT Y n k T) : n ≤ 6 := h.1
theorem IT.k6 (h : IT Y n k T) : k ≤ 6 := h.2.1
theorem IT.t0 (h : IT Y n k T) : T 0 = nI n := h.2.2.1
theorem IT.t1 (h : IT Y n k T) : T 1 = nI k := h.2.2.2.1
theorem IT.cost (h : IT Y n k T) {a m : Nat} (ha : a < 6) (hm : m < 6) : T (6 + 6 * a + m) = -1 ∨ (0 ≤ cT T a m ∧ cT T a m ≤ 60) := h.2.2.2.2.1 a m ha hm
theorem IT.price (h : IT Y n k T) {m : Nat} (hm : m < 6) : 0 ≤ pT T m ∧ pT T m ≤ 9999 := h.2.2.2.2.2.1 m hm
theorem IT.pair (h : IT Y n k T) {a : Nat} (ha : a < 6) : T (84 + a) = -1 ∨ (a < n ∧ ∃ m, m < k ∧ T (84 + a) = nI m ∧ T (6 + 6 * a + m) ≠ -1) := h.2.2.2.2.2.2.1 a ha
theorem IT.inj (h : IT Y n k T) {a b : Nat} (ha : a < 6) (hb : b < 6) (e : T (84 + a) = T (84 + b)) (hn : T (84 + a) ≠ -1) : a = b := h.2.2.2.2.2.2.2.1 a b ha hb e hn
theorem IT.out (h : IT Y n k T) {a m : Nat} (ha : a < 6) (hm : m < 6) (ho : n ≤ a ∨ k ≤ m) : T (6 + 6 * a + m) = 30 ∧ T (42 + 6 * a + m) = 0 := h.2.2.2.2.2.2.2.2.1 a m ha hm ho
theorem IT.outm (h : IT Y n k T) {m : Nat} (hm : m < 6) (ho : k ≤ m) : T (78 + m) = 0 ∧ T (90 + m) = 0 := h.2.2.2.2.2.2.2.2.2.1 m hm ho
theorem IT.srv (h : IT Y n k T) {a m : Nat} (ha : a < 6) (hm : m < 6) : 0 ≤ (T (42 + 6 * a + m)).toInt ∧ (T (42 + 6 * a + m)).toInt ≤ Y := h.2.2.2.2.2.2.2.2.2.2 a m ha hm
end IT
theorem cT_m1 {T : TS} {a m : Nat} (h : T (6 + 6 * a + m) = -1) : cT T a m = -1 := by unfold cT; rw [h]; decide
theorem cT_ok {T : TS} {a m : Nat} : cT T a m ≠ -1 ↔ T (6 + 6 * a + m) ≠ -1 := by
  constructor
  · intro h e; exact h (cT_m1 e)
  · intro h e
    refine h (Int32.toInt_inj.mp ?_)
    show cT T a m = _
    rw [e]; decide
theorem okT_iff {T : TS} {a m : Nat} : okT T a m = true ↔ cT T a m ≠ -1 := by
  rw [cT_ok]; simp [okT]
theorem i32_add {x y : Int32} (h1 : -2147483648 ≤ x.toInt + y.toInt) (h2 : x.toInt + y.toInt < 2147483648) : (x + y).toInt = x.toInt + y.toInt := by
  rw [Int32.toInt_add]; exact Int.bmod_eq_of_le (by omega) (by omega)
theorem i32_sub {x y : Int32} (h1 : -2147483648 ≤ x.toInt - y.toInt) (h2 : x.toInt - y.toInt < 2147483648) : (x - y).toInt = x.toInt - y.toInt := by
  rw [Int32.toInt_sub]; exact Int.bmod_eq_of_le (by omega) (by omega)
theorem i32_mul {x y : Int32} (h1 : -2147483648 ≤ x.toInt * y.toInt) (h2 : x.toInt * y.toInt < 2147483648) : (x * y).toInt = x.toInt * y.toInt := by
  rw [Int32.toInt_mul]; exact Int.bmod_eq_of_le (by omega) (by omega)
theorem i32_1 : (1 : Int32).toInt = 1 := by decide
/-- a burden -/
def hvI (T : TS) (a m : Nat) : Int32 := T (6 + 6 * a + m) * (T 0 + 1) + T (78 + m)
theorem hv_bd {Y : Int} {n k : Nat} {T : TS} (h : IT Y n k T) {a m : Nat} (ha : a < 6) (hm : m < 6) : -7 ≤ hv n (cT T) (pT T) a m ∧ hv n (cT T) (pT T) a m ≤ 10419 ∧ (hvI T a m).toInt = hv n (cT T) (pT T) a m := by
  have h1 := h.n6
  have hc : -1 ≤ cT T a m ∧ cT T a m ≤ 60 := by
    rcases h.cost ha hm with e | e
    · rw [cT_m1 e]; decide
    · omega
  have hp := h.price hm
  have e0 : (T 0 + 1).toInt = (n : Int) + 1 := by
    rw [h.t0, i32_add, nI_toInt (by omega), i32_1] <;> rw [nI_toInt (by omega), i32_1] <;> omega
  have g1 : -7 ≤ cT T a m * ((n : Int) + 1) ∧ cT T a m * ((n : Int) + 1) ≤ 420 := by
    have y1 : (0 : Int) ≤ n + 1 := by omega
    constructor
    · have := Int.mul_le_mul_of_nonneg_right hc.1 y1
      omega
    · have := Int.mul_le_mul_of_nonneg_right hc.2 y1
      omega
  have e1 : (T (6 + 6 * a + m) * (T 0 + 1)).toInt = cT T a m * ((n : Int) + 1) := by
    have e3 : (T (6 + 6 * a + m)).toInt = cT T a m := rfl
    rw [i32_mul] <;> rw [e0, e3] <;> omega
  have e2 : (T (78 + m)).toInt = pT T m := rfl
  unfold hv
  refine ⟨by omega, by omega, ?_⟩
  unfold hvI
  rw [i32_add] <;> rw [e1, e2] <;> omega
theorem s_tcanBe {T : TS} {a m : Nat} {P : Int32 → TS → Prop} (ha : a < 6) (hm : m < 6) (h0 : okT T a m = false → P 0 T) (h1 : okT T a m = true → P 1 T) : F_tcanBe T (nI a) (nI m) P := by
  unfold F_tcanBe
  rw [ix ha (by decide), ix hm (by decide)]
  exact ⟨vp_in_nI ha (by decide), vp_in_nI hm (by decide), fun e => h0 (by simp [okT, e]), fun e => h1 (by simp [okT, e])⟩
theorem s_tburden {T : TS} {a m : Nat} {P : Int32 → TS → Prop} (ha : a < 6) (hm : m < 6) (h : P (hvI T a m) T) : F_tburden T (nI a) (nI m) P := by
  unfold F_tburden
  rw [ix ha (by decide), ix hm (by decide)]
  exact ⟨vp_in_nI ha (by decide), vp_in_nI hm (by decide), vp_in_nI hm (by decide), h⟩
theorem lk_lt {n k : Nat} {T : TS} {a : Nat} {but : Option Nat} {m : Nat} (h : lk n k T a but = some m) : m < k := (best_some h).1
theorem s_tliked {Y : Int} {n k : Nat} {T : TS} (hI : IT Y n k T) {a : Nat} (ha : a < 6) {but : Option Nat} (hb : ∀ m, but = some m → m < 6) {P : Int32 → TS → Prop} (h : P (enc (lk n k T a but)) T) : F_tliked T (nI a) (enc but) P := by
  have hk := hI.k6
  have ht1 := hI.t1
  unfold F_tliked
  refine loop_i (σ := Unit) (fun f i _ => L_tliked_5 P (nI a) (enc but) f T (enc (best (fun m => okT T a m && !(but == some m)) (fun m => hv n (cT T) (pT T) a m) i)) (nI i)) (fun _ _ => True) k (fun f _ _ => ?_) (fun f i _ hi _ ih => ?_) NF 0 () (Nat.zero_le _) (by unfold NF; omega) trivial
  · unfold L_tliked_5
    exact ⟨fun _ => h, fun q => absurd (ht1 ▸ nI_le (Nat.le_refl k) (by omega)) q⟩
  · have ih := ih () trivial
    generalize hw : (fun m => hv n (cT T) (pT T) a m) = w at *
    generalize ho : (fun m => okT T a m && !(but == some m)) = ok at *
    have key : best ok w (i + 1) = match best ok w i with
      | none => if ok i = true then some i else none
      | some b => if ok i = true ∧ w i < w b then some i else some b := rfl
    have hok : ok i = (okT T a i && !(but == some i)) := by rw [← ho]
    have hbut : nI i = enc but ↔ but = some i := by
      cases but with
      | none => exact ⟨fun e => absurd e (nI_ne_m1 (by omega)), fun e => by cases e⟩
      | some m =>
        have := hb m rfl
        rw [show enc (some m) = nI m from rfl, nI_eq (by omega) (by omega)]
        exact ⟨fun e => by rw [e], fun e => by cases e; rfl⟩
    rw [← nI_1] at ih
    unfold L_tliked_5
    refine ⟨fun q => absurd q (ht1 ▸ nI_ge hi (by omega)), fun _ => ?_⟩
    have hno : ok i = false → L_tliked_5 P (nI a) (enc but) f T (enc (best ok w i)) (nI i + 1) := fun e => by
      have e2 : best ok w (i + 1) = best ok w i := by
        rw [key]
        cases best ok w i with
        | none => simp [e]
        | some b => simp [e]
      rw [← e2]; exact ih
    have hyes : ok i = true → (enc (best ok w i) = -1 → L_tliked_5 P (nI a) (enc but) f T (nI i) (nI i + 1)) ∧ (¬ enc (best ok w i) = -1 → F_tburden T (nI a) (nI i) (fun r_10 T_9 => F_tburden T_9 (nI a) (enc (best ok w i)) (fun r_12 T_11 => (r_12 ≤ r_10 → L_tliked_5 P (nI a) (enc but) f T_11 (enc (best ok w i)) (nI i + 1)) ∧ (¬ r_12 ≤ r_10 → L_tliked_5 P (nI a) (enc but) f T_11 (nI i) (nI i + 1))))) := fun e => by
      cases hbest : best ok w i with
      | none =>
        rw [hbest] at key
        refine ⟨fun _ => ?_, fun q => absurd rfl q⟩
        have e2 : best ok w (i + 1) = some i := by rw [key]; exact if_pos e
        rw [e2] at ih; exact ih
      | some b =>
        rw [hbest] at key
        have hbi := (best_some hbest).1
        refine ⟨fun q => absurd q (nI_ne_m1 (by omega)), fun _ => ?_⟩
        refine s_tburden ha (by omega) (s_tburden ha (by omega) ?_)
        have g1 := (hv_bd hI ha (m := i) (by omega)).2.2
        have g2 := (hv_bd hI ha (m := b) (by omega)).2.2
        have w1 : w i = hv n (cT T) (pT T) a i := by rw [← hw]
        have w2 : w b = hv n (cT T) (pT T) a b := by rw [← hw]
        have hle : hvI T a b ≤ hvI T a i ↔ w b ≤ w i := by rw [Int32.le_iff_toInt_le, g1, g2, w1, w2]
        refine ⟨fun q => ?_, fun q => ?_⟩
        · have e2 : best ok w (i + 1) = some b := by rw [key]; exact if_neg fun z => by have := hle.mp q; omega
          rw [e2] at ih; exact ih
        · have e2 : best ok w (i + 1) = some i := by rw [key]; exact if_pos ⟨e, Int.not_le.mp fun z => q (hle.mpr z)⟩
          rw [e2] at ih; exact ih
    show (nI i = enc but → _) ∧ _
    refine ⟨fun q => ⟨fun _ => hno ?_, fun q2 => absurd rfl q2⟩, fun q => s_tcanBe ha (by omega) (fun e => ⟨fun _ => ⟨fun _ => hno ?_, fun q2 => absurd rfl q2⟩, fun q2 => absurd rfl q2⟩) (fun e => ⟨fun q2 => absurd q2 (by decide), fun _ => ⟨fun q2 => absurd q2 (by decide), fun _ => hyes ?_⟩⟩)⟩
    · rw [hok, hbut.mp q]; simp
    · rw [hok, e]; rfl
    · rw [hok, e]
      cases hbb : (but == some i) with
      | false => rfl
      | true => exact absurd (hbut.mpr (by simpa using hbb)) q
theorem s_tlikes {Y : Int} {n k : Nat} {T : TS} (hI : IT Y n k T) {a : Nat} (ha : a < 6) {P : Int32 → TS → Prop} (h : P (enc (lk n k T a none)) T) : F_tlikes T (nI a) P := s_tliked hI ha (but := none) (fun m e => by cases e) h
/-- by how much a bid moves a price, as the code has it -/
def mvI (n k : Nat) (T : TS) (a : Nat) : Int32 := match lk n k T a none with
  | none => 0
  | some b => match lk n k T a (some b) with
    | none => 100
    | some b2 => hvI T a b2 - hvI T a b + 1
theorem mvs_bd {Y : Int} {n k : Nat} {T : TS} (hI : IT Y n k T) {a : Nat} (ha : a < 6) : 0 ≤ mvs n k T a ∧ mvs n k T a ≤ 10427 ∧ (mvI n k T a).toInt = mvs n k T a ∧ ∀ m, lk n k T a none = some m → 1 ≤ mvs n k T a ∧ ∀ m', m' < k → m' ≠ m → cT T a m' ≠ -1 → hv n (cT T) (pT T) a m + mvs n k T a ≤ hv n (cT T) (pT T) a m' + 1 := by
  have hk := hI.k6
  unfold mvs mvI
  cases hb : lk n k T a none with
  | none => exact ⟨Int.le_refl 0, (by decide : (0 : Int) ≤ 10427), (by decide : (0 : Int32).toInt = 0), fun m e => by cases e⟩
  | some b =>
    have hb1 := best_some hb
    cases hb2 : lk n k T a (some b) with
    | none =>
      simp only [hb2]
      refine ⟨(by decide : (0 : Int) ≤ 100), (by decide : (100 : Int) ≤ 10427), (by decide : (100 : Int32).toInt = 100), fun m e => ?_⟩
      cases e
      refine ⟨(by decide : (1 : Int) ≤ 100), fun m' hm' hne hc => ?_⟩
      have := best_none hb2 m' hm'
      have h2 : okT T a m' = true := okT_iff.mpr hc
      simp [h2] at this
      exact absurd this.symm hne
    | some b2 =>
      have hb3 := best_some hb2
      have g1 := hv_bd hI ha (m := b) (by omega)
      have g2 := hv_bd hI ha (m := b2) (by omega)
      have hle : hv n (cT T) (pT T) a b ≤ hv n (cT T) (pT T) a b2 := by
        have := hb3.2.1
        simp at this
        exact hb1.2.2 b2 hb3.1 (by simp [this.1])
      simp only [hb2]
      show 0 ≤ hv n (cT T) (pT T) a b2 - hv n (cT T) (pT T) a b + 1 ∧ hv n (cT T) (pT T) a b2 - hv n (cT T) (pT T) a b + 1 ≤ 10427 ∧ (hvI T a b2 - hvI T a b + 1).toInt = _ ∧ _
      refine ⟨by omega, by omega, ?_, fun m e => ?_⟩
      · have e1 : (hvI T a b2 - hvI T a b).toInt = hv n (cT T) (pT T) a b2 - hv n (cT T) (pT T) a b := by
          rw [i32_sub] <;> rw [g1.2.2, g2.2.2] <;> omega
        rw [i32_add] <;> rw [e1, i32_1] <;> omega
      · cases e
        refine ⟨by show 1 ≤ hv n (cT T) (pT T) a b2 - hv n (cT T) (pT T) a b + 1; omega, fun m' hm' hne hc => ?_⟩
        have h2 : okT T a m' = true := okT_iff.mpr hc
        have := hb3.2.2 m' hm' (by simp [h2]; exact fun e => hne e.symm)
        show hv n (cT T) (pT T) a b + (hv n (cT T) (pT T) a b2 - hv n (cT T) (pT T) a b + 1) ≤ _
        omega
theorem s_tmoves {Y : Int} {n k : Nat} {T : TS} (hI : IT Y n k T) {a : Nat} (ha : a < 6) {P : Int32 → TS → Prop} (h : P (mvI n k T a) T) : F_tmoves T (nI a) P := by
  have hk := hI.k6
  unfold F_tmoves
  refine s_tlikes hI ha ?_
  unfold mvI at h
  cases hb : lk n k T a none with
  | none => rw [hb] at h; exact ⟨fun _ => h, fun q => absurd rfl q⟩
  | some b =>
    rw [hb] at h
    have hb1 := lk_lt hb
    refine ⟨fun q => absurd q (nI_ne_m1 (by omega)), fun _ => ?_⟩
    refine s_tliked hI ha (but := some b) (fun m e => by cases e; omega) ?_
    cases hb2 : lk n k T a (some b) with
    | none =>
      simp only [hb2] at h
      exact ⟨fun _ => h, fun q => absurd rfl q⟩
    | some b2 =>
      simp only [hb2] at h
      have hb3 := lk_lt hb2
      refine ⟨fun q => absurd q (nI_ne_m1 (by omega)), fun _ => s_tburden ha (by omega) (s_tburden ha (by omega) h)⟩
/-- the first apprentice with something, in a loop -/
theorem fstA_step {p : Nat → Bool} {n i : Nat} (hi : i < n) : fstA p (n - i) i = if p i = true then some i else fstA p (n - (i + 1)) (i + 1) := by
  rw [show n - i = (n - (i + 1)) + 1 by omega]; rfl
theorem s_tapprenticeAt {n : Nat} {T : TS} (hn : n ≤ 6) (ht : T 0 = nI n) {x : Int32} {P : Int32 → TS → Prop} (h : P (enc (atA n T x)) T) : F_tapprenticeAt T x P := by
  unfold F_tapprenticeAt
  refine loop_i (σ := Unit) (fun f i _ => L_tapprenticeAt_2 P x f T (nI i)) (fun i _ => fstA (fun a => decide (T (84 + a) = x)) (n - i) i = atA n T x) n (fun f _ hx => ?_) (fun f i _ hi hx ih => ?_) NF 0 () (Nat.zero_le _) (by unfold NF; omega) rfl
  · unfold L_tapprenticeAt_2
    refine ⟨fun _ => ?_, fun q => absurd (ht ▸ nI_le (Nat.le_refl n) (by omega)) q⟩
    rw [Nat.sub_self] at hx
    rw [← hx] at h; exact h
  · unfold L_tapprenticeAt_2
    refine ⟨fun q => absurd q (ht ▸ nI_ge hi (by omega)), fun _ => ⟨vp_in_nI (by omega) (by decide), ?_⟩⟩
    rw [ix (show i < 6 by omega) (by decide)]
    rw [fstA_step hi] at hx
    refine ⟨fun e => ?_, fun e => ?_⟩
    · rw [if_pos (by simp [e])] at hx
      rw [← hx] at h; exact h
    · rw [if_neg (by simp [e])] at hx
      have := ih () hx
      rw [← nI_1] at this; exact this
theorem s_tlowestFree {n : Nat} {T : TS} (hn : n ≤ 6) (ht : T 0 = nI n) {P : Int32 → TS → Prop} (h : P (enc (frA n T)) T) : F_tlowestFree T P := by
  unfold F_tlowestFree
  refine loop_i (σ := Unit) (fun f i _ => L_tlowestFree_2 P f T (nI i)) (fun i _ => fstA (fun a => decide (T (84 + a) = -1)) (n - i) i = frA n T) n (fun f _ hx => ?_) (fun f i _ hi hx ih => ?_) NF 0 () (Nat.zero_le _) (by unfold NF; omega) rfl
  · unfold L_tlowestFree_2
    refine ⟨fun _ => ?_, fun q => absurd (ht ▸ nI_le (Nat.le_refl n) (by omega)) q⟩
    rw [Nat.sub_self] at hx
    rw [← hx] at h; exact h
  · unfold L_tlowestFree_2
    refine ⟨fun q => absurd q (ht ▸ nI_ge hi (by omega)), fun _ => ⟨vp_in_nI (by omega) (by decide), ?_⟩⟩
    rw [ix (show i < 6 by omega) (by decide)]
    rw [fstA_step hi] at hx
    refine ⟨fun e => ?_, fun e => ?_⟩
    · rw [if_pos (by simp [e])] at hx
      rw [← hx] at h; exact h
    · rw [if_neg (by simp [e])] at hx
      have := ih () hx
      rw [← nI_1] at this; exact this
