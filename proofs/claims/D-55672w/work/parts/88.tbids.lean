/-! PURE: the town's bids -/
theorem atA_congr {n : Nat} {T T' : TS} {x : Int32} (h : ∀ a, a < n → T' (84 + a) = T (84 + a)) : atA n T' x = atA n T x := by
  unfold atA
  have key : ∀ r i, i + r ≤ n → fstA (fun a => decide (T' (84 + a) = x)) r i = fstA (fun a => decide (T (84 + a) = x)) r i := by
    intro r
    induction r with
    | zero => intro i _; rfl
    | succ r ih =>
      intro i hi
      unfold fstA
      rw [h i (by omega), ih (i + 1) (by omega)]
  exact key n 0 (by omega)
/-- a bid, if it can be: who is bid for -/
def bicP (n k : Nat) (d : Int32) (T : TS) (P : Int32 → TS → Prop) : Prop := match frA n T with
  | none => P (-1) T
  | some a => match lk n k T a none with
    | none => P (-1) T
    | some m => if pT T m + mvs n k T a ≤ 9999 then P (nI m) (bidT n k d T a m) else P (-1) T
theorem le9999 {Y : Int} {n k : Nat} {T : TS} (hI : IT Y n k T) {a m : Nat} (ha : a < 6) (hm : m < 6) : T (78 + m) + mvI n k T a ≤ 9999 ↔ pT T m + mvs n k T a ≤ 9999 := by
  rw [Int32.le_iff_toInt_le, bid_price (hI := hI) ha hm]
  rfl
theorem nm_i {α : Type} {v : α} {t : α → Prop} (h : t v) : nm v t := h
theorem jn_i {α : Type} {K : α} {t : α → Prop} (h : t K) : jn K t := h
theorem enc_some {m : Nat} : enc (some m) = nI m := rfl
theorem enc_none : enc none = -1 := rfl
theorem upd_same {f : TS} {k : Nat} {v : Int32} (h : v = f k) : upd f k v = f := by
  funext j
  by_cases e : j = k
  · subst e; rw [pk_us]; exact h
  · exact pk_un e
theorem s_tbidsIfCan {Y : Int} {n k : Nat} {T : TS} (hI : IT Y n k T) {P : Int32 → TS → Prop} (h : bicP n k 0 T P) : F_tbidsIfCan T P := by
  have hn := hI.n6
  have hk := hI.k6
  unfold F_tbidsIfCan
  unfold bicP at h
  refine s_tlowestFree hn hI.t0 ?_
  refine jn_i ?_
  cases hf : frA n T with
  | none => rw [hf] at h; exact ⟨fun _ => ⟨fun _ => h, fun q => (q rfl).elim⟩, fun q => (q rfl).elim⟩
  | some a =>
    rw [hf] at h
    have ha := frA_some hf
    refine ⟨fun q => absurd q (nI_ne_m1 (by omega)), fun _ => s_tlikes hI (by omega) ?_⟩
    cases hl : lk n k T a none with
    | none => simp only [hl] at h; exact ⟨fun _ => h, fun q => (q rfl).elim⟩
    | some m =>
      simp only [hl] at h
      have hm := lk_lt hl
      have hm6 : m < 6 := by omega
      rw [enc_some, enc_some]
      refine ⟨fun q => absurd q (nI_ne_m1 (by omega)), fun _ => ⟨vp_in_nI hm6 (by decide), ?_⟩⟩
      refine s_tmoves hI (by omega) ?_
      rw [ix hm6 (by decide), le9999 hI (by omega) hm6]
      refine ⟨fun q => ?_, fun q => by rw [if_neg q] at h; exact h⟩
      rw [if_pos q] at h
      refine ⟨vp_in_nI hm6 (by decide), s_tmoves hI (by omega) ⟨vp_in_nI hm6 (by decide), nm_i ?_⟩⟩
      have e1 : atA n (upd T (78 + m) (T (78 + m) + mvI n k T a)) (nI m) = atA n T (nI m) := atA_congr fun b hb => pk_un (by omega)
      refine s_tapprenticeAt hn (by rw [pk_un (by omega)]; exact hI.t0) ?_
      rw [e1]
      have e2 : ∀ X : TS, X = bidX n k T a m → X 3 = T 3 → X (90 + m) = T (90 + m) → vp_in (nI a) 6 ∧ nm (upd X (84 + (nI a).toNatClampNeg) (nI m)) (fun T_17 => vp_in (nI m) 6 ∧ vp_in (nI m) 6 ∧ nm (upd T_17 (90 + m) (T_17 (90 + m) + 1)) (fun T_18 => P (nI m) T_18)) := fun X hX h3 h9 => by
        refine ⟨vp_in_nI (by omega) (by decide), nm_i ⟨vp_in_nI hm6 (by decide), vp_in_nI hm6 (by decide), nm_i ?_⟩⟩
        rw [ix (show a < 6 by omega) (by decide)]
        have e3 : upd (upd X (84 + a) (nI m)) (90 + m) ((upd X (84 + a) (nI m)) (90 + m) + 1) = bidT n k 0 T a m := by
          unfold bidT
          rw [← hX, upd_same (f := upd X (84 + a) (nI m)) (k := 3) (by rw [pk_un (by omega), h3]; exact Int32.add_zero _), pk_un (by omega : 90 + m ≠ 84 + a), h9]
        rw [e3]; exact h
      refine jn_i ?_
      cases ho : atA n T (nI m) with
      | none =>
        simp only [bidX, ho] at e2
        exact ⟨fun _ => e2 _ rfl (pk_un (by omega)) (pk_un (by omega)), fun q => (q rfl).elim⟩
      | some o =>
        simp only [bidX, ho] at e2
        have ho1 := (atA_some ho).1
        refine ⟨fun q => absurd q (nI_ne_m1 (by omega)), fun _ => ⟨vp_in_nI (show o < 6 by omega) (by decide), nm_i (nm_i ?_)⟩⟩
        rw [show (enc (some o)).toNatClampNeg = o from ix (show o < 6 by omega) (by decide)]
        refine e2 _ ?_ ?_ ?_
        · rw [pk_un (by omega : (4 : Nat) ≠ 84 + o), pk_un (by omega : (4 : Nat) ≠ 78 + m)]
        · rw [pk_un (by omega), pk_un (by omega), pk_un (by omega)]
        · rw [pk_un (by omega), pk_un (by omega), pk_un (by omega)]
/-- bids until none is free; none if one can't be -/
def bOn (n k : Nat) (d : Int32) : Nat → TS → Nat → Option Nat × TS
  | 0, T, _ => (none, T)
  | f + 1, T, c => match frA n T with
    | none => (some c, T)
    | some a => match lk n k T a none with
      | none => (none, T)
      | some m => if pT T m + mvs n k T a ≤ 9999 then bOn n k d f (bidT n k d T a m) (c + 1) else (none, T)
def pot (k : Nat) (T : TS) : Int := su (pC k T) k
theorem pot_le {Y : Int} {n k : Nat} {T : TS} (hI : IT Y n k T) : 0 ≤ pot k T ∧ pot k T ≤ 59994 := by
  have hk := hI.k6
  have h1 : ∀ i, i < k → 0 ≤ pC k T i ∧ pC k T i ≤ 9999 := fun i hi => by rw [pC_lt hi]; exact hI.price (by omega)
  refine ⟨su_nonneg fun i hi => (h1 i hi).1, ?_⟩
  have h2 : pot k T ≤ su (fun _ => 1 * 9999) k := su_le fun i hi => by have := (h1 i hi).2; omega
  rw [su_mul (f := fun _ => 1), su_one] at h2
  omega
theorem pot_bid {Y : Int} {n k : Nat} {T : TS} {d : Int32} (hI : IT Y n k T) {a m : Nat} (ha : a < 6) (hl : lk n k T a none = some m) : pot k T + 1 ≤ pot k (bidT n k d T a m) := by
  have hm := lk_lt hl
  have h1 := ((mvs_bd hI ha).2.2.2 m hl).1
  unfold pot
  rw [pC_bid hI ha hm, su_ud hm]; omega
theorem s_tbidsOn {Y : Int} {n k : Nat} (P : Int32 → TS → Prop) : ∀ (f : Nat) (T : TS) (c g : Nat), IT Y n k T → 59994 - pot k T < f → f ≤ g → (∀ c', (bOn n k 0 f T c).1 = some c' → P (nI c') (bOn n k 0 f T c).2) → ((bOn n k 0 f T c).1 = none → P (-1) (bOn n k 0 f T c).2) → L_tbidsOn_2 P g T (nI c)
  | 0, T, c, g, hI, hf, _, _, _ => by have := pot_le hI; omega
  | f + 1, T, c, 0, hI, hf, hg, h1, h2 => by omega
  | f + 1, T, c, g + 1, hI, hf, hg, h1, h2 => by
    have hn := hI.n6
    have hk := hI.k6
    unfold L_tbidsOn_2
    refine s_tlowestFree hn hI.t0 ?_
    have key : bOn n k 0 (f + 1) T c = match frA n T with
      | none => (some c, T)
      | some a => match lk n k T a none with
        | none => (none, T)
        | some m => if pT T m + mvs n k T a ≤ 9999 then bOn n k 0 f (bidT n k 0 T a m) (c + 1) else (none, T) := rfl
    cases hfr : frA n T with
    | none =>
      simp only [hfr] at key
      rw [key] at h1
      exact ⟨fun _ => h1 c rfl, fun q => (q rfl).elim⟩
    | some a =>
      simp only [hfr] at key
      have ha := frA_some hfr
      refine ⟨fun q => absurd q (nI_ne_m1 (by omega)), fun _ => s_tbidsIfCan hI ?_⟩
      unfold bicP
      simp only [hfr]
      cases hl : lk n k T a none with
      | none =>
        simp only [hl] at key
        rw [key] at h2
        exact ⟨fun _ => h2 rfl, fun q => (q trivial).elim⟩
      | some m =>
        simp only [hl] at key
        have hm := lk_lt hl
        by_cases hc : pT T m + mvs n k T a ≤ 9999
        · simp only [if_pos hc] at key ⊢
          refine ⟨fun q => absurd q (nI_ne_m1 (by omega)), fun _ => ?_⟩
          rw [key] at h1 h2
          rw [nI_1]
          have := pot_bid (d := 0) hI (show a < 6 by omega) hl
          exact s_tbidsOn P f _ (c + 1) g (hI.bid ha.1 hl hc) (by omega) (by omega) h1 h2
        · simp only [if_neg hc] at key ⊢
          rw [key] at h2
          exact ⟨fun _ => h2 rfl, fun q => (q trivial).elim⟩
