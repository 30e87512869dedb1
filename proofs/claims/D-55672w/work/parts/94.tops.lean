/-! PURE: what the orders do: a refusal (reason, detail) or what is told and the town behind it -/
abbrev OR : Type := (Int32 × Int32) ⊕ (Int32 × TS)
def orP (o : OR) (P : Int32 → TS → Prop) (X : Int32 → Int32 → Prop) : Prop := match o with
  | .inl r => X r.1 r.2
  | .inr v => P v.1 v.2
def orS (o : OR) (P : Int32 → TS → Prop) (X : Int32 → Int32 → Prop) : Prop := match o with
  | .inl r => X r.1 r.2
  | .inr v => ∀ T'', Sm v.2 T'' → P v.1 T''
theorem orS.p {o : OR} {P : Int32 → TS → Prop} {X : Int32 → Int32 → Prop} (h : orS o P X) : orP o P X := by
  cases o with
  | inl r => exact h
  | inr v => exact h _ Sm.rf
abbrev inR (x : Int32) (n : Nat) : Prop := 0 ≤ x.toInt ∧ x.toInt < n
theorem inR_of {x : Int32} {n : Nat} (hn : n ≤ 1000) (h : inR x n) : ∃ j, j < n ∧ x = nI j := vp_in_of (vp_in_iff.mpr h) (by omega)
theorem nIm1 {n : Nat} (hn : n ≤ 1000) : (nI n - 1).toInt = (n : Int) - 1 := by
  rw [i32_sub] <;> rw [nI_toInt (by omega), i32_1] <;> omega
theorem bet_t {x : Int32} {n : Nat} (hn : n ≤ 1000) (h : inR x n) : bet x 0 (nI n - 1) = 1 := by
  unfold bet
  rw [if_pos]
  rw [Int32.le_iff_toInt_le, Int32.le_iff_toInt_le, nIm1 hn]
  have : (0 : Int32).toInt = 0 := by decide
  omega
theorem bet_f {x : Int32} {n : Nat} (hn : n ≤ 1000) (h : ¬ inR x n) : bet x 0 (nI n - 1) = 0 := by
  unfold bet
  rw [if_neg]
  rw [Int32.le_iff_toInt_le, Int32.le_iff_toInt_le, nIm1 hn]
  have : (0 : Int32).toInt = 0 := by decide
  omega
theorem bet60 {c : Int32} : bet c 0 60 = if 0 ≤ c.toInt ∧ c.toInt ≤ 60 then 1 else 0 := by
  have e : (0 ≤ c ∧ c ≤ 60) ↔ (0 ≤ c.toInt ∧ c.toInt ≤ 60) := by
    rw [Int32.le_iff_toInt_le, Int32.le_iff_toInt_le]; exact Iff.rfl
  unfold bet
  by_cases h : 0 ≤ c.toInt ∧ c.toInt ≤ 60
  · rw [if_pos h, if_pos (e.mpr h)]
  · rw [if_neg h, if_neg (fun q => h (e.mp q))]
def cix (a m : Int32) : Nat := 6 + 6 * a.toNatClampNeg + m.toNatClampNeg
def comesO (T : TS) (w : Nat) : OR := if T w = 6 then .inl (1, 6) else .inr (T w, anew (upd T w (T w + 1)))
def costsO (n k : Nat) (T : TS) (a m c : Int32) : OR := if ¬ inR a n then .inl (2, a) else if ¬ inR m k then .inl (2, m) else if ¬ (0 ≤ c.toInt ∧ c.toInt ≤ 60) then .inl (3, c) else if c = T (cix a m) then .inl (4, c) else .inr (T (cix a m), upd T (cix a m) c)
def barsO (n k : Nat) (T : TS) (a m : Int32) : OR := if ¬ inR a n then .inl (2, a) else if ¬ inR m k then .inl (2, m) else if T (cix a m) = -1 then .inl (4, a) else .inr (T (cix a m), if T (84 + a.toNatClampNeg) = m then upd (upd T (cix a m) (-1)) (84 + a.toNatClampNeg) (-1) else upd T (cix a m) (-1))
def leavesO (n : Nat) (T : TS) (a : Int32) : OR := if ¬ inR a n then .inl (2, a) else if T (84 + a.toNatClampNeg) = -1 then .inl (9, a) else .inr (T (84 + a.toNatClampNeg), upd T (84 + a.toNatClampNeg) (-1))
def bidO (n k : Nat) (d : Int32) (T : TS) : OR := match frA n T with
  | none => .inl (5, nI n)
  | some a => match lk n k T a none with
    | none => .inl (6, nI a)
    | some m => if pT T m + mvs n k T a ≤ 9999 then .inr (nI m, bidT n k d T a m) else .inl (7, T (78 + m))
def mxT (n k : Nat) (T : TS) : Nat := (mf k (okT T) n n fun _ => false).toNat
def encC : Option Nat → Int32
  | none => -1
  | some c => nI c
def settleO (n k : Nat) (d : Int32) (T : TS) : OR := if mxT n k T = n then .inr (encC (stT n k d T).1, (stT n k d T).2) else .inl (8, nI (mxT n k T))
theorem six {T : TS} {w n : Nat} (hn : n ≤ 6) (h : T w = nI n) : (6 : Int32) ≤ T w ↔ T w = 6 := by
  rw [h]
  have e : (6 : Int32) = nI 6 := rfl
  rw [e, nI_leI (by omega) (by omega), nI_eq (by omega) (by omega)]; omega
theorem s_tapprenticeComes {n : Nat} {T : TS} (hn : n ≤ 6) (ht : T 0 = nI n) {P : Int32 → TS → Prop} {X : Int32 → Int32 → Prop} (h : orP (comesO T 0) P X) : F_tapprenticeComes T P X := by
  unfold F_tapprenticeComes
  refine jn_i ?_
  unfold comesO at h
  rw [six hn ht]
  refine ⟨fun e => ⟨fun _ => by rw [if_pos e] at h; exact h, fun q => (q rfl).elim⟩, fun e => ⟨fun q => absurd q (by decide), fun _ => nm_i (s_tbeginsAnew ?_)⟩⟩
  rw [if_neg e] at h
  rw [anew_lo (by omega), pk_us, show T 0 + 1 - 1 = T 0 from Int32.add_sub_cancel _ _]
  exact h
theorem s_tmasterComes {k : Nat} {T : TS} (hk : k ≤ 6) (ht : T 1 = nI k) {P : Int32 → TS → Prop} {X : Int32 → Int32 → Prop} (h : orP (comesO T 1) P X) : F_tmasterComes T P X := by
  unfold F_tmasterComes
  refine jn_i ?_
  unfold comesO at h
  rw [six hk ht]
  refine ⟨fun e => ⟨fun _ => by rw [if_pos e] at h; exact h, fun q => (q rfl).elim⟩, fun e => ⟨fun q => absurd q (by decide), fun _ => nm_i (s_tbeginsAnew ?_)⟩⟩
  rw [if_neg e] at h
  rw [anew_lo (by omega), pk_us, show T 1 + 1 - 1 = T 1 from Int32.add_sub_cancel _ _]
  exact h
theorem s_tcheckA {n : Nat} {T : TS} (hn : n ≤ 6) (ht : T 0 = nI n) {x : Int32} {P : TS → Prop} {X : Int32 → Int32 → Prop} (h0 : ¬ inR x n → X 2 x) (h1 : inR x n → P T) : F_tcheckApprentice T x P X := by
  unfold F_tcheckApprentice
  rw [ht]
  by_cases e : inR x n
  · rw [bet_t (by omega) e]; exact ⟨fun q => absurd q (by decide), fun _ => h1 e⟩
  · rw [bet_f (by omega) e]; exact ⟨fun _ => h0 e, fun q => (q rfl).elim⟩
theorem s_tcheckB {n k : Nat} {T : TS} (hn : n ≤ 6) (hk : k ≤ 6) (ht0 : T 0 = nI n) (ht1 : T 1 = nI k) {x y : Int32} {P : TS → Prop} {X : Int32 → Int32 → Prop} (h0 : ¬ inR x n → X 2 x) (h1 : inR x n → ¬ inR y k → X 2 y) (h2 : inR x n → inR y k → P T) : F_tcheckBoth T x y P X := by
  unfold F_tcheckBoth
  refine s_tcheckA hn ht0 h0 (fun hx => ?_)
  rw [ht1]
  by_cases e : inR y k
  · rw [bet_t (by omega) e]; exact ⟨fun q => absurd q (by decide), fun _ => h2 hx e⟩
  · rw [bet_f (by omega) e]; exact ⟨fun _ => h1 hx e, fun q => (q rfl).elim⟩
theorem vin6 {x : Int32} {n : Nat} (hn : n ≤ 6) (h : inR x n) : vp_in x 6 := vp_in_iff.mpr ⟨h.1, by omega⟩
theorem s_ttellsCost {n k : Nat} {T : TS} (hn : n ≤ 6) (hk : k ≤ 6) (ht0 : T 0 = nI n) (ht1 : T 1 = nI k) {a m c : Int32} {P : Int32 → TS → Prop} {X : Int32 → Int32 → Prop} (h : orP (costsO n k T a m c) P X) : F_ttellsCost T a m c P X := by
  unfold F_ttellsCost
  unfold costsO at h
  refine s_tcheckB hn hk ht0 ht1 (fun ha => by rw [if_pos ha] at h; exact h) (fun ha hm => by rw [if_neg (fun q => q ha), if_pos hm] at h; exact h) (fun ha hm => ?_)
  rw [if_neg (fun q => q ha), if_neg (fun q => q hm)] at h
  rw [bet60]
  by_cases hc : 0 ≤ c.toInt ∧ c.toInt ≤ 60
  · rw [if_neg (fun q => q hc)] at h
    rw [if_pos hc]
    refine ⟨fun q => absurd q (by decide), fun _ => ⟨vin6 hn ha, vin6 hk hm, jn_i ⟨fun e => ⟨fun _ => ?_, fun q => (q rfl).elim⟩, fun e => ⟨fun q => absurd q (by decide), fun _ => ⟨vin6 hn ha, vin6 hk hm, nm_i ?_⟩⟩⟩⟩⟩
    · have h : orP (if c = T (cix a m) then .inl (4, c) else .inr (T (cix a m), upd T (cix a m) c)) P X := h
      rw [if_pos (show c = T (cix a m) from e)] at h; exact h
    · have h : orP (if c = T (cix a m) then .inl (4, c) else .inr (T (cix a m), upd T (cix a m) c)) P X := h
      rw [if_neg (show ¬ c = T (cix a m) from e)] at h; exact h
  · rw [if_pos hc] at h
    rw [if_neg hc]
    exact ⟨fun _ => h, fun q => (q rfl).elim⟩
theorem s_tbars {n k : Nat} {T : TS} (hn : n ≤ 6) (hk : k ≤ 6) (ht0 : T 0 = nI n) (ht1 : T 1 = nI k) {a m : Int32} {P : Int32 → TS → Prop} {X : Int32 → Int32 → Prop} (h : orP (barsO n k T a m) P X) : F_tbars T a m P X := by
  unfold F_tbars
  unfold barsO at h
  refine s_tcheckB hn hk ht0 ht1 (fun ha => by rw [if_pos ha] at h; exact h) (fun ha hm => by rw [if_neg (fun q => q ha), if_pos hm] at h; exact h) (fun ha hm => ?_)
  rw [if_neg (fun q => q ha), if_neg (fun q => q hm)] at h
  obtain ⟨a', ha', rfl⟩ := inR_of (by omega) ha
  obtain ⟨m', hm', rfl⟩ := inR_of (by omega) hm
  have e1 : cix (nI a') (nI m') = 6 + 6 * a' + m' := by unfold cix; rw [ix (show a' < 6 by omega) (by decide), ix (show m' < 6 by omega) (by decide)]
  rw [e1, ix (show a' < 6 by omega) (by decide)] at h
  rw [ix (show a' < 6 by omega) (by decide), ix (show m' < 6 by omega) (by decide)]
  refine ⟨vin6 hn ha, vin6 hk hm, jn_i ⟨fun e => ⟨fun _ => ?_, fun q => (q rfl).elim⟩, fun e => ⟨fun q => absurd q (by decide), fun _ => ⟨vin6 hn ha, vin6 hk hm, nm_i ⟨vin6 hn ha, ?_⟩⟩⟩⟩⟩
  · rw [if_pos e] at h; exact h
  · rw [if_neg e] at h
    rw [pk_un (show 84 + a' ≠ 6 + 6 * a' + m' by omega)]
    refine ⟨fun e2 => ⟨vin6 hn ha, nm_i ?_⟩, fun e2 => ⟨vin6 hn ha, vin6 hn ha, nm_i ?_⟩⟩
    · rw [if_pos e2] at h; exact h
    · rw [if_neg e2] at h
      rw [upd_same (f := upd T (6 + 6 * a' + m') (-1)) (k := 84 + a') (by rw [pk_un (show 84 + a' ≠ 6 + 6 * a' + m' by omega)])]
      exact h
theorem s_tleaves {n : Nat} {T : TS} (hn : n ≤ 6) (ht0 : T 0 = nI n) {a : Int32} {P : Int32 → TS → Prop} {X : Int32 → Int32 → Prop} (h : orP (leavesO n T a) P X) : F_tleaves T a P X := by
  unfold F_tleaves
  unfold leavesO at h
  refine s_tcheckA hn ht0 (fun ha => by rw [if_pos ha] at h; exact h) (fun ha => ?_)
  rw [if_neg (fun q => q ha)] at h
  refine ⟨vin6 hn ha, jn_i ⟨fun e => ⟨fun _ => ?_, fun q => (q rfl).elim⟩, fun e => ⟨fun q => absurd q (by decide), fun _ => ⟨vin6 hn ha, nm_i ?_⟩⟩⟩⟩
  · rw [if_pos e] at h; exact h
  · rw [if_neg e] at h; exact h
theorem s_tbidsOnce {Y : Int} {n k : Nat} {T : TS} (hI : IT Y n k T) {P : Int32 → TS → Prop} {X : Int32 → Int32 → Prop} (h : orP (bidO n k 0 T) P X) : F_tbidsOnce T P X := by
  have hn := hI.n6
  have hk := hI.k6
  unfold F_tbidsOnce
  unfold bidO at h
  refine s_tlowestFree hn hI.t0 (jn_i ?_)
  cases hf : frA n T with
  | none =>
    rw [hf] at h
    exact ⟨fun _ => ⟨fun _ => by rw [hI.t0]; exact h, fun q => (q rfl).elim⟩, fun q => (q rfl).elim⟩
  | some a =>
    have ha := (frA_some hf).1
    simp only [hf] at h
    refine ⟨fun q => absurd q (nI_ne_m1 (by omega)), fun _ => ⟨fun q => absurd q (by decide), fun _ => s_tlikes hI (by omega) (jn_i ?_)⟩⟩
    cases hl : lk n k T a none with
    | none =>
      simp only [hl] at h
      exact ⟨fun _ => ⟨fun _ => h, fun q => (q rfl).elim⟩, fun q => (q rfl).elim⟩
    | some m =>
      have hm := lk_lt hl
      simp only [hl] at h
      rw [enc_some, enc_some]
      refine ⟨fun q => absurd q (nI_ne_m1 (by omega)), fun _ => ⟨fun q => absurd q (by decide), fun _ => ⟨vp_in_nI (by omega) (by decide), s_tmoves hI (by omega) (jn_i ?_)⟩⟩⟩
      rw [ix (show m < 6 by omega) (by decide)]
      have hle := le9999 hI (show a < 6 by omega) (show m < 6 by omega)
      refine ⟨fun q => ⟨vp_in_nI (by omega) (by decide), fun _ => ?_, fun q => (q rfl).elim⟩, fun q => ⟨vp_in_nI (by omega) (by decide), fun q => absurd q (by decide), fun _ => s_tbidsIfCan hI ?_⟩⟩
      · rw [if_neg fun z => Int32.not_le.mpr q (hle.mpr z)] at h; exact h
      · have hc : pT T m + mvs n k T a ≤ 9999 := hle.mp (Int32.not_lt.mp q)
        rw [if_pos hc] at h
        unfold bicP
        simp only [hf, hl, if_pos hc]
        exact h
theorem mxT_is {n k : Nat} {T : TS} : MaxM n k (okP T) (mxT n k T : Int) := by
  have h := mf_max (k := k) (ok := okT T) (n := n)
  have h0 : 0 ≤ mf k (okT T) n n fun _ => false := by
    obtain ⟨⟨μ, -, e⟩, -⟩ := h
    rw [← e]; exact su_nonneg fun i _ => o1_nonneg _
  show MaxM n k (fun a m => okT T a m = true) ((mf k (okT T) n n fun _ => false).toNat : Int)
  rw [Int.toNat_of_nonneg h0]
  exact h
theorem mxT_eq {n k c : Nat} {T : TS} (h : MaxM n k (okP T) (c : Int)) : c = mxT n k T := by
  have := h.one mxT_is; omega
theorem mxT_le {n k : Nat} {T : TS} : mxT n k T ≤ n ∧ (mxT n k T = n ↔ rows n k T ≠ []) := by
  have h := most_whole (n := n) (k := k) (T := T) (s := (mxT n k T : Int)) mxT_is
  refine ⟨by omega, ?_⟩
  rw [← h.2]; omega
theorem s_tsettles {Y : Int} {n k : Nat} {T : TS} (hI : IT Y n k T) {P : Int32 → TS → Prop} {X : Int32 → Int32 → Prop} (h : orS (settleO n k 0 T) P X) : F_tsettles T P X := by
  have hn := hI.n6
  have hk := hI.k6
  unfold F_tsettles
  unfold settleO at h
  refine s_tmost hn hk hI.t0 hI.t1 (fun c T1 hS hM => jn_i ?_)
  have hc := mxT_eq hM
  subst hc
  have hle := mxT_le (n := n) (k := k) (T := T)
  rw [show T1 0 = nI n from (hS 0 (by omega)).trans hI.t0, nI_eq (by omega) (by omega)]
  refine ⟨fun e => ⟨fun q => absurd q (by decide), fun _ => s_tbeginsAnew (nm_i ?_)⟩, fun e => ⟨fun _ => ?_, fun q => (q rfl).elim⟩⟩
  · rw [if_pos e] at h
    have hre : RE I96 (upd (anew T) 5 (T 5 + 1)) (upd (anew T1) 5 (anew T1 5 + 1)) := (anew_re hS.re).upd fun _ => by rw [anew_lo (by omega), hS 5 (by omega)]
    obtain ⟨g1, g2⟩ := bOn_re (n := n) (k := k) (d := 0) (d' := 0) core96 hn hk (fun _ => rfl) FU _ _ 0 hre
    have hI1 : IT Y n k (upd (anew T1) 5 (anew T1 5 + 1)) := (hI.sm hS).nw.re fun j _ _ _ _ h5 => pk_un h5
    refine s_tbids60 hI1 (fun c hc => ?_) (fun hc => ?_)
    · rw [g1] at hc
      have h2 := h _ g2
      rw [show (stT n k 0 T).1 = some c from hc] at h2
      exact h2
    · rw [g1] at hc
      have h2 := h _ g2
      rw [show (stT n k 0 T).1 = none from hc] at h2
      exact h2
  · rw [if_neg e] at h; exact h
