/-! PURE: what the model tries and takes back: wouldBid, chain -/
theorem bidT_hi {n k : Nat} {d : Int32} {T : TS} {a m j : Nat} (hn : n ≤ 6) (ha : a < 6) (hm : m < 6) (hj : 96 ≤ j) : bidT n k d T a m j = T j := by
  unfold bidT bidX
  rw [pk_un (by omega), pk_un (by omega), pk_un (by omega)]
  cases e : atA n T (nI m) with
  | none => exact pk_un (by omega)
  | some o =>
    have := (atA_some e).1
    show upd (upd (upd T _ _) _ _) 4 _ j = _
    rw [pk_un (by omega), pk_un (by omega), pk_un (by omega)]
theorem bOn_hi {n k : Nat} {d : Int32} (hn : n ≤ 6) (hk : k ≤ 6) {j : Nat} (hj : 96 ≤ j) : ∀ (f : Nat) (T : TS) (c : Nat), (bOn n k d f T c).2 j = T j
  | 0, T, c => rfl
  | f + 1, T, c => by
    unfold bOn
    cases hf : frA n T with
    | none => rfl
    | some a =>
      have := (frA_some hf).1
      simp only []
      cases hl : lk n k T a none with
      | none => rfl
      | some m =>
        have := lk_lt hl
        simp only []
        by_cases q : pT T m + mvs n k T a ≤ 9999
        · rw [if_pos q, bOn_hi hn hk hj f, bidT_hi hn (by omega) (by omega) hj]
        · rw [if_neg q]
/-- a try put back: nothing but the last row has changed -/
theorem back_ok {T T' : TS} (h : ∀ j, 96 ≤ j → T' j = cpT 0 11 T j) : ∀ j, j < 1056 → cpT 11 0 T' j = T j := fun j hj => by
  by_cases q : j < 96
  · have := cpT_in (f := 11) (t := 0) (T := T') q
    rw [show 96 * 0 + j = j by omega] at this
    rw [this, h _ (by omega)]
    have := cpT_in (f := 0) (t := 11) (T := T) q
    rw [this, show 96 * 0 + j = j by omega]
  · rw [cpT_out (by omega), h j (by omega), cpT_out (by omega)]
theorem back_q {S : MS} {T' : TS} {v : Int32} (h : ∀ j, 96 ≤ j → T' j = cpT 0 11 (S 1) j) : Jq (sput S 0 0 v) (sset (sput S 0 0 v) (cpT 11 0 T')) := by
  refine ⟨fun j hj => ?_, by rw [sset_ne (by decide)], by rw [sset_ne (by decide)], by rw [sset_ne (by decide)], fun j _ _ _ => by rw [sset_ne (by decide)]⟩
  rw [sset_1, sput0_1]; exact back_ok h j hj
def wbA (n k : Nat) (T : TS) : Nat × Int32 := match (bOn n k 1 FU T 0).1 with
  | none => (1, 0)
  | some c => (0, nI c)
theorem s_mwbLoop {Y : Int} {n k : Nat} {K : MS → Int32 → Int32 → Prop} {P : Int32 → MS → Prop} : ∀ (f : Nat) (S : MS) (c g : Nat), IT Y n k (S 1) → 59994 - pot k (S 1) < f → f + 1 ≤ g → (∀ c' T', (bOn n k 1 f (S 1) c).1 = some c' → (∀ j, 96 ≤ j → T' j = S 1 j) → K (sset S T') (nI c') 0) → (∀ T' z y, (bOn n k 1 f (S 1) c).1 = none → (∀ j, 96 ≤ j → T' j = S 1 j) → y ≠ 0 → K (sset S T') z y) → L_mwouldBid_16 K P g S (nI c) 0 (enc (frA n (S 1)))
  | 0, S, c, g, hI, hf, _, _, _ => by have := pot_le hI; omega
  | f + 1, S, c, 0, hI, hf, hg, h1, h2 => by omega
  | f + 1, S, c, g + 1, hI, hf, hg, h1, h2 => by
    have hn := hI.n6
    have hk := hI.k6
    have key : bOn n k 1 (f + 1) (S 1) c = match frA n (S 1) with
      | none => (some c, S 1)
      | some a => match lk n k (S 1) a none with
        | none => (none, S 1)
        | some m => if pT (S 1) m + mvs n k (S 1) a ≤ 9999 then bOn n k 1 f (bidT n k 1 (S 1) a m) (c + 1) else (none, S 1) := rfl
    unfold L_mwouldBid_16
    cases hfr : frA n (S 1) with
    | none =>
      simp only [hfr] at key
      have := h1 c (S 1) (by rw [key]) (fun _ _ => rfl)
      rw [sset_id] at this
      exact ⟨fun _ => this, fun q => (q rfl).elim⟩
    | some a =>
      simp only [hfr] at key
      have ha := (frA_some hfr).1
      -- a refusal: one turn more
      have stop : ∀ y : Int32, y ≠ 0 → (bOn n k 1 (f + 1) (S 1) c).1 = none → (y = 0 → F_mbidsNow S (nI a) (fun r_15 S_14 => F_mfirstFree S_14 (fun r_12 S_11 => L_mwouldBid_16 K P g S_11 (nI c + 1) y r_12))) ∧ (¬ y = 0 → F_mfirstFree S (fun r_12 S_11 => L_mwouldBid_16 K P g S_11 (nI c) y r_12)) := fun y hy hno => by
        refine ⟨fun q => absurd q hy, fun _ => s_mfirstFree hn hI.t0 ?_⟩
        obtain ⟨g', rfl⟩ : ∃ g', g = g' + 1 := ⟨g - 1, by omega⟩
        unfold L_mwouldBid_16
        have := h2 (S 1) (nI c) y hno (fun _ _ => rfl) hy
        rw [sset_id] at this
        exact ⟨fun _ => this, fun _ => ⟨fun q => absurd q hy, fun _ => this⟩⟩
      refine ⟨fun q => absurd q (nI_ne_m1 (by omega)), fun _ => ⟨fun _ => s_mwhyNot hI (by omega) (jn_i ?_), fun q => (q rfl).elim⟩⟩
      cases hl : lk n k (S 1) a none with
      | none =>
        simp only [hl] at key
        exact stop 6 (by decide) (by rw [key])
      | some m =>
        simp only [hl] at key
        have hm := lk_lt hl
        simp only []
        by_cases q : pT (S 1) m + mvs n k (S 1) a ≤ 9999
        · rw [if_pos q] at key ⊢
          refine ⟨fun _ => s_mbidsNow hI (by omega) hl ?_, fun q2 => (q2 rfl).elim⟩
          have hI2 := hI.bid (d := 1) ha hl q
          have hp := pot_bid (d := 1) hI (show a < 6 by omega) hl
          refine s_mfirstFree hn (by rw [sset_1]; exact hI2.t0) ?_
          rw [nI_1]
          refine s_mwbLoop f (sset S (bidT n k 1 (S 1) a m)) (c + 1) g (by rw [sset_1]; exact hI2) (by rw [sset_1]; omega) (by omega) (fun c' T' e hT => ?_) (fun T' z y e hT hy => ?_)
          · rw [sset_1] at e hT
            rw [sset_sset]
            exact h1 c' T' (by rw [key]; exact e) (fun j hj => by rw [hT j hj, bidT_hi hn (by omega) (by omega) hj])
          · rw [sset_1] at e hT
            rw [sset_sset]
            exact h2 T' z y (by rw [key]; exact e) (fun j hj => by rw [hT j hj, bidT_hi hn (by omega) (by omega) hj]) hy
        · rw [if_neg q] at key ⊢
          exact stop 7 (by decide) (by rw [key])
theorem cp11_re {T : TS} : RE I96 T (cpT 0 11 T) := fun j (hj : j < 96) => cpT_out (by omega)
theorem IT.cp11 {Y : Int} {n k : Nat} {T : TS} (h : IT Y n k T) : IT Y n k (cpT 0 11 T) := h.re fun j hj _ _ _ _ => cpT_out (by omega)
theorem s_mwouldBid {Y : Int} {n k : Nat} {S : MS} {P : Int32 → MS → Prop} (hI : IT Y n k (S 1)) (h : qM (wbA n k (S 1)) S P) : F_mwouldBid S P := by
  have hn := hI.n6
  have hk := hI.k6
  unfold F_mwouldBid
  unfold wbA at h
  refine s_mcopies (f := 0) (t := 11) (by decide) (by decide) (by decide) (s_mfirstFree hn (by rw [sset_1]; exact hI.cp11.t0) ?_)
  have eb : (bOn n k 1 FU (cpT 0 11 (S 1)) 0).1 = (bOn n k 1 FU (S 1) 0).1 := (bOn_re core96 hn hk (fun _ => rfl) FU _ _ 0 cp11_re).1
  refine s_mwbLoop FU (sset S (cpT 0 11 (S 1))) 0 NF (by rw [sset_1]; exact hI.cp11) (by rw [sset_1]; have := pot_le hI.cp11; have := FU_big; omega) (Nat.le_of_ble_eq_true rfl) (fun c' T' e hT => ?_) (fun T' z y e hT hy => ?_)
  · rw [sset_1] at e hT
    rw [eb] at e
    rw [e] at h
    refine s_mcopies (f := 11) (t := 0) (by decide) (by decide) (by decide) (jn_i ⟨fun _ => s_misThere1 ⟨fun q => absurd q (by decide), fun _ => ?_⟩, fun q => (q rfl).elim⟩)
    rw [sset_sset, sset_1, sset_sset, ← sset_sput0]
    exact h _ (back_q hT)
  · rw [sset_1] at e hT
    rw [eb] at e
    rw [e] at h
    refine s_mcopies (f := 11) (t := 0) (by decide) (by decide) (by decide) (jn_i ⟨fun q => absurd q hy, fun _ => s_misThere0 ⟨fun _ => ?_, fun q => (q rfl).elim⟩⟩)
    rw [sset_sset, sset_1, sset_sset, ← sset_sput0]
    exact h _ (back_q hT)
/-- the apprentices of a chain; none if a bid of it would be refused -/
def chn (n k : Nat) (d : Int32) : Nat → TS → Option Nat → Option (List Nat)
  | _, _, none => some []
  | 0, _, some _ => none
  | f + 1, T, some a => match lk n k T a none with
    | none => none
    | some m => if pT T m + mvs n k T a ≤ 9999 then (chn n k d f (bidT n k d T a m) (atA n T (nI m))).map (a :: ·) else none
def toldF (pl : Int32) : Nat → List Nat → Int32 → Int32
  | _, [], t => t
  | c, a :: l, t => toldF pl (c + 1) l (if nI c = pl then nI a else t)
theorem s_mchLoop {Y : Int} {n k : Nat} {K : MS → Int32 → Int32 → Prop} {P : Int32 → MS → Prop} {pl : Int32} : ∀ (f : Nat) (S : MS) (o : Option Nat) (c g : Nat) (t : Int32), IT Y n k (S 1) → (∀ a, o = some a → a < n) → 59994 - pot k (S 1) < f → f + 1 ≤ g → (∀ l T', chn n k 1 f (S 1) o = some l → (∀ j, 96 ≤ j → T' j = S 1 j) → K (sset S T') 0 (toldF pl c l t)) → (∀ T' y z, chn n k 1 f (S 1) o = none → (∀ j, 96 ≤ j → T' j = S 1 j) → y ≠ 0 → K (sset S T') y z) → L_mchain_30 K P pl g S (enc o) (nI c) 0 t
  | 0, S, o, c, g, t, hI, ho, hf, _, _, _ => by have := pot_le hI; omega
  | f + 1, S, o, c, 0, t, hI, ho, hf, hg, h1, h2 => by omega
  | f + 1, S, none, c, g + 1, t, hI, ho, hf, hg, h1, h2 => by
    unfold L_mchain_30
    have := h1 [] (S 1) rfl (fun _ _ => rfl)
    rw [sset_id] at this
    exact ⟨fun _ => this, fun q => (q rfl).elim⟩
  | f + 1, S, some a, c, g + 1, t, hI, ho, hf, hg, h1, h2 => by
    have hn := hI.n6
    have hk := hI.k6
    have ha := ho a rfl
    have key : chn n k 1 (f + 1) (S 1) (some a) = match lk n k (S 1) a none with
      | none => none
      | some m => if pT (S 1) m + mvs n k (S 1) a ≤ 9999 then (chn n k 1 f (bidT n k 1 (S 1) a m) (atA n (S 1) (nI m))).map (a :: ·) else none := rfl
    unfold L_mchain_30
    have body : ∀ t' : Int32, t' = (if nI c = pl then nI a else t) → F_mwhyNot S (enc (some a)) (fun r_13 S_12 => (r_13 = 0 → F_mbidsNow S_12 (enc (some a)) (fun r_16 S_15 => L_mchain_30 K P pl g S_15 r_16 (nI c + 1) r_13 t')) ∧ (¬ r_13 = 0 → L_mchain_30 K P pl g S_12 (enc (some a)) (nI c + 1) r_13 t')) := fun t' ht' => by
      have stop : ∀ y : Int32, y ≠ 0 → chn n k 1 (f + 1) (S 1) (some a) = none → L_mchain_30 K P pl g S (enc (some a)) (nI c + 1) y t' := fun y hy hno => by
        obtain ⟨g', rfl⟩ : ∃ g', g = g' + 1 := ⟨g - 1, by omega⟩
        unfold L_mchain_30
        have := h2 (S 1) y t' hno (fun _ _ => rfl) hy
        rw [sset_id] at this
        exact ⟨fun _ => this, fun _ => ⟨fun q => absurd q hy, fun _ => this⟩⟩
      refine s_mwhyNot hI (by omega) ?_
      cases hl : lk n k (S 1) a none with
      | none =>
        simp only [hl] at key
        exact ⟨fun q => absurd q (show ¬ (6 : Int32) = 0 by decide), fun _ => stop 6 (by decide) key⟩
      | some m =>
        simp only [hl] at key
        have hm := lk_lt hl
        simp only []
        by_cases q : pT (S 1) m + mvs n k (S 1) a ≤ 9999
        · rw [if_pos q] at key ⊢
          have hI2 := hI.bid (d := 1) ha hl q
          have hp := pot_bid (d := 1) hI (show a < 6 by omega) hl
          refine ⟨fun _ => s_mbidsNow hI (by omega) hl ?_, fun q2 => (q2 rfl).elim⟩
          rw [nI_1]
          refine s_mchLoop f (sset S (bidT n k 1 (S 1) a m)) _ (c + 1) g t' (by rw [sset_1]; exact hI2) (fun o e => (atA_some e).1) (by rw [sset_1]; omega) (by omega) (fun l T' e hT => ?_) (fun T' y z e hT hy => ?_)
          · rw [sset_1] at e hT
            rw [sset_sset]
            have := h1 (a :: l) T' (by rw [key, e]; rfl) (fun j hj => by rw [hT j hj, bidT_hi hn (by omega) (by omega) hj])
            rw [ht']; exact this
          · rw [sset_1] at e hT
            rw [sset_sset]
            exact h2 T' y z (by rw [key, e]; rfl) (fun j hj => by rw [hT j hj, bidT_hi hn (by omega) (by omega) hj]) hy
        · rw [if_neg q] at key ⊢
          exact ⟨fun q2 => absurd q2 (by decide), fun _ => stop 7 (by decide) key⟩
    refine ⟨fun q => absurd q (nI_ne_m1 (by omega)), fun _ => ⟨fun _ => jn_i ⟨fun q => body _ (by rw [if_pos q]; rfl), fun q => body _ (by rw [if_neg q])⟩, fun q => (q rfl).elim⟩⟩
def chA (n k : Nat) (T : TS) (pl : Int32) : Nat × Int32 := match frA n T with
  | none => (1, 0)
  | some a => match chn n k 1 FU T (some a) with
    | none => (1, 0)
    | some l => if toldF pl 0 l (-1) = -1 then (1, 0) else (0, toldF pl 0 l (-1))
theorem chn_re {I : Nat → Prop} {n k : Nat} (hc : Core I) (hn : n ≤ 6) (hk : k ≤ 6) {d d' : Int32} (hd : I 3 → d' = d) : ∀ (f : Nat) (T T' : TS) (o : Option Nat), (∀ a, o = some a → a < n) → RE I T T' → chn n k d' f T' o = chn n k d f T o
  | 0, T, T', none, _, h => rfl
  | 0, T, T', some a, _, h => rfl
  | f + 1, T, T', none, _, h => rfl
  | f + 1, T, T', some a, ho, h => by
    have ha := ho a rfl
    unfold chn
    rw [lk_re hc h hk (show a < 6 by omega)]
    cases hl : lk n k T a none with
    | none => rfl
    | some m =>
      have hm := lk_lt hl
      simp only [pT_re hc h (show m < 6 by omega), mvs_re hc h hk (show a < 6 by omega), atA_re hc h hn]
      by_cases q : pT T m + mvs n k T a ≤ 9999
      · simp only [if_pos q]
        rw [chn_re hc hn hk hd f _ _ _ (fun o e => (atA_some e).1) (bidT_re hc h hn hk (by omega) (by omega) hd)]
      · simp only [if_neg q]
theorem s_mchain {Y : Int} {n k : Nat} {S : MS} {P : Int32 → MS → Prop} {pl : Int32} (hI : IT Y n k (S 1)) (h : qM (chA n k (S 1) pl) S P) : F_mchain S pl P := by
  have hn := hI.n6
  have hk := hI.k6
  unfold F_mchain
  unfold chA at h
  have efr : frA n (cpT 0 11 (S 1)) = frA n (S 1) := frA_re core96 cp11_re hn
  refine s_mcopies (f := 0) (t := 11) (by decide) (by decide) (by decide) (s_mfirstFree hn (by rw [sset_1]; exact hI.cp11.t0) (jn_i ?_))
  rw [sset_1, efr]
  cases hf : frA n (S 1) with
  | none =>
    rw [hf] at h
    refine ⟨fun _ => ?_, fun q => (q rfl).elim⟩
    show L_mchain_30 _ P pl (99999 + 1) (sset S (cpT 0 11 (S 1))) (-1) 0 6 (-1)
    unfold L_mchain_30
    refine ⟨fun _ => s_mcopies (f := 11) (t := 0) (by decide) (by decide) (by decide) (jn_i (jn_i ⟨fun q => absurd q (by decide), fun _ => s_misThere0 ⟨fun _ => ?_, fun q => (q rfl).elim⟩⟩)), fun q => (q rfl).elim⟩
    rw [sset_1, sset_sset, ← sset_sput0]
    exact h _ (back_q fun _ _ => rfl)
  | some a =>
    have ha := (frA_some hf).1
    simp only [hf] at h
    have ec : chn n k 1 FU (cpT 0 11 (S 1)) (some a) = chn n k 1 FU (S 1) (some a) := chn_re core96 hn hk (fun _ => rfl) FU _ _ _ (fun b e => by cases e; exact ha) cp11_re
    refine ⟨fun q => absurd q (nI_ne_m1 (by omega)), fun _ => ?_⟩
    refine s_mchLoop FU (sset S (cpT 0 11 (S 1))) (some a) 0 NF (-1) (by rw [sset_1]; exact hI.cp11) (fun b e => by cases e; exact ha) (by rw [sset_1]; have := pot_le hI.cp11; have := FU_big; omega) (Nat.le_of_ble_eq_true rfl) (fun l T' e hT => ?_) (fun T' y z e hT hy => ?_)
    · rw [sset_1] at e hT
      rw [ec] at e
      rw [e] at h
      simp only [] at h
      refine s_mcopies (f := 11) (t := 0) (by decide) (by decide) (by decide) (jn_i (jn_i ⟨fun _ => ⟨fun q => s_misThere0 ⟨fun _ => ?_, fun q => (q rfl).elim⟩, fun q => s_misThere1 ⟨fun q => absurd q (by decide), fun _ => ?_⟩⟩, fun q => (q rfl).elim⟩))
      · rw [if_pos q] at h
        rw [sset_sset, sset_1, sset_sset, ← sset_sput0]
        exact h _ (back_q hT)
      · rw [if_neg q] at h
        rw [sset_sset, sset_1, sset_sset, ← sset_sput0]
        exact h _ (back_q hT)
    · rw [sset_1] at e hT
      rw [ec] at e
      rw [e] at h
      refine s_mcopies (f := 11) (t := 0) (by decide) (by decide) (by decide) (jn_i (jn_i ⟨fun q => absurd q hy, fun _ => s_misThere0 ⟨fun _ => ?_, fun q => (q rfl).elim⟩⟩))
      rw [sset_sset, sset_1, sset_sset, ← sset_sput0]
      exact h _ (back_q hT)
