/-! PURE: an order done on two towns that look alike; orders done in a row -/
def orE (I : Nat → Prop) (o o' : OR) : Prop := match o with
  | .inl r => o' = .inl r
  | .inr v => ∃ T', o' = .inr (v.1, T') ∧ RE I v.2 T'
theorem mf_congr {k n : Nat} {ok ok' : Nat → Nat → Bool} (h : ∀ a m, a < n → m < k → ok' a m = ok a m) : ∀ r st, r ≤ n → mf k ok' n r st = mf k ok n r st
  | 0, _, _ => rfl
  | r + 1, st, hr => by
    have key : ∀ (b b' : Int) (c c' : Nat → Bool) (v v' : Nat → Int) (K : Nat), b' = b → (∀ m, m < K → c' m = c m ∧ v' m = v m) → fmax c' v' b' K = fmax c v b K := by
      intro b b' c c' v v' K hb
      induction K with
      | zero => intro _; exact hb
      | succ K ih =>
        intro hK
        show (if c' K = true ∧ fmax c' v' b' K < v' K then v' K else fmax c' v' b' K) = if c K = true ∧ fmax c v b K < v K then v K else fmax c v b K
        rw [ih fun m hm => hK m (by omega), (hK K (by omega)).1, (hK K (by omega)).2]
    exact key _ _ _ _ _ _ k (mf_congr h r st (by omega)) fun m hm => ⟨by rw [h _ m (by omega) hm], by rw [mf_congr h r _ (by omega)]⟩
theorem mxT_re {I : Nat → Prop} {T T' : TS} {n k : Nat} (hc : Core I) (h : RE I T T') (hn : n ≤ 6) (hk : k ≤ 6) : mxT n k T' = mxT n k T := by
  unfold mxT
  rw [mf_congr (ok := okT T) (fun a m ha hm => okT_re hc h (by omega) (by omega)) n _ (Nat.le_refl _)]
section DR
variable {I : Nat → Prop} {T T' : TS} {n k : Nat}
theorem all_core (hA : ∀ j, j < 96 → j ≠ 3 → I j) : Core I := ⟨hA 0 (by omega) (by omega), fun j h1 h2 => hA j (by omega) (by omega), fun j h1 h2 => hA j (by omega) (by omega)⟩
theorem anew_reI (h : RE I T T') : RE I (anew T) (anew T') := fun j hj => by
  unfold anew
  split
  · rfl
  · split
    · rfl
    · exact h j hj
theorem comes_re (hA : ∀ j, j < 96 → j ≠ 3 → I j) (h : RE I T T') {w : Nat} (hw : w < 2) : orE I (comesO T w) (comesO T' w) := by
  unfold comesO
  rw [h w (hA w (by omega) (by omega))]
  by_cases e : T w = 6
  · rw [if_pos e, if_pos e]; rfl
  · rw [if_neg e, if_neg e]
    exact ⟨_, rfl, anew_reI (h.upd fun _ => rfl)⟩
theorem costs_re (hA : ∀ j, j < 96 → j ≠ 3 → I j) (h : RE I T T') (hn : n ≤ 6) (hk : k ≤ 6) {a m c : Int32} : orE I (costsO n k T a m c) (costsO n k T' a m c) := by
  unfold costsO
  by_cases ha : inR a n
  · rw [if_neg (show ¬ ¬ inR a n from fun q => q ha), if_neg (show ¬ ¬ inR a n from fun q => q ha)]
    by_cases hm : inR m k
    · rw [if_neg (show ¬ ¬ inR m k from fun q => q hm), if_neg (show ¬ ¬ inR m k from fun q => q hm)]
      obtain ⟨a', ha', e1⟩ := inR_of (by omega) ha
      obtain ⟨m', hm', e2⟩ := inR_of (by omega) hm
      have ec : cix a m = 6 + 6 * a' + m' := by rw [e1, e2]; unfold cix; rw [ix (show a' < 6 by omega) (by decide), ix (show m' < 6 by omega) (by decide)]
      rw [h (cix a m) (by rw [ec]; exact hA _ (by omega) (by omega))]
      by_cases hc : 0 ≤ c.toInt ∧ c.toInt ≤ 60
      · rw [if_neg (show ¬ ¬ (0 ≤ c.toInt ∧ c.toInt ≤ 60) from fun q => q hc), if_neg (show ¬ ¬ (0 ≤ c.toInt ∧ c.toInt ≤ 60) from fun q => q hc)]
        by_cases e : c = T (cix a m)
        · rw [if_pos e, if_pos e]; rfl
        · rw [if_neg e, if_neg e]; exact ⟨_, rfl, h.upd fun _ => rfl⟩
      · rw [if_pos hc, if_pos hc]; rfl
    · rw [if_pos hm, if_pos hm]; rfl
  · rw [if_pos ha, if_pos ha]; rfl
theorem bars_re (hA : ∀ j, j < 96 → j ≠ 3 → I j) (h : RE I T T') (hn : n ≤ 6) (hk : k ≤ 6) {a m : Int32} : orE I (barsO n k T a m) (barsO n k T' a m) := by
  unfold barsO
  by_cases ha : inR a n
  · rw [if_neg (show ¬ ¬ inR a n from fun q => q ha), if_neg (show ¬ ¬ inR a n from fun q => q ha)]
    by_cases hm : inR m k
    · rw [if_neg (show ¬ ¬ inR m k from fun q => q hm), if_neg (show ¬ ¬ inR m k from fun q => q hm)]
      obtain ⟨a', ha', e1⟩ := inR_of (by omega) ha
      obtain ⟨m', hm', e2⟩ := inR_of (by omega) hm
      have ea : a.toNatClampNeg = a' := by rw [e1]; exact ix (show a' < 6 by omega) (by decide)
      have ec : cix a m = 6 + 6 * a' + m' := by rw [e1, e2]; unfold cix; rw [ix (show a' < 6 by omega) (by decide), ix (show m' < 6 by omega) (by decide)]
      rw [h (cix a m) (by rw [ec]; exact hA _ (by omega) (by omega)), ea, h (84 + a') (hA _ (by omega) (by omega))]
      by_cases e : T (cix a m) = -1
      · rw [if_pos e, if_pos e]; rfl
      · rw [if_neg e, if_neg e]
        refine ⟨_, rfl, ?_⟩
        by_cases q : T (84 + a') = m
        · rw [if_pos q, if_pos q]; exact (h.upd fun _ => rfl).upd fun _ => rfl
        · rw [if_neg q, if_neg q]; exact h.upd fun _ => rfl
    · rw [if_pos hm, if_pos hm]; rfl
  · rw [if_pos ha, if_pos ha]; rfl
theorem leaves_re (hA : ∀ j, j < 96 → j ≠ 3 → I j) (h : RE I T T') (hn : n ≤ 6) {a : Int32} : orE I (leavesO n T a) (leavesO n T' a) := by
  unfold leavesO
  by_cases ha : inR a n
  · rw [if_neg (show ¬ ¬ inR a n from fun q => q ha), if_neg (show ¬ ¬ inR a n from fun q => q ha)]
    obtain ⟨a', ha', e1⟩ := inR_of (by omega) ha
    have ea : a.toNatClampNeg = a' := by rw [e1]; exact ix (show a' < 6 by omega) (by decide)
    rw [ea, h (84 + a') (hA _ (by omega) (by omega))]
    by_cases e : T (84 + a') = -1
    · rw [if_pos e, if_pos e]; rfl
    · rw [if_neg e, if_neg e]; exact ⟨_, rfl, h.upd fun _ => rfl⟩
  · rw [if_pos ha, if_pos ha]; rfl
theorem bid_re (hA : ∀ j, j < 96 → j ≠ 3 → I j) (h : RE I T T') (hn : n ≤ 6) (hk : k ≤ 6) {d d' : Int32} (hd : I 3 → d' = d) : orE I (bidO n k d T) (bidO n k d' T') := by
  have hc := all_core hA
  unfold bidO
  rw [frA_re hc h hn]
  cases hf : frA n T with
  | none => rfl
  | some a =>
    have ha := (frA_some hf).1
    simp only [lk_re hc h hk (show a < 6 by omega)]
    cases hl : lk n k T a none with
    | none => rfl
    | some m =>
      have hm := lk_lt hl
      simp only [pT_re hc h (show m < 6 by omega), mvs_re hc h hk (show a < 6 by omega), h (78 + m) (hA _ (by omega) (by omega))]
      by_cases q : pT T m + mvs n k T a ≤ 9999
      · rw [if_pos q, if_pos q]; exact ⟨_, rfl, bidT_re hc h hn hk (by omega) (by omega) hd⟩
      · rw [if_neg q, if_neg q]; rfl
theorem st_re (hA : ∀ j, j < 96 → j ≠ 3 → I j) (h : RE I T T') (hn : n ≤ 6) (hk : k ≤ 6) {d d' : Int32} (hd : I 3 → d' = d) : (stT n k d' T').1 = (stT n k d T).1 ∧ RE I (stT n k d T).2 (stT n k d' T').2 :=
  bOn_re (all_core hA) hn hk hd FU _ _ 0 ((anew_reI h).upd fun q => by rw [h 5 q])
theorem settle_re (hA : ∀ j, j < 96 → j ≠ 3 → I j) (h : RE I T T') (hn : n ≤ 6) (hk : k ≤ 6) {d d' : Int32} (hd : I 3 → d' = d) : orE I (settleO n k d T) (settleO n k d' T') := by
  unfold settleO
  rw [mxT_re (all_core hA) h hn hk]
  obtain ⟨h1, h2⟩ := st_re hA h hn hk hd
  by_cases q : mxT n k T = n
  · rw [if_pos q, if_pos q, h1]; exact ⟨_, rfl, h2⟩
  · rw [if_neg q, if_neg q]; rfl
theorem pcI_re {Y : Int} (hI : IT Y n k T) (hA : ∀ j, j < 96 → j ≠ 3 → I j) (h : RE I T T') : pcI n T' = pcI n T := by
  have hn := hI.n6
  have hk := hI.k6
  unfold pcI
  refine sumI_congr fun a ha => ?_
  have e : qT T' a = qT T a := by unfold qT; rw [h _ (hA (84 + a) (by omega) (by omega))]
  rw [e]
  cases hq : qT T a with
  | none => exact (Eq.refl (0 : Int32))
  | some m =>
    have hm := ((qT_some hI (show a < 6 by omega)).mp hq).1
    show T' (6 + 6 * a + m) = T (6 + 6 * a + m)
    exact h _ (hA _ (by omega) (by omega))
theorem year_re (hA : ∀ j, j < 96 → j ≠ 3 → I j) (h : RE I T T') : RE I (yearT T) (yearT T') := by
  have hq : ∀ a, a < 6 → T' (84 + a) = T (84 + a) := fun a ha => h _ (hA _ (by omega) (by omega))
  have hc : ∀ a m, a < 6 → m < 6 → T' (6 + 6 * a + m) = T (6 + 6 * a + m) := fun a m ha hm => h _ (hA _ (by omega) (by omega))
  have hs : ∀ a m, a < 6 → m < 6 → T' (42 + 6 * a + m) = T (42 + 6 * a + m) := fun a m ha hm => h _ (hA _ (by omega) (by omega))
  have hy : RE I (yP true 6 T) (yP true 6 T') := fun j hj => by
    unfold yP
    by_cases c1 : 6 ≤ j ∧ j < 42
    · rw [if_pos c1, if_pos c1, if_pos (by omega), if_pos (by omega)]
      unfold yc; rw [hq _ (by omega), hc _ _ (by omega) (by omega)]
    · rw [if_neg c1, if_neg c1]
      by_cases c2 : 42 ≤ j ∧ j < 78
      · rw [if_pos c2, if_pos c2, if_pos (by omega), if_pos (by omega)]
        unfold ys; rw [hq _ (by omega), hs _ _ (by omega) (by omega)]
      · rw [if_neg c2, if_neg c2]
        split
        · rfl
        · exact h j hj
  have hp : RE I (hP 6 (yP true 6 T)) (hP 6 (yP true 6 T')) := fun j hj => by
    unfold hP
    split
    · rw [hy j hj]
    · exact hy j hj
  unfold yearT
  exact hp.upd fun q => by rw [h 2 q]
theorem does_re {Y : Int} (hI : IT Y n k T) (hA : ∀ j, j < 96 → j ≠ 3 → I j) (h : RE I T T') {d d' : Int32} (hd : I 3 → d' = d) (o : OD) : orE I (doesO n k d T o) (doesO n k d' T' o) := by
  have hn := hI.n6
  have hk := hI.k6
  unfold doesO
  by_cases c1 : o.1 = 97
  · rw [if_pos c1, if_pos c1]; exact comes_re hA h (by decide)
  rw [if_neg c1, if_neg c1]
  by_cases c2 : o.1 = 109
  · rw [if_pos c2, if_pos c2]; exact comes_re hA h (by decide)
  rw [if_neg c2, if_neg c2]
  by_cases c3 : o.1 = 99
  · rw [if_pos c3, if_pos c3]; exact costs_re hA h hn hk
  rw [if_neg c3, if_neg c3]
  by_cases c4 : o.1 = 98
  · rw [if_pos c4, if_pos c4]; exact bars_re hA h hn hk
  rw [if_neg c4, if_neg c4]
  by_cases c5 : o.1 = 105
  · rw [if_pos c5, if_pos c5]; exact bid_re hA h hn hk hd
  rw [if_neg c5, if_neg c5]
  by_cases c6 : o.1 = 115
  · rw [if_pos c6, if_pos c6]; exact settle_re hA h hn hk hd
  rw [if_neg c6, if_neg c6]
  by_cases c7 : o.1 = 108
  · rw [if_pos c7, if_pos c7]; exact leaves_re hA h hn
  rw [if_neg c7, if_neg c7]
  exact ⟨yearT T', by rw [pcI_re hI hA h], year_re hA h⟩
end DR
/-! in a row -/
def nT (T : TS) : Nat := (T 0).toNatClampNeg
def kT (T : TS) : Nat := (T 1).toNatClampNeg
theorem IT.nT {Y : Int} {n k : Nat} {T : TS} (h : IT Y n k T) : nT T = n := by show (T 0).toNatClampNeg = n; rw [h.t0]; exact nI_clamp (by have := h.n6; omega)
theorem IT.kT {Y : Int} {n k : Nat} {T : TS} (h : IT Y n k T) : kT T = k := by show (T 1).toNatClampNeg = k; rw [h.t1]; exact nI_clamp (by have := h.k6; omega)
def dO (d : Int32) (T : TS) (o : OD) : OR := doesO (nT T) (kT T) d T o
/-- the orders done: at which one a refusal, why; or the town behind all -/
def rnO (d : Int32) : List OD → Nat → TS → (Nat × Int32 × Int32) ⊕ TS
  | [], _, T => .inr T
  | o :: l, i, T => match dO d T o with
    | .inl r => .inl (i, r.1, r.2)
    | .inr v => rnO d l (i + 1) v.2
theorem rnO_re {I : Nat → Prop} (hA : ∀ j, j < 96 → j ≠ 3 → I j) {d' : Int32} (hd : I 3 → d' = 1) : ∀ (l : List OD) (i : Nat) (T T' : TS) (Y : Int) (n k : Nat), IT Y n k T → Y + l.length ≤ 100000 → RE I T T' → (∀ q, rnO 1 l i T = .inl q → rnO d' l i T' = .inl q) ∧ (∀ T1, rnO 1 l i T = .inr T1 → ∃ T2, rnO d' l i T' = .inr T2 ∧ RE I T1 T2)
  | [], i, T, T', Y, n, k, hI, hY, h => ⟨fun q e => (by cases e), fun T1 e => (by cases e; exact ⟨T', rfl, h⟩)⟩
  | o :: l, i, T, T', Y, n, k, hI, hY, h => by
    have hc := all_core hA
    have e0 : nT T' = nT T := by show (T' 0).toNatClampNeg = (T 0).toNatClampNeg; rw [h 0 (hA 0 (by omega) (by omega))]
    have e1 : kT T' = kT T := by show (T' 1).toNatClampNeg = (T 1).toNatClampNeg; rw [h 1 (hA 1 (by omega) (by omega))]
    have hlen : (List.length (o :: l) : Int) = l.length + 1 := by rw [List.length_cons]; omega
    have hre : orE I (dO 1 T o) (dO d' T' o) := by
      unfold dO; rw [e0, e1, hI.nT, hI.kT]; exact does_re hI hA h hd o
    unfold rnO
    cases hd1 : dO 1 T o with
    | inl r =>
      rw [hd1] at hre
      have hre : dO d' T' o = .inl r := hre
      rw [hre]
      exact ⟨fun q e => e, fun T1 e => (by cases e)⟩
    | inr v =>
      rw [hd1] at hre
      obtain ⟨T2, e2, hr⟩ : ∃ T2, dO d' T' o = .inr (v.1, T2) ∧ RE I v.2 T2 := hre
      rw [e2]
      have hd2 : doesO n k 1 T o = .inr (v.1, v.2) := by have := hd1; unfold dO at this; rw [hI.nT, hI.kT] at this; exact this
      obtain ⟨⟨n', k', hI'⟩, -, -⟩ := does_kp hI (by omega) hd2
      exact rnO_re hA hd l (i + 1) v.2 T2 (Y + 1) n' k' hI' (by omega) hr
