/-! PURE: an order done; rows copied; a change begun and ended -/
theorem s_mdoes {Y : Int} {n k : Nat} {S : MS} {P : Int32 → MS → Prop} (hI : IT Y n k (S 1)) {p : Nat} (hp : p + 3 < 244) {o : OD} (ho : okO o) (h0 : S 5 p = o.1) (h1 : S 5 (p + 1) = o.2.1) (h2 : S 5 (p + 2) = o.2.2.1) (h3 : S 5 (p + 3) = o.2.2.2) (h : orM (doesO n k 1 (S 1) o) S P) : F_mdoes S (nI p) P := by
  have hn := hI.n6
  have hk := hI.k6
  have h' := h.nar
  obtain ⟨q, a, b, c⟩ := o
  dsimp only at h0 h1 h2 h3
  unfold F_mdoes
  rw [nI_1, show (nI p : Int32) + 2 = nI (p + 2) from nI_add p 2, show (nI p : Int32) + 3 = nI (p + 3) from nI_add p 3, nI_clamp (by omega), nI_clamp (by omega), nI_clamp (by omega), nI_clamp (by omega), h0, h1, h2, h3]
  refine ⟨vp_in_nI (by omega) (by decide), vp_in_nI (by omega) (by decide), vp_in_nI (by omega) (by decide), jn_i ?_⟩
  rcases ho with e | e | e | e | e | e | e | e <;> (dsimp only at e; subst e; dsimp only [doesO] at h')
  · rw [if_pos rfl] at h'
    exact br_t rfl (s_mcomes (w := 0) hI (by decide) h')
  · rw [if_neg (by decide), if_pos rfl] at h'
    repeat refine br_f (by decide) ?_
    exact br_t rfl (s_mcomes (w := 1) hI (by decide) h')
  · rw [if_neg (by decide), if_neg (by decide), if_pos rfl] at h'
    repeat refine br_f (by decide) ?_
    exact br_t rfl ⟨vp_in_nI (by omega) (by decide), s_mcosts hn hk hI.t0 hI.t1 h'⟩
  · rw [if_neg (by decide), if_neg (by decide), if_neg (by decide), if_pos rfl] at h'
    repeat refine br_f (by decide) ?_
    exact br_t rfl (s_mbars hn hk hI.t0 hI.t1 h')
  · rw [if_neg (by decide), if_neg (by decide), if_neg (by decide), if_neg (by decide), if_pos rfl] at h'
    repeat refine br_f (by decide) ?_
    exact br_t rfl (s_mbidsOnce hI h')
  · rw [if_neg (by decide), if_neg (by decide), if_neg (by decide), if_neg (by decide), if_neg (by decide), if_pos rfl] at h'
    repeat refine br_f (by decide) ?_
    exact br_t rfl (s_msettlesNow hI h')
  · rw [if_neg (by decide), if_neg (by decide), if_neg (by decide), if_neg (by decide), if_neg (by decide), if_neg (by decide), if_pos rfl] at h'
    repeat refine br_f (by decide) ?_
    exact br_t rfl (s_mleaves hn hI.t0 h')
  · rw [if_neg (by decide), if_neg (by decide), if_neg (by decide), if_neg (by decide), if_neg (by decide), if_neg (by decide), if_neg (by decide)] at h'
    repeat refine br_f (by decide) ?_
    exact s_mgoesBy hI h'
/-! rows -/
def cpT (f t : Nat) (T : TS) : TS := fun j => if 96 * t ≤ j ∧ j < 96 * t + 96 then T (96 * f + (j - 96 * t)) else T j
theorem cpT_in {f t i : Nat} {T : TS} (h : i < 96) : cpT f t T (96 * t + i) = T (96 * f + i) := by
  unfold cpT; rw [if_pos (by omega), show 96 * t + i - 96 * t = i by omega]
theorem cpT_out {f t j : Nat} {T : TS} (h : ¬ (96 * t ≤ j ∧ j < 96 * t + 96)) : cpT f t T j = T j := if_neg h
theorem m96 (f i : Nat) : (96 : Int32) * nI f + nI i = nI (96 * f + i) := by
  rw [show (96 : Int32) * nI f = nI (96 * f) from pk_mul 96 f, nI_add]
theorem s_mcopies {S : MS} {f t : Nat} (hf : f < 12) (ht : t < 12) (hne : f ≠ t) {P : MS → Prop} (h : P (sset S (cpT f t (S 1)))) : F_mcopies S (nI f) (nI t) P := by
  unfold F_mcopies
  refine loop_i (σ := MS) (fun g i S1 => L_mcopies_2 P (nI f) (nI t) g S1 (nI i)) (fun i S1 => S1 = sset S (fun j => if 96 * t ≤ j ∧ j < 96 * t + i then S 1 (96 * f + (j - 96 * t)) else S 1 j)) 96 (fun g S1 e => ?_) (fun g i S1 hi e ih => ?_) NF 0 S (Nat.zero_le _) (by unfold NF; omega) (by
      rw [show (fun j => if 96 * t ≤ j ∧ j < 96 * t + 0 then S 1 (96 * f + (j - 96 * t)) else S 1 j) = S 1 from by funext j; rw [if_neg (by omega)]]
      exact sset_id.symm)
  · subst e
    unfold L_mcopies_2
    exact ⟨fun _ => h, fun q => absurd (nI_le (Nat.le_refl 96) (by decide)) q⟩
  · subst e
    unfold L_mcopies_2
    rw [m96, m96, cl (by omega), cl (by omega), nI_1]
    refine ⟨fun q => absurd q (nI_ge hi (by decide) : ¬ nI 96 ≤ nI i), fun _ => ⟨vi (by omega), vi (by omega), nm_i (ih _ ?_)⟩⟩
    rw [sput_sset, sset_1]
    refine congrArg (sset S) ?_
    have e1 : (if 96 * t ≤ 96 * f + i ∧ 96 * f + i < 96 * t + i then S 1 (96 * f + (96 * f + i - 96 * t)) else S 1 (96 * f + i)) = S 1 (96 * f + i) := if_neg (by omega)
    rw [e1]
    funext j
    by_cases hj : j = 96 * t + i
    · subst hj
      rw [pk_us, if_pos (by omega), show 96 * t + i - 96 * t = i by omega]
    · rw [pk_un hj]
      by_cases h2 : 96 * t ≤ j ∧ j < 96 * t + i
      · rw [if_pos h2, if_pos (by omega)]
      · rw [if_neg h2, if_neg (by omega)]
theorem s_mbegins {S : MS} {P : MS → Prop} (h : P (sset S (cpT 0 10 (S 1)))) : F_mbegins S P := s_mcopies (f := 0) (t := 10) (by decide) (by decide) (by decide) h
def shT (i : Nat) (T : TS) : TS := fun j => if 96 ≤ j ∧ j < 96 * i then T (j + 96) else T j
theorem shT_step {i : Nat} {T : TS} (h1 : 1 ≤ i) : cpT (i + 1) i (shT i T) = shT (i + 1) T := by
  funext j
  by_cases h : 96 * i ≤ j ∧ j < 96 * i + 96
  · unfold cpT; rw [if_pos h]
    unfold shT; rw [if_neg (by omega), if_pos (by omega)]
    rw [show 96 * (i + 1) + (j - 96 * i) = j + 96 by omega]
  · rw [cpT_out h]
    unfold shT
    by_cases h2 : 96 ≤ j ∧ j < 96 * i
    · rw [if_pos h2, if_pos (by omega)]
    · rw [if_neg h2, if_neg (by omega)]
def pushT (c : Nat) (T : TS) : TS := if c = 8 then cpT 10 8 (shT 8 T) else cpT 10 (c + 1) T
def cpl (c : Nat) : Nat := if c = 8 then 8 else c + 1
theorem sput0_sput0 {S : MS} {j : Nat} {v w : Int32} : sput (sput S 0 j v) 0 j w = sput S 0 j w := by
  funext i
  unfold sput
  by_cases h : i = 0
  · subst h
    funext x
    rw [if_pos rfl, if_pos rfl, if_pos rfl]
    by_cases e : x = j
    · subst e; rw [pk_us, pk_us]
    · rw [pk_un e, pk_un e, pk_un e]
  · simp [h]
theorem s_mends0 {S : MS} {x : Int32} {P : Int32 → MS → Prop} (h : P 0 (sset (sput S 0 0 x) (cpT 10 0 (S 1)))) : F_mends S 0 x P := by
  unfold F_mends
  refine jn_i ⟨fun _ => nm_i ⟨fun _ => s_mcopies (f := 10) (t := 0) (by decide) (by decide) (by decide) ?_, fun q => (q rfl).elim⟩, fun q => (q rfl).elim⟩
  rw [sput0_1]; exact h
theorem s_mends1 {S : MS} {x : Int32} {c : Nat} (hc : c ≤ 8) (h2 : S 0 2 = nI c) {P : Int32 → MS → Prop} (h : P (S 0 4) (sset (sput (sput S 0 0 0) 0 2 (nI (cpl c))) (pushT c (S 1)))) : F_mends S 1 x P := by
  have e2 : ∀ (S : MS) (v : Int32), sput S 0 0 v 0 2 = S 0 2 := fun S v => by rw [sput_self, pk_un (by decide)]
  unfold F_mends
  refine jn_i ⟨fun q => absurd q (by decide), fun _ => nm_i ⟨fun q => absurd q (by decide), fun _ => jn_i ?_⟩⟩
  rw [e2, h2, show (8 : Int32) = nI 8 from rfl, nI_eq (by omega) (by omega)]
  have fin : ∀ (S7 : MS) (c' : Nat), c' < 9 → S7 0 2 = nI c' → S7 0 4 = S 0 4 → sset (sput S7 0 2 (nI (c' + 1))) (cpT 10 (c' + 1) (S7 1)) = sset (sput (sput S 0 0 0) 0 2 (nI (cpl c))) (pushT c (S 1)) → nm (sput S7 0 2 (S7 0 2 + 1)) (fun S_8 => F_mcopies S_8 10 (S_8 0 2) (fun S_9 => P (S_9 0 4) S_9)) := fun S7 c' hc' f2 f4 fe => by
    rw [f2, nI_1]
    refine nm_i ?_
    rw [sput_self, pk_us]
    refine s_mcopies (f := 10) (t := c' + 1) (by decide) (by omega) (by omega) ?_
    rw [sput0_1, sset_ne (by decide), sput_self, pk_un (by decide), f4, fe]
    exact h
  refine ⟨fun e => ?_, fun e => ?_⟩
  · subst e
    refine loop_i (σ := MS) (fun g i S1 => L_mends_37 _ P g S1 (nI (i + 1))) (fun i S1 => S1 = sset (sput S 0 0 0) (shT (i + 1) (S 1))) 7 (fun g S1 q => ?_) (fun g i S1 hi q ih => ?_) NF 0 (sput S 0 0 0) (Nat.zero_le _) (by unfold NF; omega) (by
        rw [show shT (0 + 1) (S 1) = sput S 0 0 0 1 from by rw [sput0_1]; funext j; unfold shT; rw [if_neg (by omega)]]
        exact sset_id.symm)
    · subst q
      unfold L_mends_37
      refine ⟨fun _ => nm_i ?_, fun q => absurd (nI_le (Nat.le_refl 8) (by decide)) q⟩
      have e3 : sset (sput S 0 0 0) (shT (7 + 1) (S 1)) 0 2 = nI 8 := by rw [sset_ne (by decide), e2, h2]
      rw [e3, show (nI 8 : Int32) - 1 = nI 7 from nI_pred 7]
      refine fin _ 7 (by decide) (by rw [sput_self, pk_us]) (by rw [sput_self, pk_un (by decide), sset_ne (by decide), sput_self, pk_un (by decide)]) ?_
      rw [sput0_1, sset_1, sput0_sput0, ← sset_sput0, sset_sset]
      rfl
    · subst q
      unfold L_mends_37
      refine ⟨fun q => absurd q (nI_ge (by omega) (by decide) : ¬ nI 8 ≤ nI (i + 1)), fun _ => ?_⟩
      rw [nI_1]
      refine s_mcopies (f := i + 1 + 1) (t := i + 1) (by omega) (by omega) (by omega) (ih _ ?_)
      rw [sset_1, sset_sset, shT_step (by omega)]
  · refine fin _ c (by omega) (by rw [e2, h2]) (by rw [sput_self, pk_un (by decide)]) ?_
    rw [sput0_1]
    unfold cpl pushT
    rw [if_neg e, if_neg e]
/-- a change: what it tells, what stands behind it -/
def chM (o : OR) (c : Nat) (x : Int32) (S : MS) (P : Int32 → MS → Prop) : Prop := match o with
  | .inl r => ∀ S', Jk (sset (sput (rfz S r.1 r.2) 0 0 x) (cpT 10 0 (cpT 0 10 (S 1)))) S' → P 0 S'
  | .inr v => ∀ S', Jk (sset (sput (sput (sput S 0 4 v.1) 0 0 0) 0 2 (nI (cpl c))) (pushT c v.2)) S' → P v.1 S'
theorem IT.cp {Y : Int} {n k : Nat} {T : TS} (h : IT Y n k T) : IT Y n k (cpT 0 10 T) := h.re fun j hj _ _ _ _ => cpT_out (by omega)
theorem s_mchg {Y : Int} {n k c : Nat} {S : MS} {x : Int32} {P : Int32 → MS → Prop} {F : MS → (Int32 → MS → Prop) → Prop} {o : TS → OR} (hI : IT Y n k (S 1)) (hc : c ≤ 8) (h2 : S 0 2 = nI c) (hF : ∀ (S : MS) (P : Int32 → MS → Prop), IT Y n k (S 1) → orM (o (S 1)) S P → F S P) (h : chM (o (cpT 0 10 (S 1))) c x S P) : F_mbegins S (fun S_1 => F S_1 (fun r_3 S_2 => F_mends S_2 r_3 x (fun r_5 S_4 => P r_5 S_4))) := by
  refine s_mbegins (hF _ _ (by rw [sset_1]; exact hI.cp) ?_)
  rw [sset_1]
  cases ho : o (cpT 0 10 (S 1)) with
  | inl r =>
    rw [ho] at h
    intro S1 hJ
    refine s_mends0 (h _ ?_)
    have e1 : S1 1 = cpT 0 10 (S 1) := by rw [hJ.1, rfz_1, sset_1]
    rw [e1]
    have hJ2 : Jk (rfz (sset S (cpT 0 10 (S 1))) r.1 r.2) S1 := hJ
    have e3 : rfz (sset S (cpT 0 10 (S 1))) r.1 r.2 = sset (rfz S r.1 r.2) (cpT 0 10 (S 1)) := by
      unfold rfz; rw [sset_sput0, sset_sput0, sset_sput0]
    rw [e3] at hJ2
    have := (hJ2.put (j := 0) (v := x)).set (T := cpT 10 0 (cpT 0 10 (S 1)))
    rw [← sset_sput0, sset_sset] at this
    exact this
  | inr v =>
    rw [ho] at h
    intro S1 hJ
    have e4 : S1 0 4 = v.1 := by rw [hJ.2.2.2.2 4 (by decide) (by decide) (by decide), sput_self, pk_us]
    have e2 : S1 0 2 = nI c := by rw [hJ.2.2.2.2 2 (by decide) (by decide) (by decide), sput_self, pk_un (by decide), sset_sset, sset_ne (by decide), h2]
    have e1 : S1 1 = v.2 := by rw [hJ.1, sput0_1, sset_1]
    refine s_mends1 hc e2 ?_
    rw [e4, e1]
    refine h _ ?_
    have := ((hJ.put (j := 0) (v := 0)).put (j := 2) (v := nI (cpl c))).set (T := pushT c v.2)
    rw [sset_sset, ← sset_sput0, ← sset_sput0, ← sset_sput0, sset_sset] at this
    exact this
