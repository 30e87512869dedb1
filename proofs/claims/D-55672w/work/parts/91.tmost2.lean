/-! PURE: Town.most is the greatest number of pairs -/
theorem byN_lo {T : TS} {j : Nat} (h : j < 96 ∨ 102 ≤ j) : byN T j = T j := by
  unfold byN
  have e : ∀ x, x < 6 → j ≠ 96 + x := fun x hx => by omega
  have i0 : (0 : Int32).toNatClampNeg = 0 := by decide
  have i1 : (0 + 1 : Int32).toNatClampNeg = 1 := by decide
  have i2 : (0 + 1 + 1 : Int32).toNatClampNeg = 2 := by decide
  have i3 : (0 + 1 + 1 + 1 : Int32).toNatClampNeg = 3 := by decide
  have i4 : (0 + 1 + 1 + 1 + 1 : Int32).toNatClampNeg = 4 := by decide
  have i5 : (0 + 1 + 1 + 1 + 1 + 1 : Int32).toNatClampNeg = 5 := by decide
  rw [i0, i1, i2, i3, i4, i5, pk_un (e 5 (by omega)), pk_un (e 4 (by omega)), pk_un (e 3 (by omega)), pk_un (e 2 (by omega)), pk_un (e 1 (by omega)), pk_un (e 0 (by omega))]
  unfold clrB; rw [if_neg (by omega)]
theorem byN_m1 {T : TS} {m : Nat} (h : m < 6) : byN T (96 + m) = -1 := by
  unfold byN
  have i0 : (0 : Int32).toNatClampNeg = 0 := by decide
  have i1 : (0 + 1 : Int32).toNatClampNeg = 1 := by decide
  have i2 : (0 + 1 + 1 : Int32).toNatClampNeg = 2 := by decide
  have i3 : (0 + 1 + 1 + 1 : Int32).toNatClampNeg = 3 := by decide
  have i4 : (0 + 1 + 1 + 1 + 1 : Int32).toNatClampNeg = 4 := by decide
  have i5 : (0 + 1 + 1 + 1 + 1 + 1 : Int32).toNatClampNeg = 5 := by decide
  rw [i0, i1, i2, i3, i4, i5]
  unfold upd
  repeat' (split; rfl)
  omega
theorem clrS_ne {T : TS} {j : Nat} (h : j < 102) : clrS T j = T j := if_neg (by omega)
theorem clrS_0 {T : TS} {m : Nat} (h : m < 6) : clrS T (102 + m) = 0 := if_pos (by omega)
theorem s_tmostL {n k : Nat} {T0 : TS} (hn : n ≤ 6) (hk : k ≤ 6) (ht0 : T0 0 = nI n) (ht1 : T0 1 = nI k) {P : Int32 → TS → Prop} (h : ∀ (c : Nat) (T' : TS), Sm T0 T' → MaxM n k (okP T0) (c : Int) → P (nI c) T') : ∀ (r f i c : Nat) (T : TS), i + r = n → r < f → Sm T0 T → Vb k T → ByO i k (okP T0) (byT T) → su (fun m => o1 (byT T m)) k = (c : Int) → MaxM i k (okP T0) (c : Int) → L_tmost_27 P f T (nI c) (nI i)
  | r, 0, i, c, T, hi, hf, _, _, _, _, _ => absurd hf (Nat.not_lt_zero _)
  | 0, f + 1, i, c, T, hi, hf, hS, hV, hB, hc, hM => by
    have hin : i = n := by omega
    subst hin
    unfold L_tmost_27
    exact ⟨fun _ => h c T hS hM, fun q => absurd (((hS 0 (by omega)).trans ht0) ▸ nI_le (Nat.le_refl i) (by omega)) q⟩
  | r + 1, f + 1, i, c, T, hi, hf, hS, hV, hB, hc, hM => by
    have e0 : T 0 = nI n := (hS 0 (by omega)).trans ht0
    have e1 : T 1 = nI k := (hS 1 (by omega)).trans ht1
    unfold L_tmost_27
    refine ⟨fun q => absurd q (e0 ▸ nI_ge (by omega) (by omega)), fun _ => ⟨by omega, nm_i ?_⟩⟩
    have hSc : Sm T0 (clrS T) := fun j hj => by rw [clrS_ne (by omega)]; exact hS j hj
    have hbc : ∀ m, m < k → byT (clrS T) m = byT T m := fun m hm => by unfold byT; rw [clrS_ne (by omega)]
    have hVc : Vb k (clrS T) := fun m hm => by rw [clrS_ne (by omega)]; exact hV m hm
    have hns : ∀ m, m < k → ¬ snT (clrS T) m := fun m hm z => z (clrS_0 (by omega))
    have hok : ∀ x m, x < 6 → m < k → (okP (clrS T) x m ↔ okP T0 x m) := fun x m hx hm => by unfold okP; rw [hSc.okk hx (by omega)]
    have hPr : FndP k (okP (clrS T)) (byT (clrS T)) (snT (clrS T)) i := by
      have h1 := (FndP.top hB).congr (b' := byT (clrS T)) (ok' := okP (clrS T)) hbc (fun x m hm e z => (hok x m (by have := (hB.1 m x hm e).1; omega) hm).mpr z)
      obtain ⟨g1, g2, g3⟩ := h1
      exact ⟨fun m m' x hm hm' _ _ => g1 m m' x hm hm' (fun z => z) (fun z => z), fun m hm _ => g2 m hm (fun z => z), g3⟩
    have hcu : cuT k (clrS T) < (8 : Nat) := by have := (cuT_bd (k := k) (T := clrS T)).2; omega
    refine s_ffinds (n := n) hk 8 (clrS T) i _ (by rw [clrS_ne (by omega)]; exact e1) (by omega) hVc hPr hcu (fun T' hS' hV' hF' _ => ⟨fun _ => ?_, fun q => (q rfl).elim⟩) (fun T' hS' hV' hT' => ⟨fun q => absurd q (by decide), fun _ => ?_⟩)
    · obtain ⟨f1, f2, f3, f4⟩ := hF'
      have hb' : ∀ m, m < k → byT T' m = byT T m := fun m hm => (f1 m hm).trans (hbc m hm)
      have hz : su (fun m => o1 (byT T' m)) k = (c : Int) := by
        rw [← hc]; exact su_congr fun m hm => by show o1 (byT T' m) = o1 (byT T m); rw [hb' m hm]
      have hM2 : MaxM (i + 1) k (okP T0) (c : Int) := hM.stuck hB hc (fun m => m < k ∧ snT T' m) (fun m hm z => ⟨hm, f3 m hm ((hok i m (by omega) hm).mpr z)⟩) (fun m hm z => by
        rcases f4 m hm z.2 with z2 | ⟨x, x1, x2⟩
        · exact absurd z2 (hns m hm)
        · rw [hbc m hm] at x1
          exact ⟨x, x1, fun m' hm' o => ⟨hm', x2 m' hm' ((hok x m' (by have := (hB.1 m x hm x1).1; omega) hm').mpr o)⟩⟩)
      rw [show (nI c + 0 : Int32) = nI c from Int32.add_zero _, nI_1]
      refine s_tmostL hn hk ht0 ht1 h r f (i + 1) c T' (by omega) (by omega) (hSc.tr hS') hV' ?_ hz hM2
      have hg := hB.grow
      exact ⟨fun m a hm e => hg.1 m a hm (by rw [← hb' m hm]; exact e), fun m m' a hm hm' e e' => hg.2 m m' a hm hm' (by rw [← hb' m hm]; exact e) (by rw [← hb' m' hm']; exact e')⟩
    · have hT2 : FndT k (okP T0) (byT T) (fun _ => False) i (byT T') := by
        have h2 := hT'.congr (c := byT T) (c' := byT T') (fun m hm => (hbc m hm).symm) (fun _ _ => rfl)
        obtain ⟨t1, t2, t3, t4⟩ := h2
        refine ⟨fun m hm z => z.elim, fun m m' x hm hm' _ _ => t2 m m' x hm hm' (hns m hm) (hns m' hm'), fun m x hm _ e => ?_, t4⟩
        obtain ⟨u1, u2⟩ := t3 m x hm (hns m hm) e
        have hx6 : x < 6 := by
          rcases u2 with u2 | ⟨m1, w1, -, w3⟩
          · omega
          · have := (hB.1 m1 x w1 w3).1; omega
        refine ⟨(hok x m hx6 hm).mp u1, ?_⟩
        rcases u2 with u2 | ⟨m1, w1, -, w3⟩
        · exact Or.inl u2
        · exact Or.inr ⟨m1, w1, fun z => z, w3⟩
      obtain ⟨hB2, hz⟩ := FndT.top hB hT2
      have hz2 : su (fun m => o1 (byT T' m)) k = ((c + 1 : Nat) : Int) := by rw [hz, hc]; omega
      have hM2 : MaxM (i + 1) k (okP T0) ((c + 1 : Nat) : Int) := by
        have := hM.found hB2 (by rw [hz, hc])
        rw [show ((c + 1 : Nat) : Int) = (c : Int) + 1 by omega]; exact this
      rw [nI_1, nI_1]
      exact s_tmostL hn hk ht0 ht1 h r f (i + 1) (c + 1) T' (by omega) (by omega) (hSc.tr hS') hV' hB2 hz2 hM2
theorem s_tmost {n k : Nat} {T : TS} (hn : n ≤ 6) (hk : k ≤ 6) (ht0 : T 0 = nI n) (ht1 : T 1 = nI k) {P : Int32 → TS → Prop} (h : ∀ (c : Nat) (T' : TS), Sm T T' → MaxM n k (okP T) (c : Int) → P (nI c) T') : F_tmost T P := by
  unfold F_tmost
  refine nm_i ?_
  have hb : ∀ m, m < k → byT (byN T) m = none := fun m hm => byT_none.mpr (byN_m1 (by omega))
  refine s_tmostL hn hk ht0 ht1 h n 7 0 0 (byN T) (by omega) (by omega) (fun j hj => byN_lo (Or.inl hj)) (fun m hm => Or.inl (byN_m1 (by omega))) ⟨fun m a hm e => ?_, fun m m' a hm hm' e => ?_⟩ ?_ MaxM.zero
  · rw [hb m hm] at e; cases e
  · rw [hb m hm] at e; cases e
  · exact su_zero fun m hm => by show o1 (byT (byN T) m) = 0; rw [hb m hm]; rfl
