/-! PURE: the model looks at all pairings; how many pairs there can be -/
theorem mf_bd {k : Nat} {ok : Nat → Nat → Bool} {n : Nat} : ∀ (r : Nat) (st : Nat → Bool), 0 ≤ mf k ok n r st ∧ mf k ok n r st ≤ r
  | 0, _ => ⟨Int.le_refl 0, Int.le_refl 0⟩
  | r + 1, st => by
    have h0 := mf_bd (k := k) (ok := ok) (n := n) r st
    have h1 := fmax_ge (c := fun m => ok (n - (r + 1)) m && !st m) (v := fun m => 1 + mf k ok n r (sadd st m)) (b := mf k ok n r st) k
    show 0 ≤ fmax _ _ _ k ∧ fmax _ _ _ k ≤ _
    rcases fmax_is (c := fun m => ok (n - (r + 1)) m && !st m) (v := fun m => 1 + mf k ok n r (sadd st m)) (b := mf k ok n r st) k with e | ⟨i, -, -, e⟩
    · rw [e] at h1 ⊢; omega
    · have h2 := mf_bd (k := k) (ok := ok) (n := n) r (sadd st i)
      rw [e] at h1 ⊢
      omega
set_option maxHeartbeats 1000000 in
theorem s_mmostFrom {n k : Nat} {S : MS} (hn : n ≤ 6) (hk : k ≤ 6) (ht0 : S 1 0 = nI n) (ht1 : S 1 1 = nI k) : ∀ (d r u : Nat) (st : Nat → Bool) (P : Int32 → MS → Prop), r ≤ n → r < d → u < 64 → (∀ m, m < 6 → u.testBit m = st m) → (∀ x : Int32, x.toInt = mf k (okT (S 1)) n r st → P x S) → F_mmostFrom d S (nI (n - r)) (nI u) P
  | 0, r, u, st, P, _, hd, _, _, _ => absurd hd (Nat.not_lt_zero _)
  | d + 1, 0, u, st, P, hr, hd, hu, hm, h => by
    unfold F_mmostFrom
    rw [k0, ht0, Nat.sub_zero]
    exact ⟨v0, fun _ => h 0 (by decide : (0 : Int32).toInt = 0), fun q => (q rfl).elim⟩
  | d + 1, r + 1, u, st, P, hr, hd, hu, hm, h => by
    have ha6 : n - (r + 1) < 6 := by omega
    have hsub : n - (r + 1) + 1 = n - r := by omega
    unfold F_mmostFrom
    rw [k0, ht0, nI_eq (by omega) (by omega), nI_1, hsub]
    refine ⟨v0, fun q => by omega, fun _ => s_mmostFrom hn hk ht0 ht1 d r u st _ (by omega) (by omega) hu hm fun b hb => ?_⟩
    have hmf : mf k (okT (S 1)) n (r + 1) st = fmax (fun m => okT (S 1) (n - (r + 1)) m && !st m) (fun m => 1 + mf k (okT (S 1)) n r (sadd st m)) (mf k (okT (S 1)) n r st) k := rfl
    rw [hmf] at h
    generalize hv : (fun m => 1 + mf k (okT (S 1)) n r (sadd st m)) = v at h
    generalize hc : (fun m => okT (S 1) (n - (r + 1)) m && !st m) = c at h
    have hvm : ∀ m, v m = 1 + mf k (okT (S 1)) n r (sadd st m) := fun m => by rw [← hv]
    have hcm : ∀ m, c m = (okT (S 1) (n - (r + 1)) m && !st m) := fun m => by rw [← hc]
    refine loop_i (σ := Int32) (fun f i x => L_mmostFrom_24 (F_mmostFrom d) P (nI (n - (r + 1))) (nI u) f S x (nI i)) (fun i x => x.toInt = fmax c v (mf k (okT (S 1)) n r st) i) k (fun f x hx => ?_) (fun f i x hi hx ih => ?_) NF 0 b (Nat.zero_le _) (by unfold NF; omega) hb
    · unfold L_mmostFrom_24
      rw [k1]
      exact ⟨v1, fun _ => h x hx, fun q => absurd (ht1 ▸ nI_le (Nat.le_refl k) (by omega)) q⟩
    · have hi6 : i < 6 := by omega
      have key : fmax c v (mf k (okT (S 1)) n r st) (i + 1) = if c i = true ∧ fmax c v (mf k (okT (S 1)) n r st) i < v i then v i else fmax c v (mf k (okT (S 1)) n r st) i := rfl
      have hskip : c i = false → L_mmostFrom_24 (F_mmostFrom d) P (nI (n - (r + 1))) (nI u) f S x (nI (i + 1)) := fun e => ih x (by rw [key, if_neg (by rw [e]; simp)]; exact hx)
      unfold L_mmostFrom_24
      rw [k1, nI_1 i, mask_bit u hu i hi6, nI_1, hsub]
      refine ⟨v1, fun q => absurd q (ht1 ▸ nI_ge hi (by omega)), fun _ => s_misBarred ha6 hi6 (fun e => ⟨fun q => absurd q (by decide), fun _ => hskip (by rw [hcm, e]; rfl)⟩) (fun e => ⟨fun _ => ?_, fun q => (q rfl).elim⟩)⟩
      by_cases ht : u.testBit i = true
      · rw [if_pos ht]
        refine ⟨fun _ => hskip ?_, fun q => (q rfl).elim⟩
        rw [hcm, ← hm i hi6, ht]; simp
      · rw [if_neg ht]
        have hci : c i = true := by rw [hcm, e, ← hm i hi6]; simpa using ht
        obtain ⟨o1, o2⟩ := mask_or u hu i hi6
        rw [o1]
        refine ⟨fun q => absurd q (by decide), fun _ => s_mmostFrom hn hk ht0 ht1 d r (u ||| 2 ^ i) (sadd st i) _ (by omega) (by omega) o2 (fun m hm6 => ?_) fun y hy => ?_⟩
        · rw [mask_tb u hu i hi6 m hm6, hm m hm6]; rfl
        · have hbd := mf_bd (k := k) (ok := okT (S 1)) (n := n) r (sadd st i)
          have e1 : (1 + y).toInt = v i := by
            rw [hvm, i32_add] <;> rw [i32_1, hy] <;> omega
          rw [Int32.le_iff_toInt_le, e1, hx]
          refine ⟨fun q => ih x ?_, fun q => ih _ ?_⟩
          · rw [key, if_neg (by omega)]; exact hx
          · rw [key, if_pos ⟨hci, by omega⟩]; exact e1
theorem s_mmost0 {n k : Nat} {S : MS} (hn : n ≤ 6) (hk : k ≤ 6) (ht0 : S 1 0 = nI n) (ht1 : S 1 1 = nI k) {P : Int32 → MS → Prop} (h : P (nI (mxT n k (S 1))) S) : F_mmost0 S P := by
  unfold F_mmost0
  have := s_mmostFrom hn hk ht0 ht1 8 n 0 (fun _ => false) P (Nat.le_refl _) (by omega) (by decide) (fun m _ => Nat.zero_testBit m) (fun x hx => by
    have hb := mf_bd (k := k) (ok := okT (S 1)) (n := n) n (fun _ => false)
    have e : x = nI (mxT n k (S 1)) := by
      refine Int32.toInt_inj.mp ?_
      unfold mxT
      rw [hx, nI_toInt (by omega)]; omega
    rw [e]; exact h)
  rw [Nat.sub_self] at this
  exact this
/-! the pairings -/
def MG (n : Nat) (T : TS) (L : List (Nat → Nat)) (S : MS) : Prop :=
  S 0 11 = nI (g0 n T L).1 ∧ S 0 12 = nI (g0 n T L).2.1 ∧ (S 0 13).toInt = (g0 n T L).2.2.1 ∧ (L ≠ [] → ∀ a, a < n → S 3 a = nI ((g0 n T L).2.2.2 a))
theorem g0_nil {n : Nat} {T : TS} : g0 n T [] = (0, 0, DD, fun _ => 0) := rfl
theorem s_mfound {n : Nat} {T : TS} {L : List (Nat → Nat)} {w : Nat → Nat} {x : Int32} {S : MS} {P : MS → Prop} (hn : n ≤ 6) (hx : x.toInt = rcs n T w) (hlt : rcs n T w < DD) (hr : ∀ a, a < n → S 2 a = nI (w a)) (hM : MG n T L S) (h : ∀ S', MG n T (L ++ [w]) S' → Jk S S' → S' 2 = S 2 → P S') : F_mfound S x P := by
  obtain ⟨m1, m2, m3, m4⟩ := hM
  have hg := g0_snoc (n := n) (T := T) (L := L) (w := w)
  have e0 : ∀ (S : MS) (j i : Nat) (v : Int32), j ≠ i → sput S 0 j v 0 i = S 0 i := fun S j i v q => by rw [sput_self, pk_un (fun e => q e.symm)]
  have es : ∀ (S : MS) (j : Nat) (v : Int32), sput S 0 j v 0 j = v := fun S j v => by rw [sput_self, pk_us]
  unfold F_mfound
  refine nm_i (jn_i ?_)
  rw [e0 _ _ _ _ (by decide), Int32.le_iff_toInt_le, m3, hx]
  refine ⟨fun q => ?_, fun q => nm_i (nm_i ?_)⟩
  · have hgn : L ≠ [] := fun e => by subst e; rw [g0_nil] at q; have : DD ≤ rcs n T w := q; omega
    have hlq : ¬ rcs n T w < (g0 n T L).2.2.1 := by omega
    have fin : ∀ v : Int32, v = nI (gst (rcs n T) (g0 n T L) w).2.1 → P (sput (sput S 0 11 (S 0 11 + 1)) 0 12 v) := fun v hv => by
      refine h _ ⟨?_, ?_, ?_, fun _ a ha => ?_⟩ ⟨by rw [sput0_1, sput0_1], by rw [sput_ne (by decide), sput_ne (by decide)], by rw [sput_ne (by decide), sput_ne (by decide)], by rw [sput_ne (by decide), sput_ne (by decide)], fun j h1 h2 h3 => by rw [e0 _ _ _ _ (fun e => h2 e.symm), e0 _ _ _ _ (fun e => h1 e.symm)]⟩ (by rw [sput_ne (by decide), sput_ne (by decide)])
      · rw [e0 _ _ _ _ (by decide), es, m1, nI_1, hg]; rfl
      · rw [es, hg]; exact hv
      · rw [e0 _ _ _ _ (by decide), e0 _ _ _ _ (by decide), m3, hg]
        show _ = if rcs n T w < (g0 n T L).2.2.1 then _ else _
        rw [if_neg hlq]
      · rw [sput_ne (by decide), sput_ne (by decide), m4 hgn a ha, hg]
        show _ = nI ((if rcs n T w < (g0 n T L).2.2.1 then w else (g0 n T L).2.2.2) a)
        rw [if_neg hlq]
    have heq : x = S 0 13 ↔ rcs n T w = (g0 n T L).2.2.1 := by rw [← hx, ← m3]; exact ⟨fun q => by rw [q], fun q => Int32.toInt_inj.mp q⟩
    show (x = sput S 0 11 (S 0 11 + 1) 0 13 → nm (sput (sput S 0 11 (S 0 11 + 1)) 0 12 (sput S 0 11 (S 0 11 + 1) 0 12 + 1)) (fun S_6 => P S_6)) ∧ (¬ x = sput S 0 11 (S 0 11 + 1) 0 13 → nm (sput (sput S 0 11 (S 0 11 + 1)) 0 12 (sput S 0 11 (S 0 11 + 1) 0 12 + 0)) (fun S_5 => P S_5))
    rw [e0 S 11 13 _ (by decide), e0 S 11 12 _ (by decide), heq]
    refine ⟨fun q2 => nm_i (fin _ ?_), fun q2 => nm_i (fin _ ?_)⟩
    · rw [m2, nI_1]
      show _ = nI (if rcs n T w < (g0 n T L).2.2.1 then 1 else if rcs n T w = (g0 n T L).2.2.1 then (g0 n T L).2.1 + 1 else (g0 n T L).2.1)
      rw [if_neg hlq, if_pos q2]
    · rw [m2, show nI (g0 n T L).2.1 + 0 = nI (g0 n T L).2.1 from Int32.add_zero _]
      show _ = nI (if rcs n T w < (g0 n T L).2.2.1 then 1 else if rcs n T w = (g0 n T L).2.2.1 then (g0 n T L).2.1 + 1 else (g0 n T L).2.1)
      rw [if_neg hlq, if_neg q2]
  · have hlq : rcs n T w < (g0 n T L).2.2.1 := by omega
    generalize hS9 : sput (sput (sput S 0 11 (S 0 11 + 1)) 0 13 x) 0 12 0 = S9
    have f13 : S9 0 13 = x := by rw [← hS9, e0 _ _ _ _ (by decide), es]
    have f11 : S9 0 11 = S 0 11 + 1 := by rw [← hS9, e0 _ _ _ _ (by decide), e0 _ _ _ _ (by decide), es]
    have f12 : S9 0 12 = 0 := by rw [← hS9, es]
    have fo : ∀ i, i ≠ 0 → S9 i = S i := fun i hi => by rw [← hS9, sput_ne hi, sput_ne hi, sput_ne hi]
    have fj : ∀ j, j ≠ 11 → j ≠ 12 → j ≠ 13 → S9 0 j = S 0 j := fun j h1 h2 h3 => by rw [← hS9, e0 _ _ _ _ (fun e => h2 e.symm), e0 _ _ _ _ (fun e => h3 e.symm), e0 _ _ _ _ (fun e => h1 e.symm)]
    refine loop_i (σ := MS) (fun f i S1 => L_mfound_30 _ P x f S1 (nI i)) (fun i S1 => (∀ q, q ≠ 3 → S1 q = S9 q) ∧ ∀ j, j < i → S1 3 j = S 2 j) 6 (fun f S1 hx1 => ?_) (fun f i S1 hi hx1 ih => ?_) NF 0 S9 (Nat.zero_le _) (by unfold NF; omega) ⟨fun _ _ => rfl, fun j hj => absurd hj (Nat.not_lt_zero _)⟩
    · obtain ⟨g1, g2⟩ := hx1
      unfold L_mfound_30
      refine ⟨fun _ => ?_, fun q2 => absurd (nI_le (Nat.le_refl 6) (by decide)) q2⟩
      have g0' := g1 0 (by decide)
      show (x = S1 0 13 → _) ∧ (¬ x = S1 0 13 → _)
      rw [g0', f13, f12]
      refine ⟨fun _ => nm_i (h _ ⟨?_, ?_, ?_, fun _ a ha => ?_⟩ ⟨?_, ?_, ?_, ?_, fun j h1 h2 h3 => ?_⟩ ?_), fun q2 => (q2 rfl).elim⟩
      · rw [e0 _ _ _ _ (by decide), g0', f11, m1, nI_1, hg]; rfl
      · rw [es, hg]
        show _ = nI (if rcs n T w < (g0 n T L).2.2.1 then 1 else if rcs n T w = (g0 n T L).2.2.1 then (g0 n T L).2.1 + 1 else (g0 n T L).2.1)
        rw [if_pos hlq]; rfl
      · rw [e0 _ _ _ _ (by decide), g0', f13, hx, hg]
        show _ = if rcs n T w < (g0 n T L).2.2.1 then _ else _
        rw [if_pos hlq]
      · rw [sput_ne (by decide), g2 a (by omega), hr a ha, hg]
        show _ = nI ((if rcs n T w < (g0 n T L).2.2.1 then w else (g0 n T L).2.2.2) a)
        rw [if_pos hlq]
      · rw [sput0_1, g1 1 (by decide), fo 1 (by decide)]
      · rw [sput_ne (by decide), g1 4 (by decide), fo 4 (by decide)]
      · rw [sput_ne (by decide), g1 5 (by decide), fo 5 (by decide)]
      · rw [sput_ne (by decide), g1 6 (by decide), fo 6 (by decide)]
      · rw [e0 _ _ _ _ (fun e => h2 e.symm), g0', fj j h1 h2 h3]
      · rw [sput_ne (by decide), g1 2 (by decide), fo 2 (by decide)]
    · obtain ⟨g1, g2⟩ := hx1
      unfold L_mfound_30
      rw [ix hi (by decide), nI_1]
      refine ⟨fun q2 => absurd q2 (nI_ge hi (by decide) : ¬ nI 6 ≤ nI i), fun _ => ⟨vp_in_nI hi (by decide), vp_in_nI hi (by decide), nm_i (ih _ ⟨fun q2 h3 => by rw [sput_ne h3]; exact g1 q2 h3, fun j hj => ?_⟩)⟩⟩
      rw [sput_self]
      by_cases e : j = i
      · subst e; rw [pk_us, g1 2 (by decide), fo 2 (by decide)]
      · rw [pk_un e]; exact g2 j (by omega)
def okM (T : TS) (one other : Int32) : Nat → Nat → Bool := fun a m => okT T a m && (!decide (nI a = one) || decide (nI m = other))
theorem s_misTaken {S : MS} {w : Nat → Nat} {a m : Nat} {P : Int32 → MS → Prop} (ha : a ≤ 6) (hm : m < 6) (hr : ∀ j, j < a → S 2 j = nI (w j) ∧ w j < 6) (h0 : tkn w a m = false → P 0 S) (h1 : tkn w a m = true → P 1 S) : F_misTaken S (nI a) (nI m) P := by
  unfold F_misTaken
  refine loop_i (σ := Unit) (fun f i _ => L_misTaken_2 P (nI a) (nI m) f S (nI i)) (fun i _ => ∀ j, j < i → w j ≠ m) a (fun f _ hx => ?_) (fun f i _ hi hx ih => ?_) NF 0 () (Nat.zero_le _) (by unfold NF; omega) (fun j hj => absurd hj (Nat.not_lt_zero _))
  · unfold L_misTaken_2
    refine ⟨fun _ => h0 ?_, fun q => absurd (nI_le (Nat.le_refl a) (by omega)) q⟩
    cases e : tkn w a m with
    | false => rfl
    | true => obtain ⟨j, j1, j2⟩ := tkn_iff.mp e; exact absurd j2 (hx j j1)
  · have hi6 : i < 6 := by omega
    have := (hr i hi).2
    unfold L_misTaken_2
    rw [ix hi6 (by decide), (hr i hi).1, nI_eq (by omega) (by omega), nI_1]
    exact ⟨fun q => absurd q (nI_ge hi (by omega)), fun _ => ⟨vp_in_nI hi6 (by decide), fun e => h1 (tkn_iff.mpr ⟨i, hi, e⟩), fun e => ih () fun j hj => by
      by_cases ej : j = i
      · rw [ej]; exact e
      · exact hx j (by omega)⟩⟩
set_option maxHeartbeats 2000000 in
theorem s_mgoes {Y : Int} {n k : Nat} {S0 : MS} {one other : Int32} (hI : IT Y n k (S0 1)) : ∀ (d r : Nat) (w : Nat → Nat) (c : Int32) (S : MS) (L : List (Nat → Nat)) (P : MS → Prop), r ≤ n → r < d → (∀ j, j < n - r → w j < k ∧ okT (S0 1) j (w j) = true) → c.toInt = su (fun a => cT (S0 1) a (w a)) (n - r) → MG n (S0 1) L S → Jk S0 S → (∀ j, j < n - r → S 2 j = nI (w j)) → (∀ S', MG n (S0 1) (L ++ en k (okM (S0 1) one other) n r w) S' → Jk S0 S' → (∀ j, j < n - r → S' 2 j = nI (w j)) → P S') → F_mgoes d S (nI (n - r)) c one other P
  | 0, r, w, c, S, L, P, _, hd, _, _, _, _, _, _ => absurd hd (Nat.not_lt_zero _)
  | d + 1, 0, w, c, S, L, P, hr, hd, hw, hc, hM, hJ, h2, h => by
    have hn := hI.n6
    have hk := hI.k6
    unfold F_mgoes
    rw [k0, hJ.1, hI.t0, Nat.sub_zero]
    refine ⟨v0, fun _ => ?_, fun q => (q rfl).elim⟩
    have hb : c.toInt < DD := by
      rw [hc]
      have h3 : su (fun a => cT (S0 1) a (w a)) (n - 0) ≤ su (fun _ => 1 * 60) (n - 0) := su_le fun a ha => by
        have := (hI.cost (show a < 6 by omega) (show w a < 6 by have := (hw a ha).1; omega)).resolve_left (by have := (hw a ha).2; simpa [okT] using this)
        omega
      rw [su_mul (f := fun _ => 1), su_one] at h3
      show _ < (1000000 : Int)
      omega
    exact s_mfound hn hc (by rw [hc] at hb; exact hb) (fun a ha => h2 a (by omega)) hM (fun S' g1 g2 g3 => h S' g1 (hJ.tr g2) (fun j hj => by rw [g3]; exact h2 j hj))
  | d + 1, r + 1, w, c, S, L, P, hr, hd, hw, hc, hM, hJ, h2, h => by
    have hn := hI.n6
    have hk := hI.k6
    have ha6 : n - (r + 1) < 6 := by omega
    have hsub : n - (r + 1) + 1 = n - r := by omega
    unfold F_mgoes
    rw [k0, hJ.1, hI.t0, nI_eq (by omega) (by omega)]
    refine ⟨v0, fun q => by omega, fun _ => ?_⟩
    have hen : en k (okM (S0 1) one other) n (r + 1) w = enL (fun m => if (okM (S0 1) one other (n - (r + 1)) m && !tkn w (n - (r + 1)) m) = true then en k (okM (S0 1) one other) n r (udN w (n - (r + 1)) m) else []) k := rfl
    generalize hf : (fun m => if (okM (S0 1) one other (n - (r + 1)) m && !tkn w (n - (r + 1)) m) = true then en k (okM (S0 1) one other) n r (udN w (n - (r + 1)) m) else []) = f at hen
    have hfm : ∀ m, f m = if (okM (S0 1) one other (n - (r + 1)) m && !tkn w (n - (r + 1)) m) = true then en k (okM (S0 1) one other) n r (udN w (n - (r + 1)) m) else [] := fun m => by rw [← hf]
    rw [hen] at h
    refine loop_i (σ := MS) (fun g i S => L_mgoes_19 (F_mgoes d) P (nI (n - (r + 1))) c one other g S (nI i)) (fun i S => MG n (S0 1) (L ++ enL f i) S ∧ Jk S0 S ∧ ∀ j, j < n - (r + 1) → S 2 j = nI (w j)) k (fun g S hx => ?_) (fun g i S hi hx ih => ?_) NF 0 S (Nat.zero_le _) (by unfold NF; omega) ⟨by show MG n (S0 1) (L ++ []) S; rw [List.append_nil]; exact hM, hJ, h2⟩
    · unfold L_mgoes_19
      rw [k1, hx.2.1.1]
      exact ⟨v1, fun _ => h S hx.1 hx.2.1 hx.2.2, fun q => absurd (hI.t1 ▸ nI_le (Nat.le_refl k) (by omega)) q⟩
    · obtain ⟨x1, x2, x3⟩ := hx
      have hi6 : i < 6 := by omega
      have hskip : f i = [] → L_mgoes_19 (F_mgoes d) P (nI (n - (r + 1))) c one other g S (nI (i + 1)) := fun e => ih S ⟨by show MG n (S0 1) (L ++ (enL f i ++ f i)) S; rw [e, List.append_nil]; exact x1, x2, x3⟩
      unfold L_mgoes_19
      rw [k1, x2.1, nI_1 i, ix ha6 (by decide), nI_1, hsub]
      refine ⟨v1, fun q => absurd q (hI.t1 ▸ nI_ge hi (by omega)), fun _ => s_misBarred ha6 hi6 (fun e => ⟨fun q => absurd q (by decide), fun _ => hskip ?_⟩) (fun e => ⟨fun _ => s_misTaken (w := w) (by omega) hi6 (fun j hj => ⟨x3 j hj, by have := (hw j hj).1; omega⟩) (fun ht => ⟨fun _ => jn_i ?_, fun q => (q rfl).elim⟩) (fun ht => ⟨fun q => absurd q (by decide), fun _ => hskip ?_⟩), fun q => (q rfl).elim⟩)⟩
      · rw [x2.1] at e
        rw [hfm, if_neg]; simp [okM, e]
      · rw [x2.1] at e
        have hgo : (nI (n - (r + 1)) = one → nI i = other) → vp_in (nI (n - (r + 1))) 6 ∧ nm (sput S 2 (n - (r + 1)) (nI i)) (fun S_11 => F_mc S_11 (nI (n - (r + 1))) (nI i) (fun r_13 S_12 => F_mgoes d S_12 (nI (n - r)) (c + r_13) one other (fun S_14 => L_mgoes_19 (F_mgoes d) P (nI (n - (r + 1))) c one other g S_14 (nI (i + 1))))) := fun hq => by
          refine ⟨vp_in_nI ha6 (by decide), nm_i (s_mc ha6 hi6 ?_)⟩
          rw [sput_ne (by decide), x2.1]
          have hokm : okM (S0 1) one other (n - (r + 1)) i = true := by
            unfold okM
            rw [e]
            by_cases q : nI (n - (r + 1)) = one
            · simp [q, hq q]
            · simp [q]
          have hfi : f i = en k (okM (S0 1) one other) n r (udN w (n - (r + 1)) i) := by rw [hfm, if_pos (by simp [hokm, ht])]
          have hc0 := (hI.cost ha6 hi6).resolve_left (by simpa [okT] using e)
          have hpre : 0 ≤ c.toInt ∧ c.toInt ≤ 360 := by
            rw [hc]
            have h1 : ∀ a, a < n - (r + 1) → 0 ≤ cT (S0 1) a (w a) ∧ cT (S0 1) a (w a) ≤ 60 := fun a ha => (hI.cost (show a < 6 by omega) (show w a < 6 by have := (hw a ha).1; omega)).resolve_left (by have := (hw a ha).2; simpa [okT] using this)
            refine ⟨su_nonneg fun a ha => (h1 a ha).1, ?_⟩
            have h2 : su (fun a => cT (S0 1) a (w a)) (n - (r + 1)) ≤ su (fun _ => 1 * 60) (n - (r + 1)) := su_le fun a ha => by have := (h1 a ha).2; omega
            rw [su_mul (f := fun _ => 1), su_one] at h2
            omega
          have e60 : (S0 1 (6 + 6 * (n - (r + 1)) + i)).toInt = cT (S0 1) (n - (r + 1)) i := rfl
          have hJ2 : Jk S0 (sput S 2 (n - (r + 1)) (nI i)) := ⟨by rw [sput_ne (by decide)]; exact x2.1, by rw [sput_ne (by decide)]; exact x2.2.1, by rw [sput_ne (by decide)]; exact x2.2.2.1, by rw [sput_ne (by decide)]; exact x2.2.2.2.1, fun j a1 a2 a3 => by rw [sput_ne (by decide)]; exact x2.2.2.2.2 j a1 a2 a3⟩
          refine s_mgoes hI d r (udN w (n - (r + 1)) i) _ _ (L ++ enL f i) _ (by omega) (by omega) (fun j hj => ?_) ?_ ?_ hJ2 (fun j hj => ?_) (fun S' g1 g2 g3 => ih S' ⟨?_, g2, fun j hj => ?_⟩)
          · by_cases ej : j = n - (r + 1)
            · rw [ej, udN_self]; exact ⟨hi, e⟩
            · rw [udN_ne ej]; exact hw j (by omega)
          · rw [i32_add (by rw [e60]; omega) (by rw [e60]; omega), e60, ← hsub, su_succ, udN_self, hc]
            congr 1
            exact su_congr fun j hj => by rw [udN_ne (by omega)]
          · obtain ⟨k1, k2, k3, k4⟩ := x1
            exact ⟨by rw [sput_ne (by decide)]; exact k1, by rw [sput_ne (by decide)]; exact k2, by rw [sput_ne (by decide)]; exact k3, fun q a ha => by rw [sput_ne (by decide)]; exact k4 q a ha⟩
          · rw [sput_self]
            by_cases ej : j = n - (r + 1)
            · subst ej; rw [pk_us, udN_self]
            · rw [pk_un ej, udN_ne ej]; exact x3 j (by omega)
          · show MG n (S0 1) (L ++ (enL f i ++ f i)) S'
            rw [← List.append_assoc, hfi]; exact g1
          · have := g3 j (by omega)
            rw [udN_ne (by omega)] at this; exact this
        refine ⟨fun q => ⟨fun q2 => hgo fun _ => q2, fun q2 => hskip ?_⟩, fun q => hgo fun z => absurd z q⟩
        rw [hfm, if_neg]; simp [okM, q, q2]
      · rw [hfm, if_neg]; simp [ht]
theorem s_mlooksWith {Y : Int} {n k : Nat} {S : MS} {one other : Int32} (hI : IT Y n k (S 1)) {P : MS → Prop} (h : ∀ S', MG n (S 1) (en k (okM (S 1) one other) n n fun _ => 0) S' → Jk S S' → P S') : F_mlooksWith S one other P := by
  unfold F_mlooksWith
  refine nm_i (nm_i (nm_i ?_))
  have hJ : Jk S (sput (sput (sput S 0 11 0) 0 12 0) 0 13 1000000) := ⟨by rw [sput0_1, sput0_1, sput0_1], by rw [sput_ne (by decide), sput_ne (by decide), sput_ne (by decide)], by rw [sput_ne (by decide), sput_ne (by decide), sput_ne (by decide)], by rw [sput_ne (by decide), sput_ne (by decide), sput_ne (by decide)], fun j h1 h2 h3 => by rw [sput_self, pk_un h3, sput_self, pk_un h2, sput_self, pk_un h1]⟩
  have := s_mgoes (one := one) (other := other) hI 8 n (fun _ => 0) 0 _ [] P (Nat.le_refl _) (by have := hI.n6; omega) (fun j hj => by omega) (by rw [Nat.sub_self]; exact (by decide : (0 : Int32).toInt = 0)) ⟨?_, ?_, ?_, fun q => absurd rfl q⟩ hJ (fun j hj => by omega) (fun S' g1 g2 _ => h S' g1 g2)
  · rw [Nat.sub_self] at this; exact this
  · rw [sput_self, pk_un (by decide), sput_self, pk_un (by decide), sput_self, pk_us]; rfl
  · rw [sput_self, pk_un (by decide), sput_self, pk_us]; rfl
  · rw [sput_self, pk_us]; exact (by decide : (1000000 : Int32).toInt = 1000000)
theorem en_congr {k n : Nat} {ok ok' : Nat → Nat → Bool} (h : ∀ a m, a < n → m < k → ok' a m = ok a m) : ∀ r w, r ≤ n → en k ok' n r w = en k ok n r w
  | 0, w, _ => rfl
  | r + 1, w, hr => by
    show enL _ k = enL _ k
    refine enL_congr fun m hm => ?_
    rw [h _ m (by omega) hm]
    split
    · exact en_congr h r _ (by omega)
    · rfl
theorem s_mlooks {Y : Int} {n k : Nat} {S : MS} (hI : IT Y n k (S 1)) {P : MS → Prop} (h : ∀ S', MG n (S 1) (rows n k (S 1)) S' → Jk S S' → P S') : F_mlooks S P := by
  have hn := hI.n6
  unfold F_mlooks
  refine s_mlooksWith hI fun S' g1 g2 => h S' ?_ g2
  rw [en_congr (ok := okT (S 1)) (fun a m ha hm => by
    have : ¬ nI a = -1 := nI_ne_m1 (by omega)
    simp [okM, this]) n _ (Nat.le_refl _)] at g1
  exact g1
