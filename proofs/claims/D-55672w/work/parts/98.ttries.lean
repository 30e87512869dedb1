/-! PURE: trying all; what is Known -/
theorem nI0 : (0 : Int32) = nI 0 := rfl
set_option maxHeartbeats 1000000 in
theorem s_tries {Y : Int} {n k : Nat} {T : TS} (hI : IT Y n k T) : ∀ (d r : Nat) (w : Nat → Nat) (u : Nat) (c : Int32) (K : TS) (L : List (Nat → Nat)) (P : TS → Prop), r ≤ n → r < d → u < 64 → (∀ m, m < 6 → u.testBit m = tkn w (n - r) m) → (∀ j, j < n - r → w j < k ∧ okT T j (w j) = true) → c.toInt = su (fun a => cT T a (w a)) (n - r) → KS n T L K → (∀ j, j < n - r → K (82 + j) = nI (w j)) → (∀ K', KS n T (L ++ en k (okT T) n r w) K' → (∀ j, j < n - r → K' (82 + j) = nI (w j)) → P K') → F_tries T d K (nI (n - r)) (nI u) c P
  | 0, r, w, u, c, K, L, P, _, hd, _, _, _, _, _, _, _ => absurd hd (Nat.not_lt_zero _)
  | d + 1, 0, w, u, c, K, L, P, hr, hd, hu, hm, hw, hc, hK, hk2, h => by
    have hn := hI.n6
    have hk := hI.k6
    unfold F_tries
    rw [hI.t0, Nat.sub_zero]
    refine ⟨fun _ => ?_, fun q => (q rfl).elim⟩
    unfold F_klambda_new_0
    refine s_kcounts hn (fun a ha => by have := (hw a (by omega)).1; omega) hc hK (fun a ha => hk2 a (by omega)) (fun K' h1 h2 => h K' h1 (fun j hj => by rw [h2 _ (by omega)]; exact hk2 j hj))
  | d + 1, r + 1, w, u, c, K, L, P, hr, hd, hu, hm, hw, hc, hK, hk2, h => by
    have hn := hI.n6
    have hk := hI.k6
    have ha6 : n - (r + 1) < 6 := by omega
    have hsub : n - (r + 1) + 1 = n - r := by omega
    unfold F_tries
    rw [hI.t0, nI_eq (by omega) (by omega)]
    refine ⟨fun q => by omega, fun _ => ?_⟩
    have hen : en k (okT T) n (r + 1) w = enL (fun m => if (okT T (n - (r + 1)) m && !tkn w (n - (r + 1)) m) = true then en k (okT T) n r (udN w (n - (r + 1)) m) else []) k := rfl
    generalize hf : (fun m => if (okT T (n - (r + 1)) m && !tkn w (n - (r + 1)) m) = true then en k (okT T) n r (udN w (n - (r + 1)) m) else []) = f at hen
    have hfm : ∀ m, f m = if (okT T (n - (r + 1)) m && !tkn w (n - (r + 1)) m) = true then en k (okT T) n r (udN w (n - (r + 1)) m) else [] := fun m => by rw [← hf]
    rw [hen] at h
    refine loop_i (σ := TS) (fun g i K => L_tries T (F_tries T d) P (nI (n - (r + 1))) (nI u) c g K (nI i)) (fun i K => KS n T (L ++ enL f i) K ∧ ∀ j, j < n - (r + 1) → K (82 + j) = nI (w j)) k (fun g K hx => ?_) (fun g i K hi hx ih => ?_) NF 0 K (Nat.zero_le _) (by unfold NF; omega) ⟨by show KS n T (L ++ []) K; rw [List.append_nil]; exact hK, hk2⟩
    · unfold L_tries
      exact ⟨fun _ => h K hx.1 hx.2, fun q => absurd (hI.t1 ▸ nI_le (Nat.le_refl k) (by omega)) q⟩
    · have hi6 : i < 6 := by omega
      have hskip : f i = [] → L_tries T (F_tries T d) P (nI (n - (r + 1))) (nI u) c g K (nI (i + 1)) := fun e => ih K ⟨by show KS n T (L ++ (enL f i ++ f i)) K; rw [e, List.append_nil]; exact hx.1, hx.2⟩
      unfold L_tries
      refine ⟨fun q => absurd q (hI.t1 ▸ nI_ge hi (by omega)), fun _ => ?_⟩
      rw [mask_bit u hu i hi6, nI_1]
      by_cases ht : u.testBit i = true
      · rw [if_pos ht]
        refine ⟨fun q => absurd q (by decide), fun _ => hskip ?_⟩
        rw [hfm, if_neg]
        rw [hm i hi6] at ht
        simp [ht]
      · rw [if_neg ht]
        have htk : tkn w (n - (r + 1)) i = false := by rw [← hm i hi6]; simpa using ht
        refine ⟨fun _ => s_tcanBe ha6 hi6 (fun e => ⟨rfl, fun _ => hskip ?_, fun q => (q rfl).elim⟩) (fun e => ⟨rfl, fun q => absurd q (by decide), fun _ => ⟨vp_in_nI ha6 (by decide), nm_i ⟨vp_in_nI ha6 (by decide), vp_in_nI hi6 (by decide), ?_⟩⟩⟩), fun q => (q rfl).elim⟩
        · rw [hfm, if_neg]; simp [e]
        · obtain ⟨o1, o2⟩ := mask_or u hu i hi6
          rw [ix ha6 (by decide), ix hi6 (by decide), o1, nI_1, hsub]
          have hfi : f i = en k (okT T) n r (udN w (n - (r + 1)) i) := by rw [hfm, if_pos (by simp [e, htk])]
          have hc0 := (hI.cost ha6 hi6).resolve_left (by simpa [okT] using e)
          have hpre : 0 ≤ c.toInt ∧ c.toInt ≤ 360 := by
            rw [hc]
            have h1 : ∀ a, a < n - (r + 1) → 0 ≤ cT T a (w a) ∧ cT T a (w a) ≤ 60 := fun a ha => (hI.cost (show a < 6 by omega) (show w a < 6 by have := (hw a ha).1; omega)).resolve_left (by have := (hw a ha).2; simpa [okT] using this)
            refine ⟨su_nonneg fun a ha => (h1 a ha).1, ?_⟩
            have h2 : su (fun a => cT T a (w a)) (n - (r + 1)) ≤ su (fun _ => 1 * 60) (n - (r + 1)) := su_le fun a ha => by have := (h1 a ha).2; omega
            rw [su_mul (f := fun _ => 1), su_one] at h2
            omega
          have e60 : (T (6 + 6 * (n - (r + 1)) + i)).toInt = cT T (n - (r + 1)) i := rfl
          refine s_tries hI d r (udN w (n - (r + 1)) i) (u ||| 2 ^ i) _ _ (L ++ enL f i) _ (by omega) (by omega) o2 (fun m hm6 => ?_) (fun j hj => ?_) ?_ ?_ (fun j hj => ?_) (fun K' g1 g2 => ih K' ⟨?_, fun j hj => ?_⟩)
          · rw [mask_tb u hu i hi6 m hm6, hm m hm6]
            have hiff : tkn (udN w (n - (r + 1)) i) (n - r) m = true ↔ (m == i || tkn w (n - (r + 1)) m) = true := by
              rw [Bool.or_eq_true, tkn_iff, tkn_iff]
              constructor
              · rintro ⟨j, j1, j2⟩
                by_cases ej : j = n - (r + 1)
                · rw [ej, udN_self] at j2; left; simp [j2]
                · rw [udN_ne ej] at j2; exact Or.inr ⟨j, by omega, j2⟩
              · rintro (q | ⟨j, j1, j2⟩)
                · exact ⟨n - (r + 1), by omega, by rw [udN_self]; have : m = i := by simpa using q
                                                   exact this.symm⟩
                · exact ⟨j, by omega, by rw [udN_ne (by omega)]; exact j2⟩
            exact (Bool.eq_iff_iff.mpr hiff).symm
          · by_cases ej : j = n - (r + 1)
            · rw [ej, udN_self]; exact ⟨hi, e⟩
            · rw [udN_ne ej]; exact hw j (by omega)
          · rw [i32_add (by rw [e60]; omega) (by rw [e60]; omega), e60, ← hsub, su_succ, udN_self, hc]
            congr 1
            exact su_congr fun j hj => by rw [udN_ne (by omega)]
          · obtain ⟨k1, k2, k3, k4, k5, k6⟩ := hx.1
            refine ⟨by rw [pk_un (by omega)]; exact k1, by rw [pk_un (by omega)]; exact k2, by rw [pk_un (by omega)]; exact k3, by rw [pk_un (by omega)]; exact k4, fun a ha => by rw [pk_un (by omega)]; exact k5 a ha, fun p hp => by rw [pk_un (by omega), pk_un (by omega)]; exact k6 p hp⟩
          · by_cases ej : j = n - (r + 1)
            · subst ej; rw [pk_us, udN_self]
            · rw [pk_un (by omega), udN_ne ej]; exact hx.2 j (by omega)
          · show KS n T (L ++ (enL f i ++ f i)) K'
            rw [← List.append_assoc, hfi]; exact g1
          · have := g2 j (by omega)
            rw [udN_ne (by omega)] at this; exact this
theorem s_known {Y : Int} {n k : Nat} {T : TS} (hI : IT Y n k T) {P : TS → Prop} (h : ∀ K, KS n T (rows n k T) K → P K) : F_known T P := by
  have hn := hI.n6
  unfold F_known
  refine nm_i ?_
  have h0 : KS n T [] (K0k T) := by
    refine ⟨?_, ?_, ?_, ?_, fun a ha => ?_, fun p hp => ⟨?_, ?_⟩⟩
    · show (if (78 : Nat) < 6 then (0 : Int32) else if (78 : Nat) < 78 then 1000000 else if (78 : Nat) = 78 then T 0 else _) = _
      rw [if_neg (by decide), if_neg (by decide), if_pos rfl]; exact hI.t0
    · exact (by decide : (1000000 : Int32).toInt = 1000000)
    · exact (by decide : (0 : Int32) = nI 0)
    · exact (by decide : (0 : Int32) = nI 0)
    · show K0k T a = nI 0
      unfold K0k; rw [if_pos (by omega)]; rfl
    · show (K0k T (6 + p)).toInt = 1000000
      unfold K0k; rw [if_neg (by omega), if_pos (by omega)]; decide
    · show (K0k T (42 + p)).toInt = 1000000
      unfold K0k; rw [if_neg (by omega), if_pos (by omega)]; decide
  have := s_tries hI 8 n (fun _ => 0) 0 0 (K0k T) [] P (Nat.le_refl _) (by omega) (by decide) (fun m _ => by
    rw [Nat.sub_self]
    have : tkn (fun _ => 0) 0 m = false := by
      cases e : tkn (fun _ => 0) 0 m with
      | false => rfl
      | true => obtain ⟨j, h1, -⟩ := tkn_iff.mp e; omega
    rw [this]; exact Nat.zero_testBit m) (fun j hj => by omega) (by rw [Nat.sub_self]; exact (by decide : (0 : Int32).toInt = 0)) h0 (fun j hj => by omega) (fun K' h1 _ => h K' h1)
  rw [Nat.sub_self] at this
  exact this
theorem enL_len {f : Nat → List (Nat → Nat)} {B : Nat} : ∀ {k : Nat}, (∀ m, m < k → (f m).length ≤ B) → (enL f k).length ≤ k * B
  | 0, _ => by show (0 : Nat) ≤ _; omega
  | k + 1, h => by
    show (enL f k ++ f k).length ≤ _
    rw [List.length_append, Nat.add_mul, Nat.one_mul]
    have := enL_len (f := f) (B := B) (k := k) (fun m hm => h m (by omega))
    have := h k (by omega)
    omega
theorem en_len {k : Nat} {ok : Nat → Nat → Bool} {n : Nat} (hk : k ≤ 6) : ∀ (r : Nat) (w : Nat → Nat), (en k ok n r w).length ≤ 6 ^ r
  | 0, w => Nat.le_refl 1
  | r + 1, w => by
    have h := enL_len (f := fun m => if (ok (n - (r + 1)) m && !tkn w (n - (r + 1)) m) = true then en k ok n r (udN w (n - (r + 1)) m) else []) (B := 6 ^ r) (k := k) (fun m hm => by
      show (if _ then _ else _ : List (Nat → Nat)).length ≤ _
      split
      · exact en_len hk r _
      · exact Nat.zero_le _)
    rw [Nat.pow_succ, Nat.mul_comm]
    exact Nat.le_trans h (Nat.mul_le_mul_right _ hk)
theorem rows_len {n k : Nat} {T : TS} (hn : n ≤ 6) (hk : k ≤ 6) : (rows n k T).length ≤ 46656 := by
  have h := en_len (ok := okT T) (n := n) hk n (fun _ => 0)
  have h2 : 6 ^ n ≤ 6 ^ 6 := Nat.pow_le_pow_right (by omega) hn
  have h3 : 6 ^ 6 = 46656 := by decide
  show (en k (okT T) n n fun _ => 0).length ≤ _
  omega
