/-! PURE: the model's changes -/
theorem sset_sput0 {S : MS} {T : TS} {j : Nat} {v : Int32} : sset (sput S 0 j v) T = sput (sset S T) 0 j v := by
  funext i
  unfold sset sput
  by_cases h : i = 1
  · subst h; rfl
  · by_cases h0 : i = 0
    · subst h0; rfl
    · simp [h, h0]
theorem sput0_1 {S : MS} {j : Nat} {v : Int32} : sput S 0 j v 1 = S 1 := sput_ne (by decide)
theorem rfz_1 {S : MS} {r d : Int32} : rfz S r d 1 = S 1 := by unfold rfz; rw [sput0_1, sput0_1, sput0_1]
/-- the same but for what is kept of looking at pairings -/
def Jk (S S' : MS) : Prop := S' 1 = S 1 ∧ S' 4 = S 4 ∧ S' 5 = S 5 ∧ S' 6 = S 6 ∧ ∀ j, j ≠ 11 → j ≠ 12 → j ≠ 13 → S' 0 j = S 0 j
theorem Jk.rf {S : MS} : Jk S S := ⟨rfl, rfl, rfl, rfl, fun _ _ _ _ => rfl⟩
theorem Jk.tr {S S' S'' : MS} (h : Jk S S') (h' : Jk S' S'') : Jk S S'' := ⟨h'.1.trans h.1, h'.2.1.trans h.2.1, h'.2.2.1.trans h.2.2.1, h'.2.2.2.1.trans h.2.2.2.1, fun j h1 h2 h3 => (h'.2.2.2.2 j h1 h2 h3).trans (h.2.2.2.2 j h1 h2 h3)⟩
theorem Jk.put {S S' : MS} (h : Jk S S') {j : Nat} {v : Int32} : Jk (sput S 0 j v) (sput S' 0 j v) := by
  refine ⟨by rw [sput0_1, sput0_1]; exact h.1, by rw [sput_ne (by decide), sput_ne (by decide)]; exact h.2.1, by rw [sput_ne (by decide), sput_ne (by decide)]; exact h.2.2.1, by rw [sput_ne (by decide), sput_ne (by decide)]; exact h.2.2.2.1, fun i h1 h2 h3 => ?_⟩
  rw [sput_self, sput_self]
  by_cases e : i = j
  · subst e; rw [pk_us, pk_us]
  · rw [pk_un e, pk_un e]; exact h.2.2.2.2 i h1 h2 h3
theorem Jk.set {S S' : MS} (h : Jk S S') {T : TS} : Jk (sset S T) (sset S' T) := by
  refine ⟨by rw [sset_1, sset_1], by rw [sset_ne (by decide), sset_ne (by decide)]; exact h.2.1, by rw [sset_ne (by decide), sset_ne (by decide)]; exact h.2.2.1, by rw [sset_ne (by decide), sset_ne (by decide)]; exact h.2.2.2.1, fun i h1 h2 h3 => ?_⟩
  rw [sset_ne (by decide), sset_ne (by decide)]; exact h.2.2.2.2 i h1 h2 h3
theorem Jk.rfz {S S' : MS} (h : Jk S S') {r d : Int32} : Jk (rfz S r d) (rfz S' r d) := h.put.put.put
def orM (o : OR) (S : MS) (P : Int32 → MS → Prop) : Prop := match o with
  | .inl r => ∀ S', Jk (rfz S r.1 r.2) S' → P 0 S'
  | .inr v => ∀ S', Jk (sput (sset S v.2) 0 4 v.1) S' → P 1 S'
section MO
variable {Y : Int} {n k : Nat} {S : MS} {P : Int32 → MS → Prop}
def aP (z : Bool) (i : Nat) (T : TS) : TS := fun j => if 78 ≤ j ∧ j < 78 + i then (if z = true then 0 else T j / 2) else if 84 ≤ j ∧ j < 84 + i then -1 else T j
theorem aP_step {z : Bool} {i : Nat} {T : TS} (hi : i < 6) : upd (upd (aP z i T) (84 + i) (-1)) (78 + i) (if z = true then 0 else T (78 + i) / 2) = aP z (i + 1) T := by
  funext j
  by_cases h1 : j = 78 + i
  · subst h1; rw [pk_us]; unfold aP; rw [if_pos (show 78 ≤ 78 + i ∧ 78 + i < 78 + (i + 1) by omega)]
  · rw [pk_un h1]
    by_cases h2 : j = 84 + i
    · subst h2; rw [pk_us]; unfold aP; rw [if_neg (show ¬ (78 ≤ 84 + i ∧ 84 + i < 78 + (i + 1)) by omega), if_pos (show 84 ≤ 84 + i ∧ 84 + i < 84 + (i + 1) by omega)]
    · rw [pk_un h2]
      unfold aP
      by_cases h3 : 78 ≤ j ∧ j < 78 + i
      · rw [if_pos h3, if_pos (show 78 ≤ j ∧ j < 78 + (i + 1) by omega)]
      · rw [if_neg h3, if_neg (show ¬ (78 ≤ j ∧ j < 78 + (i + 1)) by omega)]
        by_cases h4 : 84 ≤ j ∧ j < 84 + i
        · rw [if_pos h4, if_pos (show 84 ≤ j ∧ j < 84 + (i + 1) by omega)]
        · rw [if_neg h4, if_neg (show ¬ (84 ≤ j ∧ j < 84 + (i + 1)) by omega)]
theorem aP_price {z : Bool} {i : Nat} {T : TS} (hi : i < 6) : aP z i T (78 + i) = T (78 + i) := by
  unfold aP; rw [if_neg (by omega), if_neg (by omega)]
theorem aP_true {T : TS} : aP true 6 T = anew T := by
  funext j; unfold aP anew; simp
theorem aP_zero {z : Bool} {T : TS} : aP z 0 T = T := by
  funext j; unfold aP; rw [if_neg (by omega), if_neg (by omega)]
theorem s_mallFree {x : Int32} {z : Bool} (hx : x = if z = true then 1 else 0) {P : MS → Prop} (h : P (sset S (aP z 6 (S 1)))) : F_mallFree S x P := by
  unfold F_mallFree
  refine loop_i (σ := MS) (fun f i S1 => L_mallFree_2 P x f S1 (nI i)) (fun i S1 => S1 = sset S (aP z i (S 1))) 6 (fun f S1 e => ?_) (fun f i S1 hi e ih => ?_) NF 0 S (Nat.zero_le _) (by unfold NF; omega) (by rw [aP_zero, sset_id])
  · subst e
    unfold L_mallFree_2
    exact ⟨fun _ => h, fun q => absurd (nI_le (Nat.le_refl 6) (by decide)) q⟩
  · subst e
    unfold L_mallFree_2
    rw [c84, c78, cl (by omega), cl (by omega), nI_1]
    have hb : sset (sset S (aP z i (S 1))) (upd (aP z i (S 1)) (84 + i) (-1)) 1 (78 + i) = S 1 (78 + i) := by rw [sset_1, pk_un (by omega), aP_price hi]
    have hst := aP_step (z := z) (T := S 1) hi
    refine ⟨fun q => absurd q (nI_ge hi (by decide) : ¬ nI 6 ≤ nI i), fun _ => ⟨vi (by omega), nm_i ?_⟩⟩
    rw [sput_sset]
    cases z with
    | true =>
      rw [if_pos rfl] at hx
      refine ⟨fun q => absurd (hx.symm.trans q) (by decide), fun _ => ⟨vi (by omega), nm_i (ih _ ?_)⟩⟩
      rw [sput_sset, ← hst, if_pos rfl]
    | false =>
      rw [if_neg (by decide)] at hx
      refine ⟨fun _ => ⟨vi (by omega), vi (by omega), nm_i (ih _ ?_)⟩, fun q => absurd hx q⟩
      rw [sset_1, pk_un (by omega), aP_price hi, sput_sset, ← hst, if_neg (by decide)]
theorem s_mpairCost (hI : IT Y n k (S 1)) (h : P (pcI n (S 1)) S) : F_mpairCost S P := by
  have hn := hI.n6
  have hk := hI.k6
  unfold F_mpairCost
  refine loop_i (σ := Unit) (fun f i _ => L_mpairCost_4 P f S (sumI (fun a => match qT (S 1) a with | none => 0 | some m => S 1 (6 + 6 * a + m)) i 0) (nI i)) (fun _ _ => True) n (fun f _ _ => ?_) (fun f i _ hi _ ih => ?_) NF 0 () (Nat.zero_le _) (by unfold NF; omega) trivial
  · unfold L_mpairCost_4
    rw [k0]
    exact ⟨v0, fun _ => h, fun q => absurd (hI.t0 ▸ nI_le (Nat.le_refl n) (by omega)) q⟩
  · have ih := ih () trivial
    have e1 : sumI (fun a => match qT (S 1) a with | none => (0 : Int32) | some m => S 1 (6 + 6 * a + m)) (i + 1) 0 = sumI (fun a => match qT (S 1) a with | none => 0 | some m => S 1 (6 + 6 * a + m)) i 0 + match qT (S 1) i with | none => 0 | some m => S 1 (6 + 6 * i + m) := rfl
    rw [e1] at ih
    unfold L_mpairCost_4
    rw [k0, c84, cl (by omega), nI_1]
    refine ⟨v0, fun q => absurd q (hI.t0 ▸ nI_ge hi (by omega)), fun _ => ⟨vi (by omega), fun e => ?_, fun e => ⟨vi (by omega), ?_⟩⟩⟩
    · rw [qT_none.mpr e] at ih; exact ih
    · obtain ⟨-, m, hm, hme, -⟩ := (hI.pair (show i < 6 by omega)).resolve_left e
      have hq : qT (S 1) i = some m := (qT_some hI (by omega)).mpr ⟨hm, hme⟩
      rw [hq] at ih
      rw [hme]
      exact s_mc (by omega) (by omega) ih
theorem upd30 {T : TS} {j : Nat} (h : T j = 30) : upd T j 30 = T := upd_same h.symm
theorem s_mcomes (hI : IT Y n k (S 1)) {w : Nat} (hw : w < 2) (h : orM (comesO (S 1) w) S P) : F_mcomes S (nI w) P := by
  have hn := hI.n6
  have hk := hI.k6
  obtain ⟨c, hc6, hc⟩ : ∃ c, c ≤ 6 ∧ S 1 w = nI c := by
    rcases (show w = 0 ∨ w = 1 by omega) with rfl | rfl
    · exact ⟨n, hn, hI.t0⟩
    · exact ⟨k, hk, hI.t1⟩
  unfold F_mcomes
  unfold comesO at h
  rw [cl (by omega)]
  refine ⟨vi (by omega), jn_i ⟨fun e => s_mrefuses1 ⟨fun q => absurd q (by decide), fun _ => ?_⟩, fun e => s_mrefuses0 ⟨fun _ => ⟨vi (by omega), vi (by omega), nm_i ?_⟩, fun q => (q rfl).elim⟩⟩⟩
  · rw [if_pos e] at h; exact h _ Jk.rf
  · rw [if_neg e] at h
    have hc5 : c < 6 := by
      rcases Nat.lt_or_ge c 6 with z | z
      · exact z
      · exact absurd (by rw [hc, show c = 6 by omega]; rfl) e
    rw [sput_1]
    have fin : F_mallFree (sset S (upd (S 1) w (S 1 w + 1))) 1 (fun S_9 => nm (sput S_9 0 4 (S 1 w)) (fun S_10 => P 1 S_10)) := by
      refine s_mallFree (z := true) rfl (nm_i ?_)
      rw [sset_1, sset_sset, aP_true]
      exact h _ Jk.rf
    refine loop_i (σ := Unit) (fun f i _ => L_mcomes_42 P (nI w) (S 1 w) f (sset S (upd (S 1) w (S 1 w + 1))) (nI i)) (fun _ _ => True) 6 (fun f _ _ => ?_) (fun f i _ hi _ ih => ?_) NF 0 () (Nat.zero_le _) (by unfold NF; omega) trivial
    · unfold L_mcomes_42
      exact ⟨fun _ => fin, fun q => absurd (nI_le (Nat.le_refl 6) (by decide)) q⟩
    · have ih := ih () trivial
      unfold L_mcomes_42
      rw [hc, cc6, cc6, cl (by omega), cl (by omega), nI_1 i, ← hc]
      refine ⟨fun q => absurd q (nI_ge hi (by decide) : ¬ nI 6 ≤ nI i), fun _ => ⟨fun q => ⟨vi (by omega), nm_i ?_⟩, fun q => ⟨vi (by omega), nm_i ?_⟩⟩⟩
      · have hw0 : w = 0 := (nI_eq (a := w) (b := 0) (by omega) (by omega)).mp q
        have hcn : n ≤ c := by
          have : nI n = nI c := by rw [← hI.t0, ← hc, hw0]
          have := (nI_eq (by omega) (by omega)).mp this
          omega
        rw [sput_sset, upd30 (by rw [pk_un (by omega)]; exact (hI.out hc5 hi (Or.inl hcn)).1)]
        exact ih
      · have hw1 : w = 1 := by
          rcases (show w = 0 ∨ w = 1 by omega) with rfl | rfl
          · exact absurd rfl q
          · rfl
        have hck : k ≤ c := by
          have : nI k = nI c := by rw [← hI.t1, ← hc, hw1]
          have := (nI_eq (by omega) (by omega)).mp this
          omega
        rw [sput_sset, upd30 (by rw [pk_un (by omega)]; exact (hI.out hi hc5 (Or.inr hck)).1)]
        exact ih
theorem s_misNone (hn : n ≤ 6) (hk : k ≤ 6) (ht0 : S 1 0 = nI n) (ht1 : S 1 1 = nI k) {x y : Int32} (h0 : ¬ inR x n → P 1 (rfz S 2 x)) (h1 : inR x n → ¬ inR y k → P 1 (rfz S 2 y)) (h2 : inR x n → inR y k → P 0 S) : F_misNone S x y P := by
  unfold F_misNone
  refine s_misApprentice hn ht0 (fun e => jn_i ⟨fun _ => s_mrefuses1 ⟨fun q => absurd q (by decide), fun _ => h0 e⟩, fun q => (q rfl).elim⟩) (fun e => jn_i ⟨fun q => absurd q (by decide), fun _ => s_mrefuses0 ⟨fun _ => ?_, fun q => (q rfl).elim⟩⟩)
  exact s_misMaster hk ht1 (fun e2 => jn_i ⟨fun _ => s_mrefuses1 ⟨fun q => absurd q (by decide), fun _ => h1 e e2⟩, fun q => (q rfl).elim⟩) (fun e2 => jn_i ⟨fun q => absurd q (by decide), fun _ => s_mrefuses0 ⟨fun _ => h2 e e2, fun q => (q rfl).elim⟩⟩)
theorem s_mcosts (hn : n ≤ 6) (hk : k ≤ 6) (ht0 : S 1 0 = nI n) (ht1 : S 1 1 = nI k) {a m c : Int32} (h : orM (costsO n k (S 1) a m c) S P) : F_mcosts S a m c P := by
  unfold F_mcosts
  unfold costsO at h
  refine s_misNone hn hk ht0 ht1 (fun ha => ⟨fun q => absurd q (by decide), fun _ => by rw [if_pos ha] at h; exact h _ Jk.rf⟩) (fun ha hm => ⟨fun q => absurd q (by decide), fun _ => by rw [if_neg (fun q => q ha), if_pos hm] at h; exact h _ Jk.rf⟩) (fun ha hm => ⟨fun _ => s_min ?_, fun q => (q rfl).elim⟩)
  rw [if_neg (fun q => q ha), if_neg (fun q => q hm)] at h
  rw [bet60]
  by_cases hc : 0 ≤ c.toInt ∧ c.toInt ≤ 60
  · rw [if_neg (fun q => q hc)] at h
    rw [if_pos hc]
    obtain ⟨a', ha', rfl⟩ := inR_of (by omega) ha
    obtain ⟨m', hm', rfl⟩ := inR_of (by omega) hm
    have e1 : cix (nI a') (nI m') = 6 + 6 * a' + m' := by unfold cix; rw [ix (show a' < 6 by omega) (by decide), ix (show m' < 6 by omega) (by decide)]
    rw [e1] at h
    refine jn_i ⟨fun q => absurd q (by decide), fun _ => s_mrefuses0 ⟨fun _ => s_mc (by omega) (by omega) (jn_i ⟨fun e => s_mrefuses1 ⟨fun q => absurd q (by decide), fun _ => ?_⟩, fun e => s_mrefuses0 ⟨fun _ => s_mc (by omega) (by omega) (nm_i ?_), fun q => (q rfl).elim⟩⟩), fun q => (q rfl).elim⟩⟩
    · rw [if_pos e.symm] at h; exact h _ Jk.rf
    · rw [if_neg fun q => e q.symm] at h
      rw [cc6, cl (by omega)]
      refine ⟨vi (by omega), nm_i ?_⟩
      rw [sput_1, sput0_1, sset_sput0]
      exact h _ Jk.rf
  · rw [if_pos hc] at h
    rw [if_neg hc]
    exact jn_i ⟨fun _ => s_mrefuses1 ⟨fun q => absurd q (by decide), fun _ => h _ Jk.rf⟩, fun q => (q rfl).elim⟩
theorem s_mbars (hn : n ≤ 6) (hk : k ≤ 6) (ht0 : S 1 0 = nI n) (ht1 : S 1 1 = nI k) {a m : Int32} (h : orM (barsO n k (S 1) a m) S P) : F_mbars S a m P := by
  unfold F_mbars
  unfold barsO at h
  refine s_misNone hn hk ht0 ht1 (fun ha => ⟨fun q => absurd q (by decide), fun _ => by rw [if_pos ha] at h; exact h _ Jk.rf⟩) (fun ha hm => ⟨fun q => absurd q (by decide), fun _ => by rw [if_neg (fun q => q ha), if_pos hm] at h; exact h _ Jk.rf⟩) (fun ha hm => ⟨fun _ => ?_, fun q => (q rfl).elim⟩)
  rw [if_neg (fun q => q ha), if_neg (fun q => q hm)] at h
  obtain ⟨a', ha', rfl⟩ := inR_of (by omega) ha
  obtain ⟨m', hm', rfl⟩ := inR_of (by omega) hm
  have e1 : cix (nI a') (nI m') = 6 + 6 * a' + m' := by unfold cix; rw [ix (show a' < 6 by omega) (by decide), ix (show m' < 6 by omega) (by decide)]
  rw [e1, ix (show a' < 6 by omega) (by decide)] at h
  refine s_misBarred (by omega) (by omega) (fun e => s_mrefuses1 ⟨fun q => absurd q (by decide), fun _ => ?_⟩) (fun e => s_mrefuses0 ⟨fun _ => s_mc (by omega) (by omega) (nm_i ?_), fun q => (q rfl).elim⟩)
  · rw [if_pos (by simpa [okT] using e)] at h; exact h _ Jk.rf
  · rw [if_neg (by simpa [okT] using e)] at h
    rw [cc6, c84, cl (by omega), cl (by omega), sput_1, sput0_1]
    refine ⟨vi (by omega), nm_i ⟨vi (by omega), ?_⟩⟩
    rw [sset_1, pk_un (show 84 + a' ≠ 6 + 6 * a' + m' by omega)]
    refine ⟨fun e2 => ⟨vi (by omega), nm_i ?_⟩, fun e2 => ?_⟩
    · rw [if_pos e2] at h
      rw [sput_sset, sset_sput0]; exact h _ Jk.rf
    · rw [if_neg e2] at h
      rw [sset_sput0]; exact h _ Jk.rf
theorem s_mleaves (hn : n ≤ 6) (ht0 : S 1 0 = nI n) {a : Int32} (h : orM (leavesO n (S 1) a) S P) : F_mleaves S a P := by
  unfold F_mleaves
  unfold leavesO at h
  refine s_misApprentice hn ht0 (fun e => jn_i ⟨fun _ => s_mrefuses1 ⟨fun q => absurd q (by decide), fun _ => ?_⟩, fun q => (q rfl).elim⟩) (fun e => jn_i ⟨fun q => absurd q (by decide), fun _ => s_mrefuses0 ⟨fun _ => ?_, fun q => (q rfl).elim⟩⟩)
  · rw [if_pos e] at h; exact h _ Jk.rf
  · rw [if_neg (fun q => q e)] at h
    obtain ⟨a', ha', rfl⟩ := inR_of (by omega) e
    rw [ix (show a' < 6 by omega) (by decide)] at h
    rw [c84, cl (by omega)]
    refine ⟨vi (by omega), jn_i ⟨fun e2 => s_mrefuses1 ⟨fun q => absurd q (by decide), fun _ => ?_⟩, fun e2 => s_mrefuses0 ⟨fun _ => ⟨vi (by omega), nm_i ⟨vi (by omega), nm_i ?_⟩⟩, fun q => (q rfl).elim⟩⟩⟩
    · rw [if_pos e2] at h; exact h _ Jk.rf
    · rw [if_neg e2] at h
      rw [sput_1, sput0_1, sset_sput0]; exact h _ Jk.rf
theorem s_mbidsOnce (hI : IT Y n k (S 1)) (h : orM (bidO n k 1 (S 1)) S P) : F_mbidsOnce S P := by
  have hn := hI.n6
  have hk := hI.k6
  unfold F_mbidsOnce
  unfold bidO at h
  refine s_mfirstFree hn hI.t0 (jn_i ?_)
  cases hf : frA n (S 1) with
  | none =>
    rw [hf] at h
    refine ⟨fun _ => ⟨v0, ?_⟩, fun q => (q rfl).elim⟩
    rw [k0, hI.t0]
    exact s_mrefuses1 ⟨fun q => absurd q (by decide), fun _ => h _ Jk.rf⟩
  | some a =>
    obtain ⟨ha, hfa⟩ := frA_some hf
    simp only [hf] at h
    refine ⟨fun q => absurd q (nI_ne_m1 (by omega)), fun _ => ⟨v0, s_mrefuses0 ⟨fun _ => s_mwhyNot hI (by omega) (jn_i ?_), fun q => (q rfl).elim⟩⟩⟩
    cases hl : lk n k (S 1) a none with
    | none =>
      simp only [hl] at h
      exact ⟨fun _ => s_mrefuses1 ⟨fun q => absurd q (by decide), fun _ => h _ Jk.rf⟩, fun q => (q rfl).elim⟩
    | some m =>
      have hm := lk_lt hl
      simp only [hl] at h ⊢
      by_cases hc : pT (S 1) m + mvs n k (S 1) a ≤ 9999
      · rw [if_pos hc] at h ⊢
        refine ⟨fun q => absurd q (by decide), fun _ => s_mrefuses0 ⟨fun _ => jn_i ⟨fun q => absurd q (by decide), fun _ => s_mbidsNow hI (by omega) hl ?_⟩, fun q => (q rfl).elim⟩⟩
        rw [enc_some, c84, cl (by omega)]
        refine ⟨vi (by omega), nm_i ?_⟩
        rw [sset_1, bidT_pair hI (by omega) (by omega), if_pos rfl]
        refine ⟨fun q => ?_, fun _ => h _ Jk.rf⟩
        cases ho : atA n (S 1) (nI m) with
        | none => rw [ho] at q; exact absurd q.symm (nI_ne_m1 (by omega))
        | some o =>
          rw [ho] at q
          obtain ⟨o1, o2⟩ := atA_some ho
          have : o = a := (nI_eq (by omega) (by omega)).mp q
          subst this
          exact absurd (o2.symm.trans hfa) (nI_ne_m1 (by omega))
      · rw [if_neg hc] at h ⊢
        refine ⟨fun q => absurd q (by decide), fun _ => s_mrefuses0 ⟨fun _ => jn_i ⟨fun _ => s_mlikes hI (by omega) ?_, fun q => (q rfl).elim⟩, fun q => (q rfl).elim⟩⟩
        rw [hl, enc_some, c78, cl (by omega)]
        exact ⟨vi (by omega), s_mrefuses1 ⟨fun q => absurd q (by decide), fun _ => h _ Jk.rf⟩⟩
end MO
