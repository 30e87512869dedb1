/-! PURE: Town.most by augmenting -/
def byT (T : TS) (m : Nat) : Option Nat := if T (96 + m) = -1 then none else some (T (96 + m)).toNatClampNeg
def snT (T : TS) (m : Nat) : Prop := T (102 + m) ≠ 0
def okP (T : TS) : Nat → Nat → Prop := fun a m => okT T a m = true
/-- the same but for what finds keeps -/
def Sm (T T' : TS) : Prop := ∀ j, j < 96 → T' j = T j
theorem Sm.rf {T : TS} : Sm T T := fun _ _ => rfl
theorem Sm.tr {T T' T'' : TS} (h : Sm T T') (h' : Sm T' T'') : Sm T T'' := fun j hj => (h' j hj).trans (h j hj)
theorem Sm.okk {T T' : TS} (h : Sm T T') {a m : Nat} (ha : a < 6) (hm : m < 6) : okT T' a m = okT T a m := by
  unfold okT; rw [h _ (by omega)]
def Vb (k : Nat) (T : TS) : Prop := ∀ m, m < k → T (96 + m) = -1 ∨ ∃ x, x < 6 ∧ T (96 + m) = nI x
theorem byT_none {T : TS} {m : Nat} : byT T m = none ↔ T (96 + m) = -1 := by unfold byT; split <;> simp_all
theorem byT_nI {T : TS} {m x : Nat} (hx : x < 6) (h : T (96 + m) = nI x) : byT T m = some x := by
  unfold byT
  rw [h, if_neg (nI_ne_m1 (by omega)), ix hx (by decide)]
theorem FndP.congr {k : Nat} {ok ok' : Nat → Nat → Prop} {b b' : Nat → Option Nat} {sn : Nat → Prop} {a : Nat} (h : FndP k ok b sn a) (hb : ∀ m, m < k → b' m = b m) (hok : ∀ x m, m < k → b m = some x → ok x m → ok' x m) : FndP k ok' b' sn a := by
  obtain ⟨h1, h2, h3⟩ := h
  refine ⟨fun m m' x hm hm' s1 s2 e1 e2 => ?_, fun m hm s1 e => ?_, fun m x hm e => ?_⟩
  · rw [hb m hm] at e1; rw [hb m' hm'] at e2; exact h1 m m' x hm hm' s1 s2 e1 e2
  · rw [hb m hm] at e; exact h2 m hm s1 e
  · rw [hb m hm] at e; exact hok x m hm e (h3 m x hm e)
theorem FndT.congr {k : Nat} {ok : Nat → Nat → Prop} {b c b' c' : Nat → Option Nat} {sn : Nat → Prop} {a : Nat} (h : FndT k ok b sn a b') (hb : ∀ m, m < k → c m = b m) (hb' : ∀ m, m < k → c' m = b' m) : FndT k ok c sn a c' := by
  obtain ⟨h1, h2, h3, h4⟩ := h
  refine ⟨fun m hm s1 => ?_, fun m m' x hm hm' s1 s2 e1 e2 => ?_, fun m x hm s1 e => ?_, ?_⟩
  · rw [hb m hm, hb' m hm]; exact h1 m hm s1
  · rw [hb' m hm] at e1; rw [hb' m' hm'] at e2; exact h2 m m' x hm hm' s1 s2 e1 e2
  · rw [hb' m hm] at e
    obtain ⟨g1, g2⟩ := h3 m x hm s1 e
    refine ⟨g1, ?_⟩
    rcases g2 with g2 | ⟨m1, w1, w2, w3⟩
    · exact Or.inl g2
    · exact Or.inr ⟨m1, w1, w2, by rw [hb m1 w1]; exact w3⟩
  · rw [su_congr (f := fun m => o1 (c' m)) (g := fun m => o1 (b' m)) fun m hm => by show o1 (c' m) = o1 (b' m); rw [hb' m hm], su_congr (f := fun m => o1 (c m)) (g := fun m => o1 (b m)) fun m hm => by show o1 (c m) = o1 (b m); rw [hb m hm]]
    exact h4
/-- how many are not seen -/
def cuT (k : Nat) (T : TS) : Int := su (fun m => if T (102 + m) = 0 then 1 else 0) k
theorem cuT_bd {k : Nat} {T : TS} : 0 ≤ cuT k T ∧ cuT k T ≤ k := by
  refine ⟨su_nonneg fun i _ => by split <;> decide, ?_⟩
  have h : cuT k T ≤ su (fun _ => 1) k := su_le fun i _ => by split <;> decide
  rw [su_one] at h; exact h
theorem nar1 : vp_nar .boolean 1 = 1 := by decide
set_option maxHeartbeats 1000000 in
theorem s_ffinds {n k : Nat} (hk : k ≤ 6) : ∀ (d : Nat) (T : TS) (a : Nat) (P : Int32 → TS → Prop), T 1 = nI k → a < 6 → Vb k T → FndP k (okP T) (byT T) (snT T) a → cuT k T < d →
    (∀ T', Sm T T' → Vb k T' → FndF k (okP T) (byT T) (snT T) a (byT T') (snT T') → cuT k T' ≤ cuT k T → P 0 T') → (∀ T', Sm T T' → Vb k T' → FndT k (okP T) (byT T) (snT T) a (byT T') → P 1 T') → F_ffinds d T (nI a) P
  | 0, T, a, P, _, _, _, _, hd, _, _ => by have := (cuT_bd (k := k) (T := T)).1; omega
  | d + 1, T, a, P, ht, ha, hV, hP, hd, h0, h1 => by
    unfold F_ffinds
    refine loop_i (σ := TS) (fun f i T1 => L_ffinds_3 (F_ffinds d) P (nI a) f T1 (nI i)) (fun i T1 => Sm T T1 ∧ Vb k T1 ∧ (∀ m, m < k → byT T1 m = byT T m) ∧ (∀ m, m < k → snT T m → snT T1 m) ∧ (∀ m, m < i → okP T a m → snT T1 m) ∧ (∀ m, m < k → snT T1 m → snT T m ∨ ∃ x, byT T m = some x ∧ ∀ m', m' < k → okP T x m' → snT T1 m') ∧ cuT k T1 ≤ cuT k T) k (fun f T1 hx => ?_) (fun f i T1 hi hx ih => ?_) NF 0 T (Nat.zero_le _) (by unfold NF; omega) ⟨Sm.rf, hV, fun _ _ => rfl, fun _ _ z => z, fun m h => absurd h (Nat.not_lt_zero _), fun m _ z => Or.inl z, Int.le_refl _⟩
    · obtain ⟨g1, g2, g3, g4, g5, g6, g7⟩ := hx
      unfold L_ffinds_3
      exact ⟨fun _ => h0 T1 g1 g2 ⟨g3, g4, g5, g6⟩ g7, fun q => absurd (((g1 1 (by omega)).trans ht) ▸ nI_le (Nat.le_refl k) (by omega)) q⟩
    · obtain ⟨g1, g2, g3, g4, g5, g6, g7⟩ := hx
      have ht1 : T1 1 = nI k := (g1 1 (by omega)).trans ht
      have hi6 : i < 6 := by omega
      unfold L_ffinds_3
      refine ⟨fun q => absurd q (ht1 ▸ nI_ge hi (by omega)), fun _ => ?_⟩
      rw [nI_1]
      refine s_tcanBe ha hi6 (fun e => ⟨rfl, fun _ => ih T1 ⟨g1, g2, g3, g4, fun m hm hok => ?_, g6, g7⟩, fun q => (q rfl).elim⟩) (fun e => ⟨rfl, fun q => absurd q (by decide), fun _ => ⟨vp_in_nI hi6 (by decide), ?_⟩⟩)
      · by_cases hmi : m = i
        · subst hmi
          rw [g1.okk ha hi6] at e
          rw [okP, e] at hok; cases hok
        · exact g5 m (by omega) hok
      · rw [ix hi6 (by decide)]
        have hok : okP T a i := by rw [g1.okk ha hi6] at e; exact e
        refine ⟨fun e0 => ⟨vp_in_nI hi6 (by decide), nm_i ⟨vp_in_nI hi6 (by decide), jn_i ?_⟩⟩, fun e0 => ih T1 ⟨g1, g2, g3, g4, fun m hm hok2 => ?_, g6, g7⟩⟩
        · rw [nar1]
          have hns : ¬ snT T i := fun z => g4 i hi z e0
          have b6 : ∀ m, m < 6 → upd T1 (102 + i) 1 (96 + m) = T1 (96 + m) := fun m hm => pk_un (by omega)
          have Sm6 : Sm T (upd T1 (102 + i) 1) := fun j hj => by rw [pk_un (by omega)]; exact g1 j hj
          have V6 : Vb k (upd T1 (102 + i) 1) := fun m hm => by rw [b6 m (by omega)]; exact g2 m hm
          have by6 : ∀ m, m < k → byT (upd T1 (102 + i) 1) m = byT T m := fun m hm => by
            rw [← g3 m hm]; unfold byT; rw [b6 m (by omega)]
          have sn6 : ∀ j, j < k → (snT (upd T1 (102 + i) 1) j ↔ snT T1 j ∨ j = i) := fun j hj => by
            unfold snT
            by_cases hji : j = i
            · subst hji; rw [pk_us]; exact ⟨fun _ => Or.inr rfl, fun _ => by decide⟩
            · rw [pk_un (by omega)]; exact ⟨fun z => Or.inl z, fun z => z.resolve_right hji⟩
          have okS : ∀ (T2 : TS) (x m : Nat), Sm T T2 → x < 6 → m < k → (okP T2 x m ↔ okP T x m) := fun T2 x m hS hx hm => by unfold okP; rw [hS.okk hx (by omega)]
          rw [b6 i hi6]
          -- the end of both ways
          have fin : ∀ T8 : TS, Sm T T8 → Vb k T8 → FndT k (okP T) (byT T) (snT T) a (udO (byT T8) i (some a)) → vp_in (nI i) 6 ∧ nm (upd T8 (96 + i) (nI a)) (fun T_9 => P 1 T_9) := fun T8 hS8 hV8 hT8 => by
            refine ⟨vp_in_nI hi6 (by decide), nm_i (h1 _ (fun j hj => by rw [pk_un (by omega)]; exact hS8 j hj) (fun m hm => ?_) (hT8.congr (fun _ _ => rfl) (fun m hm => ?_)))⟩
            · by_cases hmi : m = i
              · subst hmi; rw [pk_us]; exact Or.inr ⟨a, ha, rfl⟩
              · rw [pk_un (by omega)]; exact hV8 m hm
            · by_cases hmi : m = i
              · subst hmi; rw [udO_self]; exact byT_nI ha pk_us
              · rw [udO_ne hmi]; unfold byT; rw [pk_un (by omega)]
          refine ⟨fun eb => fin _ Sm6 V6 ((FndT.take hP hi hns hok (by rw [← g3 i hi]; exact byT_none.mpr eb)).congr (fun _ _ => rfl) (fun m hm => ?_)), fun eb => ?_⟩
          · by_cases hmi : m = i
            · subst hmi; rw [udO_self, udO_self]
            · rw [udO_ne hmi, udO_ne hmi]; exact by6 m hm
          · obtain ⟨x, hx6, hxe⟩ := (g2 i hi).resolve_left eb
            have hbx : byT T i = some x := by rw [← g3 i hi]; exact byT_nI hx6 hxe
            refine ⟨vp_in_nI hi6 (by decide), ?_⟩
            rw [hxe]
            have hsub : ∀ j, j < k → snT T j ∨ j = i → snT (upd T1 (102 + i) 1) j := fun j hj z => (sn6 j hj).mpr (z.elim (fun z => Or.inl (g4 j hj z)) Or.inr)
            have hVx : ∀ y m, m < k → byT T m = some y → y < 6 := fun y m hm e => by
              rcases hV m hm with z | ⟨w, w1, w2⟩
              · rw [byT_none.mpr z] at e; cases e
              · rw [byT_nI w1 w2] at e; cases e; exact w1
            have hPin : FndP k (okP (upd T1 (102 + i) 1)) (byT (upd T1 (102 + i) 1)) (snT (upd T1 (102 + i) 1)) x := (hP.inner hi hns hbx hsub).congr (fun m hm => by6 m hm) (fun y m hm e z => (okS _ y m Sm6 (hVx y m hm e) hm).mpr z)
            have hcu : cuT k (upd T1 (102 + i) 1) + 1 ≤ cuT k T := by
              have e1 : cuT k (upd T1 (102 + i) 1) = cuT k T1 - 1 := by
                unfold cuT
                rw [show (fun m => if upd T1 (102 + i) 1 (102 + m) = 0 then (1 : Int) else 0) = udI (fun m => if T1 (102 + m) = 0 then (1 : Int) else 0) i 0 from by
                  funext m
                  by_cases hmi : m = i
                  · subst hmi; rw [udI_self, pk_us]; rfl
                  · rw [udI_ne hmi, pk_un (by omega)]]
                rw [su_ud hi, if_pos e0]; omega
              omega
            refine s_ffinds (n := n) hk d _ x _ (by rw [pk_un (by omega)]; exact ht1) hx6 V6 hPin (by omega) (fun T' hS' hV' hF' hc' => ⟨fun _ => ih T' ?_, fun q => (q rfl).elim⟩) (fun T' hS' hV' hT' => ⟨fun q => absurd q (by decide), fun _ => ?_⟩)
            · obtain ⟨f1, f2, f3, f4⟩ := hF'
              have okx : ∀ m, m < k → okP T x m → snT T' m := fun m hm z => f3 m hm ((okS _ x m Sm6 hx6 hm).mpr z)
              have s1' : ∀ m, m < k → snT T1 m → snT T' m := fun m hm z => f2 m hm ((sn6 m hm).mpr (Or.inl z))
              refine ⟨Sm6.tr hS', hV', fun m hm => (f1 m hm).trans (by6 m hm), fun m hm z => s1' m hm (g4 m hm z), fun m hm hok2 => ?_, fun m hm z => ?_, by omega⟩
              · by_cases hmi : m = i
                · subst hmi; exact f2 m hi ((sn6 m hi).mpr (Or.inr rfl))
                · exact s1' m (by omega) (g5 m (by omega) hok2)
              · rcases f4 m hm z with z | ⟨y, y1, y2⟩
                · rcases (sn6 m hm).mp z with z | z
                  · rcases g6 m hm z with z | ⟨y, y1, y2⟩
                    · exact Or.inl z
                    · exact Or.inr ⟨y, y1, fun m' hm' o => s1' m' hm' (y2 m' hm' o)⟩
                  · subst z; exact Or.inr ⟨x, hbx, okx⟩
                · rw [by6 m hm] at y1
                  exact Or.inr ⟨y, y1, fun m' hm' o => y2 m' hm' ((okS _ y m' Sm6 (hVx y m hm y1) hm').mpr o)⟩
            · refine fin T' (Sm6.tr hS') hV' (FndT.push hP hi hns hok hbx hsub ?_)
              have hT2 := hT'.congr (c := byT T) (c' := byT T') (fun m hm => (by6 m hm).symm) (fun _ _ => rfl)
              obtain ⟨t1, t2, t3, t4⟩ := hT2
              refine ⟨t1, t2, fun m y hm s1 e2 => ?_, t4⟩
              obtain ⟨u1, u2⟩ := t3 m y hm s1 e2
              refine ⟨(okS _ y m Sm6 ?_ hm).mp u1, u2⟩
              rcases u2 with u2 | ⟨m1, w1, w2, w3⟩
              · omega
              · exact hVx y m1 w1 w3
        · by_cases hmi : m = i
          · subst hmi; exact e0
          · exact g5 m (by omega) hok2
