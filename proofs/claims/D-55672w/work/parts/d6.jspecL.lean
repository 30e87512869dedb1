/-! ArrayList -/
set_option maxRecDepth 100000
def gEx (G : GT) (h : AH) (a v : Nat) : Prop := ∃ Cn : String, Cond.castable Cn "java/lang/Object" ∈ lw_tbl ∧ ((∃ (ci : Nat) (fs : List Value) (T : u_T) (N : Nat), h v = some (.inr (ci, fs)) ∧ vwCl[ci]? = some (Cn, T, N) ∧ v ≠ a) ∨ ∀ U : State, GW G U → va_O Cn v (fun q => G.1 ≤ q) U U.heap)
theorem gEx.el {G : GT} {h : AH} {a v : Nat} (x : gEx G h a v) : gEl G h v := by
  obtain ⟨Cn, h1, ⟨ci, fs, T, N, h2, h3, -⟩ | h2⟩ := x
  · exact ⟨Cn, h1, Or.inl ⟨ci, fs, T, N, h2, h3⟩⟩
  · exact ⟨Cn, h1, Or.inr h2⟩
theorem gEx.keep {G : GT} {h h' : AH} {a v : Nat} {W : Nat → Prop} (x : gEx G h a v) (kp : Keep W h h') (hW : ∀ y, W y → y = a ∨ ∀ ci fs, h y ≠ some (.inr (ci, fs))) : gEx G h' a v := by
  obtain ⟨Cn, h1, ⟨ci, fs, T, N, h2, h3, h4⟩ | h2⟩ := x
  · exact ⟨Cn, h1, Or.inl ⟨ci, fs, T, N, kp v _ h2 (fun w => (hW v w).elim h4 (fun z => z _ _ h2)), h3, h4⟩⟩
  · exact ⟨Cn, h1, Or.inr h2⟩
/-- a list at a, its row at e with room for M -/
def ALs (G : GT) (h : AH) (a e M n : Nat) (q : Nat → Nat) : Prop := (∃ md : Int32, h a = some (.inr (12, [.int md, .ref e, .int (nI n)]))) ∧ (∀ i, i < n → gEx G h a (q i)) ∧
  ((n = 0 ∧ M = 0 ∧ StV G "java/util/ArrayList" "DEFAULTCAPACITY_EMPTY_ELEMENTDATA" "[Ljava/lang/Object;" (.ref e) ∧ LoT G (.object "java/lang/Object") e 0 (fun _ => .null)) ∨
   (∃ f : Nat → Option Nat, h e = some (.inl (G.2.2.1 7, M, RF f)) ∧ n ≤ M ∧ 10 ≤ M ∧ M ≤ 200000 ∧ ∀ i, i < n → f i = some (q i)))
def lcap (n M : Nat) : Nat := if n < M then M else if M = 0 then 10 else M + M / 2
section SL
variable {G : GT} {h : AH} {c s a e M n : Nat} {q : Nat → Nat}
theorem s_newLength2 {P : Int32 → AH → Prop} {a x y : Nat} (hm : a + max x y < 2147483639) (ha : 0 < a + max x y) (hP : P (nI (a + max x y)) h) : F_gJ21_newLength G (h, c, s) (nI a) (nI x) (nI y) P := by
  have e : nI a + (if nI x < nI y then nI y else nI x) = nI (a + max x y) := by
    by_cases q : x < y
    · rw [if_pos (nI_lt q (by omega)), nI_add, show max x y = y by omega]
    · rw [if_neg (nI_nlt (by omega) (by omega)), nI_add, show max x y = x by omega]
  unfold F_gJ21_newLength
  refine jn_i (br_f ?_ (br_f ?_ ?_))
  · rw [e]; exact nI_nle ha (by omega)
  · rw [e]; exact nI_nlt (a := 2147483639) (b := a + max x y) (by omega) (by omega)
  · rw [e]; exact hP
theorem s_lsInit (hB : BaseF G) {P : AH → Prop} {q : Nat → Nat} {x y z : Value} (ha : h a = some (.inr (12, [x, y, .int 0]))) (hP : ∀ (h' : AH) (e : Nat), ALs G h' a e 0 0 q → Keep (fun y => y = a) h h' → P h') : F_gJ18_init G (h, c, s) a P := by
  obtain ⟨-, -, -, -, -, -, -, -, ⟨d, b1, b2⟩, -⟩ := hB
  refine ⟨0, 0, Nat.zero_le _, Nat.zero_le _, 0, 0, Nat.zero_le _, Nat.zero_le _, nm_i ⟨_, ha, Nat.lt_of_sub_eq_succ rfl, nm_i (nm_i ⟨d, b1, _, hup_self, Nat.lt_of_sub_eq_succ rfl, nm_i ?_⟩)⟩⟩
  dsimp only
  rw [hup_hup]
  exact hP _ d ⟨⟨0, hup_self⟩, fun i hi => absurd hi (Nat.not_lt_zero i), Or.inl ⟨rfl, rfl, b1, b2⟩⟩ (Keep.up rfl)
theorem s_lsSize {P : Int32 → AH → Prop} (x : ALs G h a e M n q) (hP : P (nI n) h) : F_gJ18_size G (h, c, s) a P := by
  obtain ⟨⟨md, x1⟩, -⟩ := x
  exact ⟨nI n, Or.inl ⟨_, x1, rfl⟩, hP⟩
theorem s_lsGet {P : Nat → AH → Prop} {i : Nat} (x : ALs G h a e M n q) (hi : i < n) (hP : P (q i) h) : F_gJ18_get G (h, c, s) a (nI i) P := by
  obtain ⟨⟨md, x1⟩, x2, ⟨x3, -⟩ | ⟨f, x3, x4, x5, x6, x7⟩⟩ := x
  · omega
  · refine ⟨nI n, Or.inl ⟨_, x1, rfl⟩, 0, 0, Nat.zero_le _, Nat.zero_le _, s_ocheckIndex hi (by omega) (nm_i ⟨Or.inl ⟨_, x1⟩, 0, 0, Nat.zero_le _, Nat.zero_le _, e, Or.inl ⟨_, x1, rfl⟩, M, f, q i, Or.inl ⟨7, "java/lang/Object", rfl, x3⟩, vp_in_nI (by omega) (by omega), by rw [nI_clamp (by omega)]; exact x7 i hi, nm_i hP⟩)⟩
/-- the end of add: the element is put, the size goes up -/
theorem s_lsPut {P : AH → Prop} {v : Nat} {f : Nat → Option Nat} {md : Int32} (x1 : h a = some (.inr (12, [.int md, .ref e, .int (nI n)]))) (x2 : ∀ i, i < n → gEx G h a (q i)) (hv : gEx G h a v) (x3 : h e = some (.inl (G.2.2.1 7, M, RF f))) (hn : n < M) (hM : 10 ≤ M ∧ M ≤ 200000) (x7 : ∀ i, i < n → f i = some (q i))
    (hP : ∀ h' : AH, ALs G h' a e M (n + 1) (fun i => if i < n then q i else v) → Keep (fun y => y = a ∨ y = e) h h' → P h') : ∃ (n_16 : Nat) (f_17 : Nat → Option Nat), h e = some (.inl (G.2.2.1 7, n_16, .inr (.inr (.inr (.inr f_17))))) ∧ vp_in (nI n) n_16 ∧ gEl G h v ∧ (nm (α := GZ) (hup h e (.inl (G.2.2.1 7, n_16, .inr (.inr (.inr (.inr (va_up f_17 (Int32.toNatClampNeg (nI n)) (some v))))))), c, s) (fun S_18 => ∃ fs_19 : List Value, S_18.1 a = some (.inr (12, fs_19)) ∧ 2 < fs_19.length ∧ (nm (α := GZ) (hup S_18.1 a (.inr (12, List.set fs_19 2 (.int (nI n + 1)))), S_18.2.1, S_18.2.2) (fun S_20 => P S_20.1)))) := by
  have hae : a ≠ e := fun z => by rw [z, x3] at x1; cases x1
  refine ⟨M, f, x3, vp_in_nI hn (by omega), hv.el, nm_i ⟨_, (hup_ne hae).trans x1, Nat.lt_of_sub_eq_succ rfl, nm_i ?_⟩⟩
  have kp : Keep (fun y => y = a ∨ y = e) h (hup (hup h e (.inl (G.2.2.1 7, M, .inr (.inr (.inr (.inr (va_up f (Int32.toNatClampNeg (nI n)) (some v)))))))) a (.inr (12, List.set [.int md, .ref e, .int (nI n)] 2 (.int (nI n + 1))))) := (Keep.up (Or.inr rfl)).put (Or.inl (Or.inl rfl))
  have hW : ∀ y, (y = a ∨ y = e) → y = a ∨ ∀ ci fs, h y ≠ some (.inr (ci, fs)) := fun y hy => hy.imp id (fun z ci fs w => by rw [z, x3] at w; cases w)
  refine hP _ ⟨⟨md, hup_self.trans (by rw [nI_1]; rfl)⟩, fun i hi => ?_, Or.inr ⟨_, (hup_ne hae.symm).trans hup_self, by omega, hM.1, hM.2, fun i hi => ?_⟩⟩ kp
  · dsimp only
    by_cases hin : i < n
    · rw [if_pos hin]; exact (x2 i hin).keep kp hW
    · rw [if_neg hin]; exact hv.keep kp hW
  · rw [nI_clamp (by omega)]
    dsimp only
    by_cases hin : i < n
    · rw [if_pos hin, vu_n (by omega)]; exact x7 i hin
    · rw [if_neg hin, show i = n by omega]; exact vu_s
theorem s_copyOfO (hB : BaseF G) {P : Nat → AH → Prop} {f : Nat → Option Nat} (he : h e = some (.inl (G.2.2.1 7, M, RF f))) (hel : ∀ i, i < M → ∀ y, f i = some y → gEx G h a y) {N : Nat} (hMN : M < N) (hN : N ≤ 300000) (hc : 1 ≤ c) (hs : N ≤ s) (hP : ∀ e', h e' = none → G.1 ≤ e' → P e' (hup h e' (.inl (G.2.2.1 7, N, RF (va_cpy f (fun _ => none) 0 0 M))))) : F_gJ12_copyOf G (h, c, s) e (nI N) P := by
  obtain ⟨-, -, -, -, -, -, -, -, -, -, ⟨mi, b⟩⟩ := hB
  refine ⟨M, f, mi, b, he, c, s, Nat.le_refl _, Nat.le_refl _, mi, b, jn_i (br_t rfl ⟨nI_pos (by omega), hc, by rw [nI_clamp (by omega)]; exact hs, by rw [nI_clamp (by omega)]; omega, fun e' h1 h2 => nm_i ?_⟩)⟩
  have h1 : h e' = none := h1
  have hne : e ≠ e' := fun z => by rw [z, h1] at he; cases he
  have he2 : (hup h e' (.inl (G.2.2.1 7, (nI N).toNatClampNeg, .inr (.inr (.inr (.inr (fun _ => none))))))) e = some (.inl (G.2.2.1 7, M, RF f)) := (hup_ne hne).trans he
  have ei : (if nI N < Int32.ofNat M then nI N else Int32.ofNat M) = nI M := if_neg (nI_nlt (by omega) (by omega))
  refine ⟨M, Or.inl ⟨7, .object "java/lang/Object", _, rfl, he2⟩, M, N, f, fun _ => none, he2, by rw [nI_clamp (by omega)]; exact hup_self, by decide, by decide, ?_⟩
  rw [ei, nI_clamp (n := M) (by omega), sb_cl0, nI_clamp (n := N) (by omega)]
  refine ⟨nI_pos (by omega), by omega, by omega, fun i hi y hy => ?_, nm_i (nm_i ?_)⟩
  · rw [Nat.zero_add] at hy
    exact ((hel i hi y hy).keep (W := fun _ => False) (Keep.new h1) (fun _ z => z.elim)).el
  · dsimp only
    rw [hup_hup]
    exact hP e' h1 h2
set_option maxHeartbeats 1000000 in
theorem s_lsAdd (hB : BaseF G) {P : Int32 → AH → Prop} {v : Nat} (x : ALs G h a e M n q) (hv : gEx G h a v) (hM : M ≤ 130000) (hc : n < M ∨ (1 ≤ c ∧ lcap n M ≤ s))
    (hP : ∀ (h' : AH) (e' : Nat), ALs G h' a e' (lcap n M) (n + 1) (fun i => if i < n then q i else v) → Keep (fun y => y = a ∨ y = e) h h' → (e' = e ∨ h e' = none) → P 1 h') : F_gJ18_add G (h, c, s) a v P := by
  obtain ⟨⟨md, x1⟩, x2, x3⟩ := x
  -- the count of changes goes up
  refine ⟨md, Or.inl ⟨_, x1, rfl⟩, _, x1, Nat.lt_of_sub_eq_succ rfl, nm_i ?_⟩
  generalize hh1 : hup h a (.inr (12, List.set [.int md, .ref e, .int (nI n)] 0 (.int (md + 1)))) = h1
  have y1 : h1 a = some (.inr (12, [.int (md + 1), .ref e, .int (nI n)])) := by rw [← hh1]; exact hup_self
  have kp1 : Keep (fun y => y = a) h h1 := by rw [← hh1]; exact Keep.up rfl
  have hWa : ∀ y, y = a → y = a ∨ ∀ ci fs, h y ≠ some (.inr (ci, fs)) := fun y hy => Or.inl hy
  have y2 : ∀ i, i < n → gEx G h1 a (q i) := fun i hi => (x2 i hi).keep kp1 hWa
  have hv1 : gEx G h1 a v := hv.keep kp1 hWa
  have hna : ∀ e' : Nat, h1 e' = none → h e' = none := fun e' z => by
    cases w : h e' with
    | none => rfl
    | some cc =>
      by_cases ea : e' = a
      · rw [ea, y1] at z; cases z
      · rw [kp1 e' _ w ea] at z; cases z
  refine ⟨e, Or.inl ⟨_, y1, rfl⟩, nI n, Or.inl ⟨_, y1, rfl⟩, Or.inl ⟨_, y1⟩, c, s, Nat.le_refl _, Nat.le_refl _, ?_⟩
  rcases x3 with ⟨rfl, rfl, x4, x5⟩ | ⟨f, x4, x5, x6, x6', x7⟩
  · -- the first element
    have hc : 1 ≤ c ∧ 10 ≤ s := hc.resolve_left (Nat.lt_irrefl 0)
    refine ⟨0, Or.inr ⟨_, _, x5⟩, jn_i (br_t rfl ⟨Or.inl ⟨_, y1⟩, c, s, Nat.le_refl _, Nat.le_refl _, nI 0, Or.inl ⟨_, y1, rfl⟩, Or.inl ⟨_, y1⟩, c, s, Nat.le_refl _, Nat.le_refl _, e, Or.inl ⟨_, y1, rfl⟩, 0, Or.inr ⟨_, _, x5⟩, jn_i (br_f (by decide) ⟨e, Or.inl ⟨_, y1, rfl⟩, e, x4, br_t rfl ⟨by decide, hc.1, ?_, by decide, fun e' g1 g2 => nm_i ?_⟩⟩)⟩)⟩
    · show 10 ≤ s; exact hc.2
    have g1 : h1 e' = none := g1
    have hae : a ≠ e' := fun z => by rw [z, g1] at y1; cases y1
    refine ⟨_, (hup_ne hae).trans y1, Nat.lt_of_sub_eq_succ rfl, nm_i (nm_i (nm_i ?_))⟩
    refine s_lsPut (n := 0) (M := 10) (e := e') (md := md + 1) (q := q) hup_self (fun i hi => absurd hi (Nat.not_lt_zero i)) ?_ ((hup_ne hae.symm).trans hup_self) (by omega) ⟨by omega, by omega⟩ (fun i hi => absurd hi (Nat.not_lt_zero i)) (fun h' l1 l2 => nm_i ?_)
    · refine hv1.keep (W := fun y => y = a) ((Keep.new g1).put (Or.inl rfl)) (fun y hy => Or.inl hy)
    · refine hP h' e' l1 ?_ (Or.inr (hna e' g1))
      intro z cz hz hw
      have hze : z ≠ e' := fun w => by rw [w, hna e' g1] at hz; cases hz
      have hza : z ≠ a := fun w => hw (Or.inl w)
      exact l2 z cz (((hup_ne hza).trans (hup_ne hze)).trans (kp1 z cz hz hza)) (fun w => w.elim hza hze)
  · have hae0 : a ≠ e := fun z => by rw [z, x4] at x1; cases x1
    have y4 : h1 e = some (.inl (G.2.2.1 7, M, RF f)) := kp1 e _ x4 hae0.symm
    refine ⟨M, Or.inl ⟨7, .object "java/lang/Object", _, rfl, y4⟩, jn_i ?_⟩
    by_cases hnM : n < M
    · refine br_f (fun z => by have := (nI_eq (by omega) (by omega)).mp (show nI n = nI M from z); omega) ?_
      refine s_lsPut y1 y2 hv1 y4 hnM ⟨x6, x6'⟩ x7 (fun h' l1 l2 => nm_i ?_)
      refine hP h' e ?_ ((kp1.mono (fun _ _ _ z => Or.inl z)).trans l2) (Or.inl rfl)
      rw [lcap, if_pos hnM]; exact l1
    · have hnM' : n = M := by omega
      subst hnM'
      have hcap : lcap n n = n + n / 2 := by rw [lcap, if_neg hnM, if_neg (by omega)]
      have hc : 1 ≤ c ∧ n + n / 2 ≤ s := by rw [← hcap]; exact hc.resolve_left hnM
      refine br_t rfl ⟨Or.inl ⟨_, y1⟩, c, s, Nat.le_refl _, Nat.le_refl _, nI n, Or.inl ⟨_, y1, rfl⟩, Or.inl ⟨_, y1⟩, c, s, Nat.le_refl _, Nat.le_refl _, e, Or.inl ⟨_, y1, rfl⟩, n, Or.inl ⟨7, .object "java/lang/Object", _, rfl, y4⟩, jn_i (br_t (nI_lt (a := 0) (b := n) (by omega) (by omega)) ⟨0, 0, Nat.zero_le _, Nat.zero_le _, ?_⟩)⟩
      have e1 : nI n + 1 - Int32.ofNat n = nI 1 := by
        rw [nI_1, show Int32.ofNat n = nI n from rfl, pk_sub (by omega)]; congr 1; omega
      rw [e1, show Int32.ofNat n >>> ((1 : Int32) &&& 31) = nI (n / 2) from g_shr1 (by omega)]
      refine s_newLength2 (a := n) (by omega) (by omega) (nm_i ⟨e, Or.inl ⟨_, y1, rfl⟩, c, s, ?_, ?_, ?_⟩)
      · show c ≤ c - 0; omega
      · show s ≤ s - 0; omega
      rw [show n + max 1 (n / 2) = n + n / 2 by omega]
      refine s_copyOfO (a := a) hB y4 (fun i hi y hy => ?_) (by omega) (by omega) hc.1 hc.2 (fun e' g1 g2 => nm_i ?_)
      · have := x7 i hi
        rw [hy] at this; cases this
        exact y2 i hi
      have g1 : h1 e' = none := g1
      have hae : a ≠ e' := fun z => by rw [z, g1] at y1; cases y1
      refine ⟨_, (hup_ne hae).trans y1, Nat.lt_of_sub_eq_succ rfl, nm_i (nm_i (nm_i ?_))⟩
      have kp2 : Keep (fun y => y = a) h1 (hup (hup h1 e' (.inl (G.2.2.1 7, n + n / 2, RF (va_cpy f (fun _ => none) 0 0 n)))) a (.inr (12, List.set [.int (md + 1), .ref e, .int (nI n)] 1 (.ref e')))) := (Keep.new g1).put (Or.inl rfl)
      refine s_lsPut (M := n + n / 2) (e := e') (md := md + 1) (q := q) hup_self (fun i hi => (y2 i hi).keep kp2 (fun y hy => Or.inl hy)) (hv1.keep kp2 (fun y hy => Or.inl hy)) ((hup_ne hae.symm).trans hup_self) (by omega) ⟨by omega, by omega⟩ (fun i hi => ?_) (fun h' l1 l2 => nm_i ?_)
      · show (if 0 ≤ i ∧ i < 0 + n then f (0 + (i - 0)) else none) = _
        rw [if_pos ⟨Nat.zero_le _, by omega⟩, show 0 + (i - 0) = i by omega]; exact x7 i hi
      · refine hP h' e' (by rw [hcap]; exact l1) ?_ (Or.inr (hna e' g1))
        intro z cz hz hw
        have hze : z ≠ e' := fun w => by rw [w, hna e' g1] at hz; cases hz
        have hza : z ≠ a := fun w => hw (Or.inl w)
        exact l2 z cz (((hup_ne hza).trans (hup_ne hze)).trans (kp1 z cz hz hza)) (fun w => w.elim hza hze)
end SL
