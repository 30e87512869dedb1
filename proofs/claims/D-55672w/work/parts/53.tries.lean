/-! Trial.tries: all pairings, each told to the lambda of Known (turned by hand; recursion on the depth) -/
set_option maxRecDepth 100000
theorem TH_id {dA : Nat → ClassId} {h : AH} {ad : Nat → Nat} {T : TS} (hg : Tg ad) (ho : ∀ k, k < 18 → h (ad k) = some (tcell dA ad T k)) : TH dA h ad T = h := by
  funext b
  rcases TH_cases ad b with ⟨k, hk, rfl⟩ | hn
  · rw [TH_at hg hk, ho k hk]
  · rw [TH_out hn]
def yWith : MethodName := ({ cls := "MasterPrices$WithPairing", name := "with", desc := "([II)V" } : Jvm.MethodName)
def L_tries (T : TS) (rec : TS → Int32 → Int32 → Int32 → (TS → Prop) → Prop) (P : TS → Prop) (a u c : Int32) : Nat → TS → Int32 → Prop
  | 0, _, _ => False
  | n + 1, K, z => (T 1 ≤ z → P K) ∧ (¬ T 1 ≤ z → ((u >>> (z &&& 31)) &&& 1 = 0 → F_tcanBe T a z (fun r S => S = T ∧ ((r = 0 → L_tries T rec P a u c n K (z + 1)) ∧ (¬ r = 0 → vp_in a 6 ∧ nm (upd K (82 + a.toNatClampNeg) z) (fun K1 => vp_in a 6 ∧ vp_in z 6 ∧ rec K1 (a + 1) (u ||| (1 <<< (z &&& 31))) (c + T (6 + 6 * a.toNatClampNeg + z.toNatClampNeg)) (fun K2 => L_tries T rec P a u c n K2 (z + 1))))))) ∧ (¬ (u >>> (z &&& 31)) &&& 1 = 0 → L_tries T rec P a u c n K (z + 1)))
def F_tries (T : TS) : Nat → TS → Int32 → Int32 → Int32 → (TS → Prop) → Prop
  | 0, _, _, _, _, _ => False
  | d + 1, K, a, u, c, P => (a = T 0 → F_klambda_new_0 K c P) ∧ (¬ a = T 0 → L_tries T (F_tries T d) P a u c NF K 0)
theorem cal_tries : CalV yX9_tries RX9 cX9_tries 5 none 3 := ⟨q709, q710, q120, q711, by decide +kernel⟩
def TrW (G : GT) (h : AH) (kd ad : Nat → Nat) (T : TS) (cK : ClassId) (tr q : Nat) : Prop :=
  Tg ad ∧ Kg kd ∧ h tr = some (.inr (4, [.ref (ad 0), .ref (kd 4), .ref q])) ∧ h q = some (.inl (cK, 1, .inr (.inr (.inr (.inr fun _ => some (kd 0)))))) ∧ (∀ k, k < 18 → h (ad k) = some (tcell G.2.2.1 ad T k)) ∧ (∀ k, k < 5 → kd k ≠ tr ∧ kd k ≠ q ∧ ∀ j, j < 18 → kd k ≠ ad j)
section TR
variable {G : GT} {p : Program} {l : Launch} {e : Env} {R : Room} {s : State} {m : MethodId} {args : Array Value} {below : List Frame} {meth : Method} {c : Code} {nL : Nat} {Q : State → Prop} {bc bs : Nat} {h : AH} {pc : Nat} {L : List (Nat × Value)} {rest : List Value} {cc : ByteArray} {own : String} {ret : Option FieldType} {kd ad : Nat → Nat} {T K : TS} {cK : ClassId} {tr q : Nat}
theorem TrW.atr (w : TrW G h kd ad T cK tr q) : KH G.2.2.1 h kd K tr = some (.inr (4, [.ref (ad 0), .ref (kd 4), .ref q])) := by
  rw [KH_out (fun k hk => (w.2.2.2.2.2 k hk).1)]; exact w.2.2.1
theorem TrW.aq (w : TrW G h kd ad T cK tr q) : KH G.2.2.1 h kd K q = some (.inl (cK, 1, .inr (.inr (.inr (.inr fun _ => some (kd 0)))))) := by
  rw [KH_out (fun k hk => (w.2.2.2.2.2 k hk).2.1)]; exact w.2.2.2.1
theorem TrW.t (w : TrW G h kd ad T cK tr q) : ∀ k, k < 18 → KH G.2.2.1 h kd K (ad k) = some (tcell G.2.2.1 ad T k) := fun k hk => by
  rw [KH_out (fun j hj => (w.2.2.2.2.2 j hj).2.2 k hk)]; exact w.2.2.2.2.1 k hk
theorem TrW.id (w : TrW G h kd ad T cK tr q) : TH G.2.2.1 (KH G.2.2.1 h kd K) ad T = KH G.2.2.1 h kd K := TH_id w.1 w.t
theorem tr_town (C : Cx G p s m args meth c cX9_tries RX9 5 none) (w : TrW G h kd ad T cK tr q) (hdg : decode cX9_tries pc = .ok (.getfield 15, 3)) (kk : J G p l e R s m args below meth c 5 Q bc bs (KH G.2.2.1 h kd K) (pc + 3) L (.ref (ad 0) :: rest)) : J G p l e R s m args below meth c 5 Q bc bs (KH G.2.2.1 h kd K) pc L (.ref tr :: rest) := j_get C w.atr rfl in_X9 0 (by decide) q698 rfl rfl hdg kk
theorem tr_row (C : Cx G p s m args meth c cX9_tries RX9 5 none) (w : TrW G h kd ad T cK tr q) (hdg : decode cX9_tries pc = .ok (.getfield 9, 3)) (kk : J G p l e R s m args below meth c 5 Q bc bs (KH G.2.2.1 h kd K) (pc + 3) L (.ref (kd 4) :: rest)) : J G p l e R s m args below meth c 5 Q bc bs (KH G.2.2.1 h kd K) pc L (.ref tr :: rest) := j_get C w.atr rfl in_X9 1 (by decide) q699 rfl rfl hdg kk
set_option maxHeartbeats 4000000 in
theorem W_tries (C : Cx G p s m args meth c cX9_tries RX9 5 none) (hG : GOK G) (hT : TabF G) (hm : FreeG G) (w : TrW G h kd ad T cK tr q) {d : Nat} {rec : TS → Int32 → Int32 → Int32 → (TS → Prop) → Prop} (hrec : ∀ (K0 : TS) (a u c : Int32) (P0 : TS → Prop), rec K0 a u c P0 → KMv G l yX9_tries cX9_tries 5 (4 + d) (300 + 24 * d) [.ref tr, .int a, .int u, .int c] h kd K0 P0) {P : TS → Prop} {a u co : Int32}
    (hQ : Q = MQ below (SQ G (fun v h' => ∃ (S' : TS), v = none ∧ h' = (KH G.2.2.1 h kd S') ∧ P S')) args s 0 0 (fun q => G.1 ≤ q)) :
    ∀ (n : Nat) (K : TS) (z : Int32), L_tries T rec P a u co n K z → J G p l e ({ frames := 4 + (d + 1), cells := 0, slots := 0, locals := 300 + 24 * (d + 1) } : Room) s m args below meth c 5 Q 0 0 (KH G.2.2.1 h kd K) 29 [(0, .ref tr), (1, .int a), (2, .int u), (3, .int co), (4, .int z)] [] := by
  intro n
  induction n with
  | zero => intro K z hF; exact hF.elim
  | succ n ih =>
    intro K z hF
    unfold L_tries at hF
    have hkg := w.2.1
    refine j_iload C dX9_tries_29 4 rfl ?_
    refine j_aload_n C dX9_tries_31 rfl 0 rfl ?_
    refine tr_town C w dX9_tries_32 ?_
    refine j_getN C (w.t 0 (by decide)) rfl in_X2 6 (by decide) (C.tab hT q169 rfl) rfl rfl dX9_tries_35 ?_
    refine j_icmp_ge (tgt := 104) C dX9_tries_38 (by decide) (fun hc => ?_) (fun hc => ?_)
    · rw [hQ]
      exact j_vret C ⟨_, rfl, rfl, hF.1 hc⟩ dX9_tries_104
    · replace hF := hF.2 hc
      have next : ∀ K2 : TS, L_tries T rec P a u co n K2 (z + 1) → J G p l e ({ frames := 4 + (d + 1), cells := 0, slots := 0, locals := 300 + 24 * (d + 1) } : Room) s m args below meth c 5 Q 0 0 (KH G.2.2.1 h kd K2) 98 [(0, .ref tr), (1, .int a), (2, .int u), (3, .int co), (4, .int z)] [] := by
        intro K2 hF
        refine j_iinc (q := 4) (v := z + 1) (L2 := [(4, .int (z + 1)), (0, .ref tr), (1, .int a), (2, .int u), (3, .int co)]) C dX9_tries_98 rfl rfl (by decide) rfl ?_
        refine j_goto (tgt := 29) C dX9_tries_101 (by decide) ?_
        exact J.locals [1, 2, 3, 4, 0] (ih _ _ hF) rfl
      refine j_iload_n C dX9_tries_41 rfl 2 rfl ?_
      refine j_iload C dX9_tries_42 4 rfl ?_
      refine j_ishr C dX9_tries_44 ?_
      refine j_iconst (v := 1) C dX9_tries_45 rfl ?_
      refine j_iand C dX9_tries_46 ?_
      refine j_if_ne (tgt := 98) C dX9_tries_47 (by decide) (fun hb => ?_) (fun hb => ?_)
      · exact next K (hF.2 hb)
      · replace hF := hF.1 hb
        refine j_aload_n C dX9_tries_50 rfl 0 rfl ?_
        refine tr_town C w dX9_tries_51 ?_
        refine j_iload_n C dX9_tries_54 rfl 1 rfl ?_
        refine j_iload C dX9_tries_55 4 rfl ?_
        refine J.heap ?_ w.id.symm
        refine j_callV C (As := [.int a, .int z]) (rest := []) (M_tcanBe G l hG (KH G.2.2.1 h kd K) ad w.1 T a z _ hF) q716 cal_tcanBe (TH_at w.1 (k := 0) (by decide)) rfl rfl rfl (Nat.le_of_ble_eq_true rfl) ⟨by dsimp only; omega, by dsimp only; omega⟩ (Nat.zero_le _) (Nat.zero_le _) dX9_tries_57 (fun v h' hv => ?_)
        obtain ⟨r, S, rfl, rfl, hST, hF⟩ := hv
        rw [hST]
        refine J.heap ?_ w.id
        refine j_if_eq (tgt := 98) C dX9_tries_60 (by decide) (fun hr => ?_) (fun hr => ?_)
        · exact next K (hF.1 hr)
        · obtain ⟨hia, hF⟩ := hF.2 hr
          obtain ⟨K1, e1, hia2, hiz, hF⟩ := nm_intro hF
          refine j_aload_n C dX9_tries_63 rfl 0 rfl ?_
          refine tr_row C w dX9_tries_64 ?_
          refine j_iload_n C dX9_tries_67 rfl 1 rfl ?_
          refine j_iload C dX9_tries_68 4 rfl ?_
          refine jkS4 C hkg hm hia dX9_tries_70 ?_
          refine k_J e1 ?_
          refine j_aload_n C dX9_tries_71 rfl 0 rfl ?_
          refine j_iload_n C dX9_tries_72 rfl 1 rfl ?_
          refine j_iconst (v := 1) C dX9_tries_73 rfl ?_
          refine j_iadd C dX9_tries_74 ?_
          refine j_iload_n C dX9_tries_75 rfl 2 rfl ?_
          refine j_iconst (v := 1) C dX9_tries_76 rfl ?_
          refine j_iload C dX9_tries_77 4 rfl ?_
          refine j_ishl C dX9_tries_79 ?_
          refine j_ior C dX9_tries_80 ?_
          refine j_iload_n C dX9_tries_81 rfl 3 rfl ?_
          refine j_aload_n C dX9_tries_82 rfl 0 rfl ?_
          refine tr_town C w dX9_tries_83 ?_
          refine j_getN C (w.t 0 (by decide)) rfl in_X2 0 (by decide) (C.tab hT q154 rfl) rfl rfl dX9_tries_86 ?_
          refine j_iload_n C dX9_tries_89 rfl 1 rfl ?_
          refine j_aald (di := 6) C (w.t 1 (by decide)) rfl rfl hia2 dX9_tries_90 ?_
          refine j_iload C dX9_tries_91 4 rfl ?_
          have hr6 := in_lt6 hia2
          refine j_iald C (f := cut6 fun j => T (6 + 6 * a.toNatClampNeg + j)) ((w.t (6 + a.toNatClampNeg) (by omega)).trans (by rw [tcell_c])) hiz dX9_tries_93 ?_
          rw [cut6_at (in_lt6 hiz)]
          refine j_iadd C dX9_tries_94 ?_
          refine j_callV C (As := [.int (a + 1), .int (u ||| (1 <<< (z &&& 31))), .int (co + T (6 + 6 * a.toNatClampNeg + z.toNatClampNeg))]) (rest := []) (hrec K1 _ _ _ _ hF) q717 cal_tries w.atr rfl rfl rfl (Nat.le_of_ble_eq_true rfl) ⟨by dsimp only; omega, by dsimp only; omega⟩ (Nat.zero_le _) (Nat.zero_le _) dX9_tries_95 (fun v h' hv => ?_)
          obtain ⟨K2, rfl, rfl, hF⟩ := hv
          exact next K2 hF
set_option maxHeartbeats 4000000 in
theorem M_tries (G : GT) (l : Launch) (hG : GOK G) (hT : TabF G) (hm : FreeG G) (cK : ClassId) (hLL : ∀ U : State, G.2.2.2.1 U → LamV lamX6 78 34 lamS6 cK U) (h : AH) (kd ad : Nat → Nat) (T : TS) (tr q : Nat) (w : TrW G h kd ad T cK tr q) : ∀ (d : Nat) (K : TS) (a u co : Int32) (P : TS → Prop), F_tries T d K a u co P → KMv G l yX9_tries cX9_tries 5 (4 + d) (300 + 24 * d) [.ref tr, .int a, .int u, .int co] h kd K P := by
  intro d
  induction d with
  | zero => intro K a u co P hF; exact hF.elim
  | succ d ihd =>
    intro K a u co P hF
    refine MT.mk (own := RX9) (by decide) rfl hG (Nat.le_of_ble_eq_true rfl) ?_
    intro p e s m below meth c args Q hargs hQ C _
    refine J.loca (L2 := [(0, .ref tr), (1, .int a), (2, .int u), (3, .int co)]) rfl ?_
    unfold F_tries at hF
    refine j_iload_n C dX9_tries_0 rfl 1 rfl ?_
    refine j_aload_n C dX9_tries_1 rfl 0 rfl ?_
    refine tr_town C w dX9_tries_2 ?_
    refine j_getN C (w.t 0 (by decide)) rfl in_X2 5 (by decide) (C.tab hT q166 rfl) rfl rfl dX9_tries_5 ?_
    refine j_icmp_ne (tgt := 26) C dX9_tries_8 (by decide) (fun hc => ?_) (fun hc => ?_)
    · replace hF := hF.2 hc
      refine j_iconst (v := 0) C dX9_tries_26 rfl ?_
      refine j_istore (L2 := [(4, .int 0), (0, .ref tr), (1, .int a), (2, .int u), (3, .int co)]) C dX9_tries_27 (by decide) rfl ?_
      exact J.locals [1, 2, 3, 4, 0] (W_tries C hG hT hm w (fun K0 a u c P0 h0 => ihd K0 a u c P0 h0) hQ NF _ _ hF) rfl
    · replace hF := hF.1 hc
      refine j_aload_n C dX9_tries_11 rfl 0 rfl ?_
      refine j_get C w.atr rfl in_X9 2 (by decide) q700 rfl rfl dX9_tries_12 ?_
      refine j_aload_n C dX9_tries_15 rfl 0 rfl ?_
      refine tr_row C w dX9_tries_16 ?_
      refine j_iload_n C dX9_tries_19 rfl 3 rfl ?_
      refine j_lamV (mc := 0) (ms := 0) (n1 := "") (d1 := "") C (x := yWith) (hLL s C.2.2.2.2.2.1.2.1) (nm := RX8) rfl lamFit6 lamFld6_0 (by decide) q713 (C.tab hT q715 rfl) (C.tab hT q714 rfl) ⟨rfl, rfl, by decide +kernel⟩ ⟨by decide, by decide⟩ (by decide +kernel) (q := q) (b := kd 0) (fun H hH => ?_) (KH_at w.2.1 (k := 0) (by decide)) rfl (y := yX8_lambda_new_0) (M_klambda_new_0 G l hG h kd w.2.1 hm K co P hF) cal_klambda_new_0 ⟨rfl, rfl, by decide +kernel⟩ (fun v h' hv => by obtain ⟨S', rfl, -⟩ := hv; rfl) (by dsimp only; omega) (Nat.le_of_ble_eq_true rfl) (by dsimp only; omega) dX9_tries_20 (fun v h' hv => ?_)
      · obtain ⟨ws, w1, w2, w3⟩ := id hH.1
        obtain ⟨q0, hq0⟩ := w1 q _ w.aq
        exact ⟨_, w2 q0 _ hq0, rfl, rfl, rfl⟩
      · obtain ⟨S', rfl, rfl, hP⟩ := hv
        rw [hQ]
        exact j_vret C ⟨_, rfl, rfl, hP⟩ dX9_tries_25
end TR
