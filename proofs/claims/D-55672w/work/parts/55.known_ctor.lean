/-! Known.<init>(Town) -/
set_option maxRecDepth 100000
def K0k (T : TS) : TS := fun i => if i < 6 then 0 else if i < 78 then 1000000 else if i = 78 then T 0 else if i = 79 then 1000000 else 0
def F_known (T : TS) (P : TS → Prop) : Prop := nm (K0k T) (fun K => F_tries T 8 K 0 0 0 P)
def KNew (G : GT) (h : AH) (a : Nat) (P : TS → Prop) : Option Value → AH → Prop := fun v h' => v = none ∧ ∃ (kd : Nat → Nat) (K : TS), kd 0 = a ∧ Kg kd ∧ (∀ k, k < 5 → k ≠ 0 → h (kd k) = none ∧ G.1 ≤ kd k) ∧ h' = KH G.2.2.1 h kd K ∧ P K
def kdf (a q1 q2 q3 q6 : Nat) : Nat → Nat := fun k => if k = 0 then a else if k = 1 then q1 else if k = 2 then q2 else if k = 3 then q3 else q6
def kF (T : TS) (q1 q2 q3 : Nat) : List Value := [.ref q1, .ref q2, .ref q3, .int (T 0), .int 1000000, .int 0, .int 0]
/-- Known's cells while the two rows are filled -/
def kB (dA : Nat → ClassId) (h : AH) (T : TS) (a q1 q2 q3 k : Nat) : AH := hup (hup (hup (hup h q1 (.inl (dA 0, 6, .inl (cutn 6 fun _ => 0)))) a (.inr (3, kF T q1 q2 q3))) q2 (.inl (dA 0, 36, .inl (fil k)))) q3 (.inl (dA 0, 36, .inl (fil k)))
theorem fil_0 : fil 0 = cutn 36 fun _ => 0 := cutn_eq fun j _ => if_neg (by omega)
theorem fil_36 : fil 36 = cutn 36 fun _ => 1000000 := cutn_eq fun j hj => if_pos hj
theorem MT.mk2 {G : GT} {l : Launch} {h : AH} {cc : ByteArray} {nL : Nat} {ret : Option FieldType} {own : String} {y : MethodName} {fr lo mc ms : Nat} {av : List Value} {Post : Option Value → AH → Prop} (hy : plainName y.cls = true) (hown : y.cls = own) (hG : GOK G) (hav : (lg_sl av).length ≤ nL)
    (body : ∀ (p : Program) (e : Env) (s : State) (m : MethodId) (below : List Frame) (meth : Method) (c : Code), ∀ (args : Array Value) (Q : State → Prop), args = av.toArray → Q = MQ below (SQ G Post) args s mc ms (fun q => G.1 ≤ q) → Cx G p s m args meth c cc own nL ret → s.methodNamed? y = some m → meth.name = y.name → J G p l e ({ frames := fr, cells := mc, slots := ms, locals := lo }) s m args below meth c nL Q mc ms h 0 (lv_args 0 av) []) : MT G l y cc nL ret fr lo mc ms av h Post := by
  refine Met.ofW (cc := cc) (maxL := nL) (ret := ret) hy rfl ?_
  intro p e s m args below meth c s₁ B hml hv
  obtain ⟨rfl, hGW, hHW⟩ := hv
  have hts := atoms_spec (ws := ws_ y cc nL ret) B.pre
  have hts : ∀ w ∈ lw_all, w.before _ s = true := fun w h => hts w (List.mem_cons_of_mem _ h)
  have hown2 : s.vm.findClass own = some m.cls := hown ▸ findClass_of_methodNamed B.named
  have hl := lv_entry av (n := nL) hav
  rw [lg_entry_eq]
  exact body p e s m below meth c _ _ rfl rfl ⟨B.exec, B.bytes, hml, hown2, hts, hGW, hG, B.returns, B.notSynchronized⟩ B.named (name_of_methodNamed B.named B.method).1 s.heap [] _ 0 0 hHW va_S.rf hl (by simp) (by simp)
theorem kdf_g {a q1 q2 q3 q6 : Nat} (h1 : a ≠ q1) (h2 : a ≠ q2) (h3 : a ≠ q3) (h4 : a ≠ q6) (h5 : q1 ≠ q2) (h6 : q1 ≠ q3) (h7 : q1 ≠ q6) (h8 : q2 ≠ q3) (h9 : q2 ≠ q6) (h10 : q3 ≠ q6) : Kg (kdf a q1 q2 q3 q6) := by
  intro i j hi hj e
  unfold kdf at e
  (repeat' split at e) <;> omega
section KC
variable {G : GT} {p : Program} {l : Launch} {e : Env} {R : Room} {s : State} {m : MethodId} {args : Array Value} {below : List Frame} {meth : Method} {c : Code} {Q : State → Prop} {bc bs : Nat} {h : AH} {T : TS} {a q1 q2 q3 t0 : Nat}
set_option maxHeartbeats 4000000 in
theorem k_fill (C : Cx G p s m args meth c cX8_init RX8 3 none) (hm : FreeG G) (h12 : q1 ≠ q2) (h13 : q1 ≠ q3) (h23 : q2 ≠ q3) (ha1 : a ≠ q1) (ha2 : a ≠ q2) (ha3 : a ≠ q3)
    (kk : J G p l e R s m args below meth c 3 Q bc bs (kB G.2.2.1 h T a q1 q2 q3 36) 72 [(0, .ref a), (1, .ref t0)] []) :
    ∀ n k : Nat, k + n = 36 → J G p l e R s m args below meth c 3 Q bc bs (kB G.2.2.1 h T a q1 q2 q3 k) 44 [(0, .ref a), (1, .ref t0), (2, .int (Int32.ofNat k))] [] := by
  intro n
  have hobj : ∀ k, kB G.2.2.1 h T a q1 q2 q3 k a = some (.inr (3, kF T q1 q2 q3)) := fun k => by
    unfold kB; rw [hup_ne ha3, hup_ne ha2, hup_self]
  induction n with
  | zero =>
    intro k hk
    obtain rfl : k = 36 := by omega
    refine j_iload_n C dX8_init_44 rfl 2 rfl ?_
    refine j_bipush (v := 36) C dX8_init_45 rfl ?_
    refine j_icmp_ge (tgt := 72) C dX8_init_47 (by decide) (fun _ => ?_) (fun hc => absurd (by decide) hc)
    exact J.locals [0, 1] kk rfl
  | succ n ih =>
    intro k hk
    obtain ⟨g1, g2, g3, g4⟩ := i36 k (by omega)
    refine j_iload_n C dX8_init_44 rfl 2 rfl ?_
    refine j_bipush (v := 36) C dX8_init_45 rfl ?_
    refine j_icmp_ge (tgt := 72) C dX8_init_47 (by decide) (fun hc => absurd hc g1) (fun _ => ?_)
    refine j_aload_n C dX8_init_50 rfl 0 rfl ?_
    refine j_get C (hobj k) rfl in_X8 1 (by decide) q720 rfl rfl dX8_init_51 ?_
    refine j_iload_n C dX8_init_54 rfl 2 rfl ?_
    refine j_ldc C dX8_init_55 q682 ?_
    refine j_iast C hm (n := 36) (f := fil k) (by unfold kB; rw [hup_ne h23, hup_self]) g2 dX8_init_57 ?_
    rw [g3, fil_s (by omega)]
    refine j_aload_n C dX8_init_58 rfl 0 rfl ?_
    refine j_get C (by rw [hup_ne ha2]; exact hobj k) rfl in_X8 2 (by decide) q722 rfl rfl dX8_init_59 ?_
    refine j_iload_n C dX8_init_62 rfl 2 rfl ?_
    refine j_ldc C dX8_init_63 q682 ?_
    refine j_iast C hm (n := 36) (f := fil k) (by rw [hup_ne h23.symm]; unfold kB; rw [hup_self]) g2 dX8_init_65 ?_
    rw [g3, fil_s (by omega)]
    refine j_iinc (q := 2) (v := Int32.ofNat k + 1) (L2 := [(2, .int (Int32.ofNat k + 1)), (0, .ref a), (1, .ref t0)]) C dX8_init_66 rfl rfl (by decide) rfl ?_
    rw [g4]
    refine j_goto (tgt := 44) C dX8_init_69 (by decide) ?_
    refine J.heap (h' := kB G.2.2.1 h T a q1 q2 q3 (k + 1)) (J.locals [1, 2, 0] (ih (k + 1) (by omega)) rfl) ?_
    unfold kB
    rw [hup_comm h23.symm, hup_hup, hup_hup]
end KC
set_option maxHeartbeats 8000000 in
theorem M_knew (G : GT) (l : Launch) (hG : GOK G) (hT : TabF G) (hLm : LamG G) (hm : FreeG G) (h : AH) (a : Nat) (ha : h a = some (.inr (3, kfz))) (ad : Nat → Nat) (hg : Tg ad) (T : TS) (ho : ∀ k, k < 18 → h (ad k) = some (tcell G.2.2.1 ad T k)) (P : TS → Prop) (hF : F_known T P) : MT G l yX8_init cX8_init 3 none 13 3600 6 89 [.ref a, .ref (ad 0)] h (KNew G h a P) := by
  refine MT.mk2 (own := RX8) (by decide) rfl hG (Nat.le_of_ble_eq_true rfl) ?_
  intro p e s m below meth c args Q hargs hQ C hmid hname
  refine J.loca (L2 := [(0, .ref a), (1, .ref (ad 0))]) rfl ?_
  unfold F_known at hF
  have hta : ∀ k, k < 18 → ad k ≠ a := fun k hk e => by
    have h1 := ho k hk
    rw [e, ha] at h1
    have h2 := Option.some.inj h1
    unfold tcell at h2
    (repeat' split at h2) <;> simp at h2
  refine j_aload_n C dX8_init_0 rfl 0 rfl ?_
  refine j_objInit C q681 q142 q143 (Nat.le_of_ble_eq_true rfl) (Nat.le_of_ble_eq_true rfl) dX8_init_1 ?_
  refine j_aload_n C dX8_init_4 rfl 0 rfl ?_
  refine j_bipush (v := 6) C dX8_init_5 rfl ?_
  refine j_newa (atype := .int) (ty := .int) C hm (di := 0) (N' := 6) rfl (fun _ h => by cases h) (fun _ => rfl) q199 (6, .inl (cutn 6 fun _ => 0)) (fun _ => rfl) (by decide) (by decide) (by decide) (bc' := 5) (bs' := 83) (by omega) (by omega) dX8_init_7 (fun q1 hq1 z1 => ?_)
  have ha1 : a ≠ q1 := fun e => by rw [← e, ha] at hq1; cases hq1
  refine j_putF C hm (fs := kfz) (by rw [hup_ne ha1]; exact ha) rfl in_X8 tyX8 tyX8_ok nmX8 0 (by decide) q718 rfl rfl hname rfl rfl rfl (Nat.le_of_ble_eq_true rfl) dX8_init_9 ?_
  refine j_aload_n C dX8_init_12 rfl 0 rfl ?_
  refine j_bipush (v := 36) C dX8_init_13 rfl ?_
  refine j_newa (atype := .int) (ty := .int) C hm (di := 0) (N' := 36) rfl (fun _ h => by cases h) (fun _ => rfl) q199 (36, .inl (cutn 36 fun _ => 0)) (fun _ => rfl) (by decide) (by decide) (by decide) (bc' := 4) (bs' := 47) (by omega) (by omega) dX8_init_15 (fun q2 hq2 z2 => ?_)
  obtain ⟨ha2', hq2⟩ := hup_none hq2
  obtain ⟨h21, hq2⟩ := hup_none hq2
  refine j_putF C hm (by rw [hup_ne (fun e => ha2' e.symm), hup_self]) rfl in_X8 tyX8 tyX8_ok nmX8 1 (by decide) q720 rfl rfl hname rfl rfl rfl (Nat.le_of_ble_eq_true rfl) dX8_init_17 ?_
  refine j_aload_n C dX8_init_20 rfl 0 rfl ?_
  refine j_bipush (v := 36) C dX8_init_21 rfl ?_
  refine j_newa (atype := .int) (ty := .int) C hm (di := 0) (N' := 36) rfl (fun _ h => by cases h) (fun _ => rfl) q199 (36, .inl (cutn 36 fun _ => 0)) (fun _ => rfl) (by decide) (by decide) (by decide) (bc' := 3) (bs' := 11) (by omega) (by omega) dX8_init_23 (fun q3 hq3 z3 => ?_)
  obtain ⟨ha3', hq3⟩ := hup_none hq3
  obtain ⟨h32, hq3⟩ := hup_none hq3
  obtain ⟨-, hq3⟩ := hup_none hq3
  obtain ⟨h31, hq3⟩ := hup_none hq3
  refine j_putF C hm (by rw [hup_ne (fun e => ha3' e.symm), hup_self]) rfl in_X8 tyX8 tyX8_ok nmX8 2 (by decide) q722 rfl rfl hname rfl rfl rfl (Nat.le_of_ble_eq_true rfl) dX8_init_25 ?_
  refine j_aload_n C dX8_init_28 rfl 0 rfl ?_
  refine j_ldc C dX8_init_29 q682 ?_
  refine j_put C hm hup_self rfl in_X8 tyX8 tyX8_ok nmX8 4 (by decide) q725 rfl rfl rfl rfl (Nat.le_of_ble_eq_true rfl) dX8_init_31 ?_
  refine j_aload_n C dX8_init_34 rfl 0 rfl ?_
  refine j_aload_n C dX8_init_35 rfl 1 rfl ?_
  have e0 : ∀ q, h q = none → ad 0 ≠ q := fun q hq e => by have := ho 0 (by decide); rw [e, hq] at this; cases this
  refine j_getN (fs := tfs ad T) C (by rw [hup_ne (hta 0 (by decide)), hup_ne (hta 0 (by decide)), hup_ne (e0 _ hq3), hup_ne (hta 0 (by decide)), hup_ne (e0 _ hq2), hup_ne (hta 0 (by decide)), hup_ne (e0 _ hq1)]; exact ho 0 (by decide)) rfl in_X2 5 (by decide) (C.tab hT q165 rfl) rfl rfl dX8_init_36 ?_
  refine j_putF C hm hup_self rfl in_X8 tyX8 tyX8_ok nmX8 3 (by decide) q724 rfl rfl hname rfl rfl rfl (Nat.le_of_ble_eq_true rfl) dX8_init_39 ?_
  refine j_iconst (v := 0) C dX8_init_42 rfl ?_
  refine j_istore_n (L2 := [(2, .int 0), (0, .ref a), (1, .ref (ad 0))]) C dX8_init_43 rfl (by decide) rfl ?_
  have ha2 : a ≠ q2 := fun e => ha2' e.symm
  have ha3 : a ≠ q3 := fun e => ha3' e.symm
  have h12 : q1 ≠ q2 := fun e => h21 e.symm
  have h13 : q1 ≠ q3 := fun e => h31 e.symm
  have h23 : q2 ≠ q3 := fun e => h32 e.symm
  refine J.heap (h' := kB G.2.2.1 h T a q1 q2 q3 0) ?_ ?_
  · refine J.locals (L' := [(0, .ref a), (1, .ref (ad 0)), (2, .int (Int32.ofNat 0))]) [1, 2, 0] ?_ rfl
    refine k_fill C hm h12 h13 h23 ha1 ha2 ha3 ?_ 36 0 rfl
    obtain ⟨cK, hL⟩ := (hLm s C.2.2.2.2.2.1.2.1).2.2.2.2.2.2
    refine j_new C hm (ci := 4) (Cn := RX9) (T := TX9) (N := 3) (bc' := 2) (bs' := 8) rfl in_X9 tyX9 tyX9_ok q683 q684 q120 trz (fun j hj => by
      rcases (show j = 0 ∨ j = 1 ∨ j = 2 by omega) with rfl | rfl | rfl <;> rfl) (Nat.le_of_ble_eq_true rfl) (Nat.le_of_ble_eq_true rfl) dX8_init_72 (fun q4 hq4 z4 => ?_)
    obtain ⟨n43, hq4⟩ := hup_none hq4
    obtain ⟨n42, hq4⟩ := hup_none hq4
    obtain ⟨n4a, hq4⟩ := hup_none hq4
    obtain ⟨n41, hq4⟩ := hup_none hq4
    refine j_dup C dX8_init_75 rfl ?_
    refine j_aload_n C dX8_init_76 rfl 1 rfl ?_
    refine j_aload_n C dX8_init_77 rfl 0 rfl ?_
    refine j_makeV (ty := .object "MasterPrices$Known") (bc' := 1) (bs' := 7) C hm hL hmid (nm := RX8) rfl lamFit6 (by decide +kernel) rfl rfl rfl (Nat.le_of_ble_eq_true rfl) (Nat.le_of_ble_eq_true rfl) (Nat.le_of_ble_eq_true rfl) dX8_init_78 (fun q5 hq5 z5 => ?_)
    obtain ⟨n54, hq5⟩ := hup_none hq5
    obtain ⟨n53, hq5⟩ := hup_none hq5
    obtain ⟨n52, hq5⟩ := hup_none hq5
    obtain ⟨n5a, hq5⟩ := hup_none hq5
    obtain ⟨n51, hq5⟩ := hup_none hq5
    refine j_callI C (As := [.ref (ad 0), .ref q5]) (rest := [.ref q4]) (M_trinit G l hG hm _ q4 (ad 0) q5 (by rw [hup_ne (fun e => n54 e.symm), hup_self])) q694 cal_trinit rfl rfl (Nat.le_of_ble_eq_true rfl) ⟨Nat.le_of_ble_eq_true rfl, Nat.le_of_ble_eq_true rfl⟩ (Nat.le_of_ble_eq_true rfl) (Nat.le_of_ble_eq_true rfl) dX8_init_83 (fun v h' hv => ?_)
    obtain ⟨rfl, q6, hq6, z6, rfl⟩ := hv
    obtain ⟨n65, hq6⟩ := hup_none hq6
    obtain ⟨n64, hq6⟩ := hup_none hq6
    obtain ⟨n63, hq6⟩ := hup_none hq6
    obtain ⟨n62, hq6⟩ := hup_none hq6
    obtain ⟨n6a, hq6⟩ := hup_none hq6
    obtain ⟨n61, hq6⟩ := hup_none hq6
    refine j_iconst (v := 0) C dX8_init_86 rfl ?_
    refine j_iconst (v := 0) C dX8_init_87 rfl ?_
    refine j_iconst (v := 0) C dX8_init_88 rfl ?_
    have hkg : Kg (kdf a q1 q2 q3 q6) := kdf_g ha1 ha2 ha3 (fun e => n6a e.symm) h12 h13 (fun e => n61 e.symm) h23 (fun e => n62 e.symm) (fun e => n63 e.symm)
    have eH : hup (hup (hup (hup (kB G.2.2.1 h T a q1 q2 q3 36) q4 (.inr (4, trz))) q5 (.inl (cK, 1, .inr (.inr (.inr (.inr fun _ => some a)))))) q6 (.inl (G.2.2.1 0, 6, .inl (cutn 6 fun _ => 0)))) q4 (.inr (4, [.ref (ad 0), .ref q6, .ref q5])) = KH G.2.2.1 (hup (hup h q4 (.inr (4, [.ref (ad 0), .ref q6, .ref q5]))) q5 (.inl (cK, 1, .inr (.inr (.inr (.inr fun _ => some a)))))) (kdf a q1 q2 q3 q6) (K0k T) := by
      funext b
      rcases KH_cases (kdf a q1 q2 q3 q6) b with ⟨k, hk, rfl⟩ | hn
      · rw [KH_at hkg hk]
        unfold kB
        rcases (show k = 0 ∨ k = 1 ∨ k = 2 ∨ k = 3 ∨ k = 4 by omega) with rfl | rfl | rfl | rfl | rfl
        · show hup _ _ _ a = _
          rw [hup_ne (fun e => n4a e.symm), hup_ne (fun e => n6a e.symm), hup_ne (fun e => n5a e.symm), hup_ne (fun e => n4a e.symm), hup_ne ha3, hup_ne ha2, hup_self]; rfl
        · show hup _ _ _ q1 = _
          rw [hup_ne (fun e => n41 e.symm), hup_ne (fun e => n61 e.symm), hup_ne (fun e => n51 e.symm), hup_ne (fun e => n41 e.symm), hup_ne h13, hup_ne h12, hup_ne (fun e => ha1 e.symm), hup_self]
          show some _ = some (Sum.inl (G.2.2.1 0, 6, .inl (cutn 6 fun j => K0k T (0 + j))) : va_E)
          rw [cutn_eq (f := fun _ => 0) (g := fun j => K0k T (0 + j)) (fun j hj => by unfold K0k; rw [if_pos (by omega)])]
        · show hup _ _ _ q2 = _
          rw [hup_ne (fun e => n42 e.symm), hup_ne (fun e => n62 e.symm), hup_ne (fun e => n52 e.symm), hup_ne (fun e => n42 e.symm), hup_ne h23, hup_self]
          show some _ = some (Sum.inl (G.2.2.1 0, 36, .inl (cutn 36 fun j => K0k T (6 + j))) : va_E)
          rw [fil_36, cutn_eq (f := fun _ => 1000000) (g := fun j => K0k T (6 + j)) (fun j hj => by unfold K0k; rw [if_neg (by omega), if_pos (by omega)])]
        · show hup _ _ _ q3 = _
          rw [hup_ne (fun e => n43 e.symm), hup_ne (fun e => n63 e.symm), hup_ne (fun e => n53 e.symm), hup_ne (fun e => n43 e.symm), hup_self]
          show some _ = some (Sum.inl (G.2.2.1 0, 36, .inl (cutn 36 fun j => K0k T (42 + j))) : va_E)
          rw [fil_36, cutn_eq (f := fun _ => 1000000) (g := fun j => K0k T (42 + j)) (fun j hj => by unfold K0k; rw [if_neg (by omega), if_pos (by omega)])]
        · show hup _ _ _ q6 = _
          rw [hup_ne n64, hup_self]
          show some _ = some (Sum.inl (G.2.2.1 0, 6, .inl (cutn 6 fun j => K0k T (82 + j))) : va_E)
          rw [cutn_eq (f := fun _ => 0) (g := fun j => K0k T (82 + j)) (fun j hj => by unfold K0k; rw [if_neg (by omega), if_neg (by omega), if_neg (by omega), if_neg (by omega)])]
      · rw [KH_out hn]
        have b0 : b ≠ a := fun e => hn 0 (by decide) e.symm
        have b1 : b ≠ q1 := fun e => hn 1 (by decide) e.symm
        have b2 : b ≠ q2 := fun e => hn 2 (by decide) e.symm
        have b3 : b ≠ q3 := fun e => hn 3 (by decide) e.symm
        have b6 : b ≠ q6 := fun e => hn 4 (by decide) e.symm
        by_cases b4 : b = q4
        · subst b4
          rw [hup_self, hup_ne (fun e => n54 e.symm), hup_self]
        · rw [hup_ne b4, hup_ne b6]
          by_cases b5 : b = q5
          · subst b5; rw [hup_self, hup_self]
          · unfold kB
            rw [hup_ne b5, hup_ne b4, hup_ne b3, hup_ne b2, hup_ne b0, hup_ne b1, hup_ne b5, hup_ne b4]
    refine J.heap ?_ eH
    obtain ⟨K1, eK, hF⟩ := nm_intro hF
    rw [← eK]
    have hmv : ∀ u U : State, u.WarmedH U.vm → LamV lamX6 78 34 lamS6 cK u → LamV lamX6 78 34 lamS6 cK U := fun u U hW h => LamV.moved hW h
    have w : TrW (wL G (LamV lamX6 78 34 lamS6 cK)) (hup (hup h q4 (.inr (4, [.ref (ad 0), .ref q6, .ref q5]))) q5 (.inl (cK, 1, .inr (.inr (.inr (.inr fun _ => some a)))))) (kdf a q1 q2 q3 q6) ad T cK q4 q5 := by
      refine ⟨hg, hkg, by rw [hup_ne (fun e => n54 e.symm), hup_self]; rfl, hup_self, fun k hk => ?_, fun k hk => ?_⟩
      · rw [hup_ne (fun e => by have := ho k hk; rw [e, hq5] at this; cases this), hup_ne (fun e => by have := ho k hk; rw [e, hq4] at this; cases this)]
        exact ho k hk
      · rcases (show k = 0 ∨ k = 1 ∨ k = 2 ∨ k = 3 ∨ k = 4 by omega) with rfl | rfl | rfl | rfl | rfl
        · exact ⟨fun e => n4a e.symm, fun e => n5a e.symm, fun j hj e => hta j hj e.symm⟩
        · exact ⟨fun e => n41 e.symm, fun e => n51 e.symm, fun j hj e => by have := ho j hj; rw [← e] at this; exact absurd (this.symm.trans hq1) (by simp)⟩
        · exact ⟨fun e => n42 e.symm, fun e => n52 e.symm, fun j hj e => by have := ho j hj; rw [← e] at this; exact absurd (this.symm.trans hq2) (by simp)⟩
        · exact ⟨fun e => n43 e.symm, fun e => n53 e.symm, fun j hj e => by have := ho j hj; rw [← e] at this; exact absurd (this.symm.trans hq3) (by simp)⟩
        · exact ⟨n64, n65, fun j hj e => by have := ho j hj; rw [← e] at this; exact absurd (this.symm.trans hq6) (by simp)⟩
    refine j_callV (G := wL G (LamV lamX6 78 34 lamS6 cK)) (C.wL hL hmv) (As := [.int 0, .int 0, .int 0]) (rest := []) (M_tries (wL G (LamV lamX6 78 34 lamS6 cK)) l (wL_ok hG hmv) (wL_tab hT) hm cK (fun U hU => hU.2) _ (kdf a q1 q2 q3 q6) ad T q4 q5 w 8 K1 0 0 0 _ hF) q708 cal_tries w.atr rfl rfl rfl (Nat.le_of_ble_eq_true rfl) ⟨Nat.le_of_ble_eq_true rfl, Nat.le_of_ble_eq_true rfl⟩ (Nat.zero_le _) (Nat.zero_le _) dX8_init_89 (fun v h' hv => ?_)
    obtain ⟨K2, rfl, rfl, hP⟩ := hv
    refine J.weaken (h' := KH G.2.2.1 h (kdf a q1 q2 q3 q6) K2) (bc' := 0) (bs' := 0) ?_ (fun b x hx => ?_) (Nat.zero_le _) (Nat.zero_le _)
    · show J G _ _ _ _ _ _ _ _ _ _ _ _ _ _ _ _ _ _
      rw [hQ]
      refine j_vret C ⟨rfl, _, K2, rfl, hkg, fun k hk hk0 => ?_, rfl, hP⟩ dX8_init_92
      rcases (show k = 1 ∨ k = 2 ∨ k = 3 ∨ k = 4 by omega) with rfl | rfl | rfl | rfl
      · exact ⟨hq1, z1⟩
      · exact ⟨hq2, z2⟩
      · exact ⟨hq3, z3⟩
      · exact ⟨hq6, z6⟩
    · show KH G.2.2.1 _ _ K2 b = some x
      rcases KH_cases (kdf a q1 q2 q3 q6) b with ⟨k, hk, rfl⟩ | hn
      · rw [KH_at hkg hk] at hx
        rw [KH_at hkg hk]; exact hx
      · rw [KH_out hn] at hx
        rw [KH_out hn, hup_ne (fun e => by rw [e, hq5] at hx; cases hx), hup_ne (fun e => by rw [e, hq4] at hx; cases hx)]
        exact hx
  · rw [hup_hup, hup_hup]
    unfold kB
    rw [fil_0]
    funext b
    by_cases e1 : b = a
    · subst e1; rw [hup_self, hup_ne ha3, hup_ne ha2, hup_self]; rfl
    rw [hup_ne e1]
    by_cases e2 : b = q3
    · subst e2; rw [hup_self, hup_self]
    rw [hup_ne e2, hup_ne e1, hup_ne e2]
    by_cases e3 : b = q2
    · subst e3; rw [hup_self, hup_self]
    rw [hup_ne e3, hup_ne e1, hup_ne e3, hup_ne e1]
