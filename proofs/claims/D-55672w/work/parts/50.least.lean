/-! A COPY OF A TOWN, in a body; Town.least, Town.wouldBid -/
set_option maxRecDepth 100000
theorem cal_tcopy : CalI yX2_init_2 cX2_init_2 3 1 := ⟨q289, q94, q290, rfl, by decide +kernel⟩
theorem TH_base {dA : Nat → ClassId} {h h' : AH} {ad : Nat → Nat} {T : TS} (hb : ∀ b, (∀ k, k < 18 → ad k ≠ b) → h b = h' b) : TH dA h ad T = TH dA h' ad T := by
  funext b
  unfold TH
  cases hf : (List.range 18).find? (fun k => ad k == b) with
  | some k => rfl
  | none =>
    refine hb b (fun k hk e => ?_)
    have := List.find?_eq_none.mp hf k (List.mem_range.mpr hk)
    simp [e] at this
/-- cells of h0 are seen through a new town -/
theorem TH_over {dA : Nat → ClassId} {h0 : AH} {ad : Nat → Nat} {T : TS} (hf : ∀ k, k < 18 → h0 (ad k) = none) {a : Nat} {e : va_E} (he : h0 a = some e) : TH dA h0 ad T a = some e := by
  rw [TH_out (fun k hk q => by have := hf k hk; rw [q, he] at this; cases this)]; exact he
section LE
variable {G : GT} {p : Program} {l : Launch} {e : Env} {R : Room} {s : State} {m : MethodId} {args : Array Value} {below : List Frame} {meth : Method} {c : Code} {nL : Nat} {Q : State → Prop} {bc bs : Nat} {h0 : AH} {pc : Nat} {L : List (Nat × Value)} {rest : List Value} {cc : ByteArray} {own : String} {ret : Option FieldType} {ad' : Nat → Nat} {T' : TS}
theorem j_newTown (C : Cx G p s m args meth c cc own nL ret) (hm : FreeG G) {index : Nat} (hcl : Cond.classLink own index "MasterPrices$Town" ∈ lw_all) {bc' bs' : Nat} (hbc : bc' + 1 ≤ bc) (hbs : bs' + 10 ≤ bs) (hdg : decode cc pc = .ok (.new index, 3))
    (kk : ∀ q : Nat, h0 q = none → G.1 ≤ q → J G p l e R s m args below meth c nL Q bc' bs' (hup h0 q (.inr (1, tfz))) (pc + 3) L (.ref q :: rest)) : J G p l e R s m args below meth c nL Q bc bs h0 pc L rest :=
  j_new C hm (ci := 1) (Cn := RX2) (T := TX2) (N := 10) rfl in_X2 tyX2 tyX2_ok hcl q145 q94 tfz (fun j hj => by
    rcases (show j = 0 ∨ j = 1 ∨ j = 2 ∨ j = 3 ∨ j = 4 ∨ j = 5 ∨ j = 6 ∨ j = 7 ∨ j = 8 ∨ j = 9 by omega) with rfl | rfl | rfl | rfl | rfl | rfl | rfl | rfl | rfl | rfl <;> rfl) hbc hbs hdg kk
theorem j_copyTown (C : Cx G p s m args meth c cc own nL ret) (hG : GOK G) (hT : TabF G) (hm : FreeG G) {index q : Nat} (ho : ∀ k, k < 18 → h0 (ad' k) = some (tcell G.2.2.1 ad' T' k)) (hq : h0 q = none) (hz : G.1 ≤ q) (hlink : Cond.methodLink own index yX2_init_2 ∈ lw_all) (hcat : (rest.map fun v => v.category).sum ≤ 8) (hR : 2 ≤ R.frames ∧ 290 ≤ R.locals) (hmc : 17 ≤ bc) (hms : 102 ≤ bs) (hdg : decode cc pc = .ok (.invokespecial index, 3))
    (kk : ∀ ad2 : Nat → Nat, ad2 0 = q → Tg ad2 → (∀ k, k < 18 → h0 (ad2 k) = none ∧ G.1 ≤ ad2 k) → J G p l e R s m args below meth c nL Q (bc - 17) (bs - 102) (TH G.2.2.1 h0 ad2 T') (pc + 3) L rest) : J G p l e R s m args below meth c nL Q bc bs (hup h0 q (.inr (1, tfz))) pc L (.ref (ad' 0) :: .ref q :: rest) := by
  have hne : ∀ k, k < 18 → ad' k ≠ q := fun k hk e => by have := ho k hk; rw [e, hq] at this; cases this
  refine j_callI C (As := [.ref (ad' 0)]) (rest := rest) (M_tcopy G l hG hT hm (hup h0 q (.inr (1, tfz))) q hup_self ad' T' (fun k hk => by rw [hup_ne (hne k hk)]; exact ho k hk) hne) hlink cal_tcopy rfl rfl hcat ⟨hR.1, by have := hR.2; omega⟩ hmc hms hdg (fun v h' hv => ?_)
  obtain ⟨rfl, ad2, T2, e0, hg2, hfr, rfl, rfl⟩ := hv
  rw [TH_base (h' := h0) (fun b hb => hup_ne (fun e => hb 0 (by decide) (by rw [e0, e])))]
  refine kk ad2 e0 hg2 (fun k hk => ?_)
  by_cases hk0 : k = 0
  · subst hk0; rw [e0]; exact ⟨hq, hz⟩
  · exact ⟨(hup_none (hfr k hk hk0).1).2, (hfr k hk hk0).2⟩
end LE
def F_tleast (T : TS) (P : Int32 → TS → Prop) : Prop := F_tmost T (fun r S => (T 0 ≤ r → F_tbeginsAnew S (fun S2 => F_tbidsOn S2 (fun _ S3 => F_tcostOfPairs S3 (fun r3 _ => P r3 T)))) ∧ (¬ T 0 ≤ r → P 1000000 T))
theorem cal_tleast : CalV yX2_least RX2 cX2_least 3 (some .int) 0 := ⟨q949, q950, q94, q951, by decide +kernel⟩
set_option maxHeartbeats 4000000 in
theorem M_tleast (G : GT) (l : Launch) (hG : GOK G) (hT : TabF G) (hLm : LamG G) (hm : FreeG G) (h : AH) (ad : Nat → Nat) (hg : Tg ad) (T : TS) (P : Int32 → TS → Prop) (hF : F_tleast T P) : TMiA G l yX2_least cX2_least 3 .int 12 3200 27 161 [.ref (ad 0)] h ad T P := by
  refine MT.mk (own := RX2) (by decide) rfl hG (Nat.le_of_ble_eq_true rfl) ?_
  intro p e s m below meth c args Q hargs hQ C _
  refine J.loca (L2 := [(0, .ref (ad 0))]) rfl ?_
  unfold F_tleast at hF
  refine j_newTown (bc' := 26) (bs' := 151) C hm q952 (Nat.le_of_ble_eq_true rfl) (Nat.le_of_ble_eq_true rfl) dX2_least_0 (fun q hq hz => ?_)
  refine j_dup C dX2_least_3 rfl ?_
  refine j_aload_n C dX2_least_4 rfl 0 rfl ?_
  refine j_copyTown C hG hT hm (fun k hk => TH_at hg hk) hq hz q953 (Nat.le_of_ble_eq_true rfl) ⟨Nat.le_of_ble_eq_true rfl, Nat.le_of_ble_eq_true rfl⟩ (Nat.le_of_ble_eq_true rfl) (Nat.le_of_ble_eq_true rfl) dX2_least_5 (fun ad2 e0 hg2 hf2 => ?_)
  subst e0
  refine j_astore_n (L2 := [(1, .ref (ad2 0)), (0, .ref (ad 0))]) C dX2_least_8 rfl (by decide) rfl ?_
  refine j_aload_n C dX2_least_9 rfl 0 rfl ?_
  have drop : ∀ (S : TS) (a : Nat) (x : va_E), TH G.2.2.1 h ad T a = some x → TH G.2.2.1 (TH G.2.2.1 h ad T) ad2 S a = some x := fun S a x hx => TH_over (fun k hk => (hf2 k hk).1) hx
  refine jt_calliA hg2 (As := []) (rest := []) C (M_tmost G l hG hm (TH G.2.2.1 h ad T) ad2 hg2 T _ hF) q468 cal_tmost rfl rfl (Nat.le_of_ble_eq_true rfl) ⟨Nat.le_of_ble_eq_true rfl, Nat.le_of_ble_eq_true rfl⟩ (Nat.le_of_ble_eq_true rfl) (Nat.le_of_ble_eq_true rfl) dX2_least_10 (fun r S hF => ?_)
  refine j_aload_n C dX2_least_13 rfl 1 rfl ?_
  refine j_get C (drop S _ _ (TH_at hg (k := 0) (by decide))) rfl in_X2 5 (by decide) q167 rfl rfl dX2_least_14 ?_
  refine j_icmp_ge (tgt := 23) C dX2_least_17 (by decide) (fun hc => ?_) (fun hc => ?_)
  · replace hF := hF.1 hc
    refine j_aload_n C dX2_least_23 rfl 0 rfl ?_
    refine jt_callv hg2 (As := []) (rest := []) C (M_tbeginsAnew G l hG (TH G.2.2.1 h ad T) ad2 hg2 hm S _ hF) q385 cal_tbeginsAnew rfl rfl (Nat.le_of_ble_eq_true rfl) ⟨Nat.le_of_ble_eq_true rfl, Nat.le_of_ble_eq_true rfl⟩ dX2_least_24 (fun S2 hF => ?_)
    refine j_aload_n C dX2_least_27 rfl 0 rfl ?_
    refine jt_calli hg2 (As := []) (rest := []) C (M_tbidsOn G l hG (TH G.2.2.1 h ad T) ad2 hg2 hm S2 _ hF) q476 cal_tbidsOn rfl rfl (Nat.le_of_ble_eq_true rfl) ⟨Nat.le_of_ble_eq_true rfl, Nat.le_of_ble_eq_true rfl⟩ dX2_least_28 (fun r2 S3 hF => ?_)
    refine j_istore_n (L2 := [(2, .int r2), (1, .ref (ad2 0)), (0, .ref (ad 0))]) C dX2_least_31 rfl (by decide) rfl ?_
    refine j_aload_n C dX2_least_32 rfl 1 rfl ?_
    refine jt_calliA hg2 (As := []) (rest := []) C (M_tcostOfPairs G l hG hT hLm hm (TH G.2.2.1 h ad T) ad2 hg2 S3 _ hF) q487 cal_tcostOfPairs rfl rfl (Nat.le_of_ble_eq_true rfl) ⟨Nat.le_of_ble_eq_true rfl, Nat.le_of_ble_eq_true rfl⟩ (Nat.le_of_ble_eq_true rfl) (Nat.le_of_ble_eq_true rfl) dX2_least_33 (fun r3 S4 hF => ?_)
    refine J.weaken (h' := TH G.2.2.1 h ad T) (bc' := 0) (bs' := 0) ?_ (drop S4) (Nat.zero_le _) (Nat.zero_le _)
    rw [hQ]
    exact j_iret C rfl ⟨_, _, rfl, rfl, hF⟩ dX2_least_36
  · replace hF := hF.2 hc
    refine j_ldc C dX2_least_20 q954 ?_
    refine J.weaken (h' := TH G.2.2.1 h ad T) (bc' := 0) (bs' := 0) ?_ (drop S) (Nat.zero_le _) (Nat.zero_le _)
    rw [hQ]
    exact j_iret C rfl ⟨_, _, rfl, rfl, hF⟩ dX2_least_22
def F_twouldBid (T : TS) (P : Int32 → TS → Prop) : Prop := F_tbidsOn T (fun r _ => P r T)
theorem cal_twouldBid : CalV yX2_wouldBid RX2 cX2_wouldBid 1 (some .int) 0 := ⟨q1258, q1259, q94, q1260, by decide +kernel⟩
set_option maxHeartbeats 4000000 in
theorem M_twouldBid (G : GT) (l : Launch) (hG : GOK G) (hT : TabF G) (hm : FreeG G) (h : AH) (ad : Nat → Nat) (hg : Tg ad) (T : TS) (P : Int32 → TS → Prop) (hF : F_twouldBid T P) : TMiA G l yX2_wouldBid cX2_wouldBid 1 .int 12 400 18 112 [.ref (ad 0)] h ad T P := by
  refine MT.mk (own := RX2) (by decide) rfl hG (Nat.le_of_ble_eq_true rfl) ?_
  intro p e s m below meth c args Q hargs hQ C _
  refine J.loca (L2 := [(0, .ref (ad 0))]) rfl ?_
  unfold F_twouldBid at hF
  refine j_newTown (bc' := 17) (bs' := 102) C hm q952 (Nat.le_of_ble_eq_true rfl) (Nat.le_of_ble_eq_true rfl) dX2_wouldBid_0 (fun q hq hz => ?_)
  refine j_dup C dX2_wouldBid_3 rfl ?_
  refine j_aload_n C dX2_wouldBid_4 rfl 0 rfl ?_
  refine j_copyTown C hG hT hm (fun k hk => TH_at hg hk) hq hz q953 (Nat.le_of_ble_eq_true rfl) ⟨Nat.le_of_ble_eq_true rfl, Nat.le_of_ble_eq_true rfl⟩ (Nat.le_of_ble_eq_true rfl) (Nat.le_of_ble_eq_true rfl) dX2_wouldBid_5 (fun ad2 e0 hg2 hf2 => ?_)
  subst e0
  refine jt_calli hg2 (As := []) (rest := []) C (M_tbidsOn G l hG (TH G.2.2.1 h ad T) ad2 hg2 hm T _ hF) q476 cal_tbidsOn rfl rfl (Nat.le_of_ble_eq_true rfl) ⟨Nat.le_of_ble_eq_true rfl, Nat.le_of_ble_eq_true rfl⟩ dX2_wouldBid_8 (fun r2 S3 hF => ?_)
  refine J.weaken (h' := TH G.2.2.1 h ad T) (bc' := 0) (bs' := 0) ?_ (fun a x hx => TH_over (fun k hk => (hf2 k hk).1) hx) (Nat.zero_le _) (Nat.zero_le _)
  rw [hQ]
  exact j_iret C rfl ⟨_, _, rfl, rfl, hF⟩ dX2_wouldBid_11
