/-! A NEW Known: its arrays, the lambda, the Trial, all pairings tried -/
set_option maxRecDepth 100000
def wL (G : GT) (L : State → Prop) : GT := (G.1, G.2.1, G.2.2.1, fun U => G.2.2.2.1 U ∧ L U, G.2.2.2.2)
theorem wL_ok {G : GT} {L : State → Prop} (hG : GOK G) (hL : ∀ u U : State, u.WarmedH U.vm → L u → L U) : GOK (wL G L) := fun u U h1 h2 h3 => ⟨hG u U h1 h2 h3.1, hL u U h1 h3.2⟩
theorem wL_tab {G : GT} {L : State → Prop} (hT : TabF G) : TabF (wL G L) := fun w hw ht U hU => hT w hw ht U hU.1
theorem i36 : ∀ k, k < 36 → (¬ (36 : Int32) ≤ Int32.ofNat k) ∧ ¬ (Int32.ofNat k < 0 ∨ 36 ≤ (Int32.ofNat k).toNatClampNeg) ∧ (Int32.ofNat k).toNatClampNeg = k ∧ Int32.ofNat k + 1 = Int32.ofNat (k + 1) := by decide
def kfz : List Value := [.null, .null, .null, .int 0, .int 0, .int 0, .int 0]
def fil (k : Nat) : Nat → Int32 := cutn 36 fun j => if j < k then 1000000 else 0
theorem fil_s {k : Nat} (hk : k < 36) : upd (fil k) k 1000000 = fil (k + 1) := cutn_upd hk (fun j hj => by
  by_cases h : j = k
  · subst h; rw [if_pos (by omega), if_pos rfl]
  · rw [if_neg h]
    by_cases h2 : j < k
    · rw [if_pos (by omega), if_pos h2]
    · rw [if_neg (by omega), if_neg h2])
section KN
variable {G : GT} {p : Program} {l : Launch} {e : Env} {R : Room} {s : State} {m : MethodId} {args : Array Value} {below : List Frame} {meth : Method} {c : Code} {nL : Nat} {Q : State → Prop} {bc bs : Nat} {h : AH} {pc : Nat} {L : List (Nat × Value)} {rest : List Value} {cc : ByteArray} {own : String} {ret : Option FieldType}
theorem Cx.wL {LL : State → Prop} (C : Cx G p s m args meth c cc own nL ret) (hs : LL s) (hL : ∀ u U : State, u.WarmedH U.vm → LL u → LL U) : Cx (wL G LL) p s m args meth c cc own nL ret :=
  ⟨C.1, C.2.1, C.2.2.1, C.2.2.2.1, C.2.2.2.2.1, ⟨C.2.2.2.2.2.1.1, ⟨C.2.2.2.2.2.1.2.1, hs⟩, C.2.2.2.2.2.1.2.2⟩, wL_ok C.2.2.2.2.2.2.1 hL, C.2.2.2.2.2.2.2⟩
/-- a lambda's object of one captured object, as a cell of the world -/
theorem j_makeV (C : Cx G p s m args meth c cc own nL ret) (hm : FreeG G) {x : MethodName} {index b : Nat} {sh : Lambda.Shape} {cK : ClassId} {nm : String} {cd : ByteArray} {iM iC a1 b1 : Nat} {rt : Option FieldType} {ty : FieldType} (hL : LamV x pc index sh cK s) (hmid : s.methodNamed? x = some m) (hx : x.cls = nm) (fit : LamFit sh nm cd iM iC a1 b1 rt) (hty : (lamLaid (lamFile sh nm)).2.1 = #[ty]) (hcap : sh.captured.length = 1) (hn : narrow ty (.ref b) = .ref b) (hfit : fits ty (.ref b) = true)
    (hlo : (rest.map fun v => v.category).sum + 3080 ≤ R.locals) {bc' bs' : Nat} (hbc : bc' + 1 ≤ bc) (hbs : bs' + 1 ≤ bs) (hdg : decode cc pc = .ok (.invokedynamic index, 5))
    (kk : ∀ q : Nat, h q = none → G.1 ≤ q → J G p l e R s m args below meth c nL Q bc' bs' (hup h q (.inl (cK, 1, .inr (.inr (.inr (.inr fun _ => some b)))))) (pc + 5) L (.ref q :: rest)) : J G p l e R s m args below meth c nL Q bc bs h pc L (.ref b :: rest) := by
  intro H locs ls cells slots hH hS hl b1' b2
  intro T hT X
  obtain ⟨k, methk, ck, ti, tk, t, file, u1, u2, u3, -⟩ := lam_use hL hx fit (lam_obj C.2.2.2.2.1 (State.WarmedH.refl s))
  obtain ⟨m0, k0, cf0, i0, p0, v1, v2, v3, v4, v5, -⟩ := hL
  cases hmid.symm.trans v1
  obtain ⟨bsm, nt, desc, site, w1, w2, w3, w4⟩ := lm_inv v4
  rw [hty] at u3
  have hsl : ((k.instanceTypes.toList.zip [(.ref b : Value)]).map fun (t, v) => narrow t v) = [.ref b] := by rw [u3]; show [narrow ty (.ref b)] = _; rw [hn]
  obtain ⟨X₁, st1⟩ := X.lambdaMakes C.1 (g := F0 m pc ls (.ref b :: rest)) rfl (by show ls.size = _; rw [hl.1, C.2.2.1]) (by rw [C.2.1]; exact hdg) (vals := [.ref b]) (rest := rest) v2 v5 v3 w1 w2 (parseLong_of_parse w3) (by rw [w4]; exact hcap.symm) rfl u1
    (by rw [X.admits.platform]; show 2 * 0 + (1 + (rest.map fun v => v.category).sum) + 3072 ≤ _; omega) (by omega) (by rw [hsl]; show slots + 1 ≤ _; omega)
    (fun i v hv => by
      rw [hsl] at hv
      match i, hv with
      | 0, hv => simp at hv; subst hv; simp [State.fitsSlot, State.slotType?, u1, u2, u3, hfit]
      | k + 1, hv => simp at hv)
  rw [hsl] at X₁ st1
  have hsz : (T.pushCell { cls := cK, slots := [(.ref b : Value)].toArray, vm := .none }).heap.size = T.heap.size + 1 := by simp [State.pushCell]
  have hnew : (T.pushCell { cls := cK, slots := [(.ref b : Value)].toArray, vm := .none }).heap[T.heap.size]? = some { cls := cK, slots := [(.ref b : Value)].toArray, vm := .none } := State.heap_pushCell_size _ _
  have hold : ∀ a : Nat, a < H.size → (T.pushCell { cls := cK, slots := [(.ref b : Value)].toArray, vm := .none }).heap[a]? = H[a]? := by
    intro a ha
    rw [← hT]
    rw [← hT] at ha
    simp [State.pushCell, Array.getElem?_push, Nat.ne_of_lt ha]
  have zq : G.1 ≤ H.size := Nat.le_trans C.2.2.2.2.2.1.2.2 hS.1
  have B0 := hH.1.bound hold
  obtain ⟨t2, q1, q2⟩ := kk H.size (B0.none (Nat.le_refl _)) zq (T.pushCell { cls := cK, slots := [(.ref b : Value)].toArray, vm := .none }).heap locs ls (cells + 1) (slots + 1)
    ⟨HWb.out (HWb.add B0 (Nat.le_refl _) zq (by
      show (T.pushCell { cls := cK, slots := [(.ref b : Value)].toArray, vm := .none }).heap[H.size]? = some (vp_cell cK _)
      rw [← hT, hnew]; rfl)), hm _⟩
    ⟨Nat.le_trans hS.1 (by rw [hsz, hT]; omega), fun a h1 h2 => (hold a (Nat.lt_of_lt_of_le h1 hS.1)).trans (hS.2.1 a h1 h2), hS.2.2⟩ hl (by omega) (by omega) _ rfl X₁
  rw [← hT] at q1
  exact ⟨t2, st1 _ q1, q2⟩
end KN
def trz : List Value := [.null, .null, .null]
theorem cal_trinit : CalI yX9_init cX9_init 3 2 := ⟨q695, q120, q696, rfl, by decide +kernel⟩
set_option maxHeartbeats 4000000 in
theorem M_trinit (G : GT) (l : Launch) (hG : GOK G) (hm : FreeG G) (h : AH) (a b q : Nat) (ha : h a = some (.inr (4, trz))) : MT G l yX9_init cX9_init 3 none 1 60 1 6 [.ref a, .ref b, .ref q] h (fun v h' => v = none ∧ ∃ q6, h q6 = none ∧ G.1 ≤ q6 ∧ h' = hup (hup h q6 (.inl (G.2.2.1 0, 6, .inl (cutn 6 fun _ => 0)))) a (.inr (4, [.ref b, .ref q6, .ref q]))) := by
  refine MT.mk (own := RX9) (by decide) rfl hG (Nat.le_of_ble_eq_true rfl) ?_
  intro p e s m below meth c args Q hargs hQ C hname
  refine J.loca (L2 := [(0, .ref a), (1, .ref b), (2, .ref q)]) rfl ?_
  refine j_aload_n C dX9_init_0 rfl 0 rfl ?_
  refine j_objInit C q697 q142 q143 (Nat.le_of_ble_eq_true rfl) (Nat.le_of_ble_eq_true rfl) dX9_init_1 ?_
  refine j_aload_n C dX9_init_4 rfl 0 rfl ?_
  refine j_bipush (v := 6) C dX9_init_5 rfl ?_
  refine j_newa (atype := .int) (ty := .int) C hm (di := 0) (N' := 6) rfl (fun _ h => by cases h) (fun _ => rfl) q199 (6, .inl (cutn 6 fun _ => 0)) (fun _ => rfl) (by decide) (by decide) (by decide) (bc' := 0) (bs' := 0) (by omega) (by omega) dX9_init_7 (fun q6 hq6 z6 => ?_)
  have hne : a ≠ q6 := fun e => by rw [← e, ha] at hq6; cases hq6
  refine j_putF C hm (fs := trz) (by rw [hup_ne hne]; exact ha) rfl in_X9 tyX9 tyX9_ok nmX9 1 (by decide) q699 rfl rfl hname rfl rfl rfl (Nat.le_of_ble_eq_true rfl) dX9_init_9 ?_
  refine j_aload_n C dX9_init_12 rfl 0 rfl ?_
  refine j_aload_n C dX9_init_13 rfl 1 rfl ?_
  refine j_putF C hm hup_self rfl in_X9 tyX9 tyX9_ok nmX9 0 (by decide) q698 rfl rfl hname rfl rfl rfl (Nat.le_of_ble_eq_true rfl) dX9_init_14 ?_
  refine j_aload_n C dX9_init_17 rfl 0 rfl ?_
  refine j_aload_n C dX9_init_18 rfl 2 rfl ?_
  refine j_putF C hm hup_self rfl in_X9 tyX9 tyX9_ok nmX9 2 (by decide) q700 rfl rfl hname rfl rfl rfl (Nat.le_of_ble_eq_true rfl) dX9_init_19 ?_
  rw [hQ]
  refine j_vret C ⟨rfl, q6, hq6, z6, ?_⟩ dX9_init_22
  rw [hup_hup, hup_hup]; rfl
