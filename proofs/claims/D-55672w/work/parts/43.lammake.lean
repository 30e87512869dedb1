/-! A LAMBDA's OBJECT MADE; Town.sum and those that call it -/
set_option maxRecDepth 100000
theorem lm_i19 {α : Type} {x : Option CpInfo} {f : Nat → Nat → Option α} {r : α} (h : Lambda.shapeOf?.match_19 (fun _ => Option α) x f (fun _ => none) = some r) : ∃ b nt, x = some (.invokeDynamic b nt) ∧ f b nt = some r := by
  split at h
  · exact ⟨_, _, rfl, h⟩
  · cases h
theorem lm_i17 {α : Type} {x : Option CpInfo} {f : Nat → Option α} {r : α} (h : Lambda.shapeOf?.match_17 (fun _ => Option α) x f (fun _ => none) = some r) : ∃ y, f y = some r := by
  split at h
  · exact ⟨_, h⟩
  · cases h
theorem lm_i15 {α : Type} {x : Array Nat} {f : Nat → Nat → Nat → Option α} {r : α} (h : Lambda.shapeOf?.match_15 (fun _ => Option α) x f (fun _ => none) = some r) : ∃ a0 a1 a2, f a0 a1 a2 = some r := by
  rcases x with ⟨L⟩
  match L, h with
  | [], h => cases h
  | [_], h => cases h
  | [_, _], h => cases h
  | [a, b, c], h => exact ⟨a, b, c, h⟩
  | _ :: _ :: _ :: _ :: _, h => cases h
theorem lm_i9 {α : Type} {x : Option CpInfo} {f : Nat → Option α} {r : α} (h : Lambda.shapeOf?.match_9 (fun _ => Option α) x f (fun _ => none) = some r) : ∃ y, f y = some r := by
  split at h
  · exact ⟨_, h⟩
  · cases h
theorem lm_i12 {α : Type} {x : Option CpInfo} {f : Nat → Nat → Option α} {r : α} (h : Lambda.shapeOf?.match_12 (fun _ => Option α) x f (fun _ => none) = some r) : ∃ y z, f y z = some r := by
  split at h
  · exact ⟨_, _, h⟩
  · cases h
theorem lm_i6 {α : Type} {x : Option FieldType} {f : String → Option α} {r : α} (h : Lambda.shapeOf?.match_6 (fun _ => Option α) x f (fun _ => none) = some r) : ∃ y, f y = some r := by
  split at h
  · exact ⟨_, h⟩
  · cases h
theorem lm_inv {cf : ClassFile} {index : Nat} {sh : Lambda.Shape} (h : Lambda.shapeOf? cf index = some sh) :
    ∃ (b nt : Nat) (desc : String) (site : MethodDescriptor), cf.constantPool[index]? = some (.invokeDynamic b nt) ∧ cf.constantPool.nameAndType? nt = some (sh.name, desc) ∧ parseMethodDescriptor desc = some site ∧ site.parameters = sh.captured := by
  unfold Lambda.shapeOf? at h
  obtain ⟨b, nt, hc, h⟩ := lm_i19 h
  obtain ⟨entries, -, h⟩ := Option.bind_eq_some_iff.mp h
  obtain ⟨bm, -, h⟩ := Option.bind_eq_some_iff.mp h
  obtain ⟨r, h⟩ := lm_i17 h
  obtain ⟨_, -, h⟩ := Option.bind_eq_some_iff.mp h
  obtain ⟨a0, a1, a2, h⟩ := lm_i15 h
  obtain ⟨d0, h⟩ := lm_i9 h
  obtain ⟨kind, r1, h⟩ := lm_i12 h
  obtain ⟨d2, h⟩ := lm_i9 h
  obtain ⟨⟨name, desc⟩, hnt, h⟩ := Option.bind_eq_some_iff.mp h
  obtain ⟨site, hsite, h⟩ := Option.bind_eq_some_iff.mp h
  obtain ⟨iface, h⟩ := lm_i6 h
  obtain ⟨⟨implClass, implName, implDesc, implItf⟩, -, h⟩ := Option.bind_eq_some_iff.mp h
  obtain ⟨x1, -, h⟩ := Option.bind_eq_some_iff.mp h
  obtain ⟨x2, -, h⟩ := Option.bind_eq_some_iff.mp h
  obtain ⟨x3, -, h⟩ := Option.bind_eq_some_iff.mp h
  obtain ⟨x4, -, h⟩ := Option.bind_eq_some_iff.mp h
  obtain ⟨x5, -, h⟩ := Option.bind_eq_some_iff.mp h
  cases h
  exact ⟨b, nt, desc, site, hc, hnt, hsite, rfl⟩
theorem HW.cons {z : Nat} {D : va_G} {h : AH} {H H1 : Heap} (hh : HW z D h H) (hk : ∀ a : Nat, a < H.size → H1[a]? = H[a]?) : HW z D h H1 := by
  obtain ⟨ws, h1, h2, h3⟩ := hh
  exact ⟨ws, h1, h2.kept (fun k q hq => hk q.1 ((h2 k q hq).lt)), h3⟩
/-- the world in which the heap is known whole -/
def pin (G : GT) (L : State → Prop) (H : Heap) : GT := (G.1, G.2.1, G.2.2.1, fun U => G.2.2.2.1 U ∧ L U, fun H' => H' = H)
theorem pin_ok {G : GT} {L : State → Prop} {H : Heap} (hG : GOK G) (hL : ∀ u U : State, u.WarmedH U.vm → L u → L U) : GOK (pin G L H) := fun u U h1 h2 h3 => ⟨hG u U h1 h2 h3.1, hL u U h1 h3.2⟩
section LM
variable {G : GT} {p : Program} {l : Launch} {e : Env} {R : Room} {s : State} {m : MethodId} {args : Array Value} {below : List Frame} {meth : Method} {c : Code} {nL : Nat} {Q : State → Prop} {bc bs : Nat} {h : AH} {pc : Nat} {L : List (Nat × Value)} {rest : List Value} {cc : ByteArray} {own : String} {ret : Option FieldType} {LL : State → Prop} {H0 : Heap}
theorem Cx.pin (C : Cx G p s m args meth c cc own nL ret) (hs : LL s) (hL : ∀ u U : State, u.WarmedH U.vm → LL u → LL U) : Cx (pin G LL H0) p s m args meth c cc own nL ret :=
  ⟨C.1, C.2.1, C.2.2.1, C.2.2.2.1, C.2.2.2.2.1, ⟨C.2.2.2.2.2.1.1, ⟨C.2.2.2.2.2.1.2.1, hs⟩, C.2.2.2.2.2.1.2.2⟩, pin_ok C.2.2.2.2.2.2.1 hL, C.2.2.2.2.2.2.2⟩
theorem j_unpin {st : List Value} (hm : FreeG G) (k : J G p l e R s m args below meth c nL Q bc bs h pc L st) : J (pin G LL H0) p l e R s m args below meth c nL Q bc bs h pc L st :=
  fun H locs ls cells slots hH hS hl b1 b2 => k H locs ls cells slots ⟨hH.1, hm H⟩ hS hl b1 b2
theorem MT.mkN {y : MethodName} {fr lo mc ms : Nat} {av : List Value} {Post : Option Value → AH → Prop} (hy : plainName y.cls = true) (hown : y.cls = own) (hG : GOK G) (hav : (lg_sl av).length ≤ nL)
    (body : ∀ (p : Program) (e : Env) (s : State) (m : MethodId) (below : List Frame) (meth : Method) (c : Code), ∀ (args : Array Value) (Q : State → Prop), args = av.toArray → Q = MQ below (SQ G Post) args s mc ms (fun q => G.1 ≤ q) → Cx G p s m args meth c cc own nL ret → s.methodNamed? y = some m → J G p l e ({ frames := fr, cells := mc, slots := ms, locals := lo }) s m args below meth c nL Q mc ms h 0 (lv_args 0 av) []) : MT G l y cc nL ret fr lo mc ms av h Post := by
  refine Met.ofW (cc := cc) (maxL := nL) (ret := ret) hy rfl ?_
  intro p e s m args below meth c s₁ B hml hv
  obtain ⟨rfl, hGW, hHW⟩ := hv
  have hts := atoms_spec (ws := ws_ y cc nL ret) B.pre
  have hts : ∀ w ∈ lw_all, w.before _ s = true := fun w h => hts w (List.mem_cons_of_mem _ h)
  have hown2 : s.vm.findClass own = some m.cls := hown ▸ findClass_of_methodNamed B.named
  have hl := lv_entry av (n := nL) hav
  rw [lg_entry_eq]
  exact body p e s m below meth c _ _ rfl rfl ⟨B.exec, B.bytes, hml, hown2, hts, hGW, hG, B.returns, B.notSynchronized⟩ B.named s.heap [] _ 0 0 hHW va_S.rf hl (by simp) (by simp)
theorem j_make (C : Cx G p s m args meth c cc own nL ret) {x : MethodName} {index : Nat} {sh : Lambda.Shape} {cK : ClassId} {nm : String} {cd : ByteArray} {iM iC a1 b1 : Nat} {rt : Option FieldType} (hL : LamV x pc index sh cK s) (hmid : s.methodNamed? x = some m) (hx : x.cls = nm) (fit : LamFit sh nm cd iM iC a1 b1 rt) {vals st : List Value} {tys : Array FieldType} (hty : (lamLaid (lamFile sh nm)).2.1 = tys) (hcap : sh.captured.length = vals.length) (hn : ((tys.toList.zip vals).map fun (t, v) => narrow t v) = vals) (hfit : ∀ (i : Nat) (v : Value), vals[i]? = some v → ∃ t, tys[i]? = some t ∧ fits t v = true)
    (hlo : (st.map fun v => v.category).sum + 3072 ≤ R.locals) {bc' bs' : Nat} (hbc : bc' + 1 ≤ bc) (hbs : bs' + vals.length ≤ bs) (hst : st = vals.reverse ++ rest) (hdg : decode cc pc = .ok (.invokedynamic index, 5))
    (kk : ∀ (H1 : Heap) (q : Nat), G.1 ≤ q → H1[q]? = some { cls := cK, slots := vals.toArray, vm := .none } → J (pin G (LamV x pc index sh cK) H1) p l e R s m args below meth c nL Q bc' bs' h (pc + 5) L (.ref q :: rest)) : J G p l e R s m args below meth c nL Q bc bs h pc L st := by
  intro H locs ls cells slots hH hS hl b1 b2
  intro T hT X
  obtain ⟨k, methk, ck, ti, tk, t, file, u1, u2, u3, -⟩ := lam_use hL hx fit (lam_obj C.2.2.2.2.1 (State.WarmedH.refl s))
  obtain ⟨m0, k0, cf0, i0, p0, v1, v2, v3, v4, v5, -⟩ := hL
  cases hmid.symm.trans v1
  obtain ⟨bsm, nt, desc, site, w1, w2, w3, w4⟩ := lm_inv v4
  rw [hty] at u3
  have hsl : ((k.instanceTypes.toList.zip vals).map fun (t, v) => narrow t v) = vals := by rw [u3]; exact hn
  obtain ⟨X₁, st1⟩ := X.lambdaMakes C.1 (g := F0 m pc ls st) rfl (by show ls.size = _; rw [hl.1, C.2.2.1]) (by rw [C.2.1]; exact hdg) (vals := vals) (rest := rest) v2 v5 v3 w1 w2 (parseLong_of_parse w3) (by rw [w4]; exact hcap.symm) hst u1
    (by rw [X.admits.platform]; show 2 * 0 + (st.map fun v => v.category).sum + 3072 ≤ _; omega) (by omega) (by rw [hsl]; omega)
    (fun i v hv => by
      rw [hsl] at hv
      obtain ⟨t, ht, hf⟩ := hfit i v (by simpa using hv)
      simp [State.fitsSlot, State.slotType?, u1, u2, u3, ht, hf])
  rw [hsl] at X₁ st1
  have hsz : (T.pushCell { cls := cK, slots := vals.toArray, vm := .none }).heap.size = T.heap.size + 1 := by simp [State.pushCell]
  have hnew : (T.pushCell { cls := cK, slots := vals.toArray, vm := .none }).heap[T.heap.size]? = some { cls := cK, slots := vals.toArray, vm := .none } := State.heap_pushCell_size _ _
  have hold : ∀ a : Nat, a < H.size → (T.pushCell { cls := cK, slots := vals.toArray, vm := .none }).heap[a]? = H[a]? := by
    intro a ha
    rw [← hT]
    rw [← hT] at ha
    simp [State.pushCell, Array.getElem?_push, Nat.ne_of_lt ha]
  obtain ⟨t2, q1, q2⟩ := kk (T.pushCell { cls := cK, slots := vals.toArray, vm := .none }).heap T.heap.size (by rw [hT]; exact Nat.le_trans C.2.2.2.2.2.1.2.2 hS.1) hnew (T.pushCell { cls := cK, slots := vals.toArray, vm := .none }).heap locs ls (cells + 1) (slots + vals.toArray.size) ⟨hH.1.cons hold, rfl⟩
    ⟨Nat.le_trans hS.1 (by rw [hsz, hT]; omega), fun a h1 h2 => (hold a (Nat.lt_of_lt_of_le h1 hS.1)).trans (hS.2.1 a h1 h2), hS.2.2⟩ hl (by omega) (by simp; omega) _ rfl X₁
  exact ⟨t2, st1 _ q1, q2⟩
end LM
abbrev FBT : Type := TS → Int32 → Int32 → (Int32 → TS → Prop) → Prop
/-- a call of OfPair.of on the object at q does FB -/
def LamRow (G : GT) (l : Launch) (ad : Nat → Nat) (q : Addr) (FB : FBT) : Prop :=
  ∀ {p : Program} {e : Env} {R : Room} {s : State} {m : MethodId} {args : Array Value} {below : List Frame} {meth : Method} {c : Code} {nL : Nat} {Q : State → Prop} {bc bs : Nat} {h : AH} {pc : Nat} {L : List (Nat × Value)} {rest : List Value} {cc : ByteArray} {ret : Option FieldType} {count : Nat} {T : TS} {i j : Int32} {P : Int32 → TS → Prop} (C : Cx G p s m args meth c cc RX2 nL ret), FB T i j P → 3 ≤ R.frames → (rest.map fun v => v.category).sum ≤ 8 → 80 ≤ R.locals → decode cc pc = .ok (.invokeinterface 51 count, 5) →
    (∀ (r : Int32) (S' : TS), P r S' → J G p l e R s m args below meth c nL Q bc bs (TH G.2.2.1 h ad S') (pc + 5) L (.int r :: rest)) → J G p l e R s m args below meth c nL Q bc bs (TH G.2.2.1 h ad T) pc L (.int j :: .int i :: .ref q :: rest)
def yOf : MethodName := ({ cls := "MasterPrices$OfPair", name := "of", desc := "(II)I" } : Jvm.MethodName)
def LamG (G : GT) : Prop := ∀ U : State, G.2.2.2.1 U → (∃ cK, LamV lamX0 2 64 lamS0 cK U) ∧ (∃ cK, LamV lamX1 2 57 lamS1 cK U) ∧ (∃ cK, LamV lamX2 2 65 lamS2 cK U) ∧ (∃ cK, LamV lamX3 3 66 lamS3 cK U) ∧ (∃ cK, LamV lamX4 3 69 lamS4 cK U) ∧ (∃ cK, LamV lamX5 3 70 lamS5 cK U) ∧ (∃ cK, LamV lamX6 78 34 lamS6 cK U)
theorem pin_tab {G : GT} {L : State → Prop} {H : Heap} (hT : TabF G) : TabF (pin G L H) := fun w hw ht U hU => hT w hw ht U hU.1
/-- a contract of the town's that makes cells -/
def TMiA (G : GT) (l : Launch) (y : MethodName) (cc : ByteArray) (nL : Nat) (ret : FieldType) (fr lo mc ms : Nat) (av : List Value) (h : AH) (ad : Nat → Nat) (T : TS) (P : Int32 → TS → Prop) : Prop := MT G l y cc nL (some ret) fr lo mc ms av (TH G.2.2.1 h ad T) (fun v h' => ∃ (r : Int32) (S' : TS), v = some (.int r) ∧ h' = TH G.2.2.1 h ad S' ∧ P r S')
theorem cal_tsum : CalV yX2_sum RX2 cX2_sum 5 (some .int) 1 := ⟨q495, q496, q94, q497, by decide +kernel⟩
def L_tsum_15 (FB : FBT) (K42 : TS → Int32 → Prop) (P : Int32 → TS → Prop) (f3 : Int32) : Nat → TS → Int32 → Int32 → Prop
  | 0, _, _, _ => False
  | n + 1, T, z2, z4 => ((T 1) ≤ z4 → K42 T z2) ∧ (¬ (T 1) ≤ z4 → FB T f3 z4 (fun r_4 T_3 => L_tsum_15 FB K42 P f3 n T_3 (z2 + r_4) (z4 + 1)))
def L_tsum_4 (FB : FBT) (P : Int32 → TS → Prop) : Nat → TS → Int32 → Int32 → Prop
  | 0, _, _, _ => False
  | n + 1, T, z2, z3 => ((T 0) ≤ z3 → P z2 T) ∧ (¬ (T 0) ≤ z3 → L_tsum_15 FB (fun T_5 w2_6 => L_tsum_4 FB P n T_5 w2_6 (z3 + 1)) P z3 NF T z2 0)
def F_tsum (FB : FBT) (T : TS) (P : Int32 → TS → Prop) : Prop := L_tsum_4 FB  P NF T 0 0
set_option maxHeartbeats 4000000 in
theorem WL_tsum_15 {G : GT} {p : Program} {l : Launch} {e : Env} {s : State} {m : MethodId} {args : Array Value} {below : List Frame} {meth : Method} {c : Code} {h : AH} {ad : Nat → Nat} {Q : State → Prop} (C : Cx G p s m args meth c cX2_sum RX2 5 (some .int)) (hG : GOK G) (hg : Tg ad) {q : Addr} {FB : FBT} (hrow : LamRow G l ad q FB) {P : Int32 → TS → Prop} (hQ : Q = MQ below (SQ G (fun v h' => ∃ (r : Int32) (S' : TS), v = some (.int r) ∧ h' = (TH G.2.2.1 h ad S') ∧ P r S')) args s (({ frames := 4, cells := 0, slots := 0, locals := 120 } : Room) : Room).cells (({ frames := 4, cells := 0, slots := 0, locals := 120 } : Room) : Room).slots (fun q => G.1 ≤ q)) {K42 : TS → Int32 → Prop} {f3 : Int32} (hK42 : ∀ (S0 : TS) (w2 : Int32), K42 S0 w2 → J G p l e ({ frames := 4, cells := 0, slots := 0, locals := 120 } : Room) s m args below meth c 5 Q 0 0 (TH G.2.2.1 h ad S0) 42 [(0, .ref (ad 0)), (1, .ref q), (2, .int w2), (3, .int f3)] []) :
    ∀ (n : Nat) (T : TS) (z2 : Int32) (z4 : Int32), L_tsum_15 FB K42 P f3 n T z2 z4 → J G p l e ({ frames := 4, cells := 0, slots := 0, locals := 120 } : Room) s m args below meth c 5 Q 0 0 (TH G.2.2.1 h ad T) 15 [(0, .ref (ad 0)), (1, .ref q), (2, .int z2), (3, .int f3), (4, .int z4)] [] := by
  intro n
  induction n with
  | zero => intro T z2 z4 hF; exact hF.elim
  | succ n ih =>
    intro T z2 z4 hF
    unfold L_tsum_15 at hF
    refine j_iload C dX2_sum_15 4 rfl ?_
    refine j_aload_n C dX2_sum_17 rfl 0 rfl ?_
    refine jtG6 C hg dX2_sum_18 ?_
    refine j_icmp_ge (tgt := 42) C dX2_sum_21 (by decide) (fun hc_2 => ?_) (fun hc_2 => ?_)
    · replace hF := hF.1 hc_2
      exact J.locals [0, 1, 2, 3] (hK42 _ _ hF) rfl
    · replace hF := hF.2 hc_2
      refine j_iload_n C dX2_sum_24 rfl 2 rfl ?_
      refine j_aload_n C dX2_sum_25 rfl 1 rfl ?_
      refine j_iload_n C dX2_sum_26 rfl 3 rfl ?_
      refine j_iload C dX2_sum_27 4 rfl ?_
      refine hrow C hF (Nat.le_of_ble_eq_true rfl) (Nat.le_of_ble_eq_true rfl) (Nat.le_of_ble_eq_true rfl) dX2_sum_29 (fun r_4 T_3 hF => ?_)
      refine j_iadd C dX2_sum_34 ?_
      refine j_istore_n (L2 := [(2, .int (z2 + r_4)), (0, .ref (ad 0)), (1, .ref q), (3, .int f3), (4, .int z4)]) C dX2_sum_35 rfl (by decide) rfl ?_
      refine j_iinc (q := 4) (v := z4 + 1) (L2 := [(4, .int (z4 + 1)), (2, .int (z2 + r_4)), (0, .ref (ad 0)), (1, .ref q), (3, .int f3)]) C dX2_sum_36 rfl rfl (by decide) rfl ?_
      refine j_goto (tgt := 15) C dX2_sum_39 (by decide) ?_
      exact J.locals [2, 3, 1, 4, 0] (ih _ _ _ hF) rfl
set_option maxHeartbeats 4000000 in
theorem WL_tsum_4 {G : GT} {p : Program} {l : Launch} {e : Env} {s : State} {m : MethodId} {args : Array Value} {below : List Frame} {meth : Method} {c : Code} {h : AH} {ad : Nat → Nat} {Q : State → Prop} (C : Cx G p s m args meth c cX2_sum RX2 5 (some .int)) (hG : GOK G) (hg : Tg ad) {q : Addr} {FB : FBT} (hrow : LamRow G l ad q FB) {P : Int32 → TS → Prop} (hQ : Q = MQ below (SQ G (fun v h' => ∃ (r : Int32) (S' : TS), v = some (.int r) ∧ h' = (TH G.2.2.1 h ad S') ∧ P r S')) args s (({ frames := 4, cells := 0, slots := 0, locals := 120 } : Room) : Room).cells (({ frames := 4, cells := 0, slots := 0, locals := 120 } : Room) : Room).slots (fun q => G.1 ≤ q)) :
    ∀ (n : Nat) (T : TS) (z2 : Int32) (z3 : Int32), L_tsum_4 FB P n T z2 z3 → J G p l e ({ frames := 4, cells := 0, slots := 0, locals := 120 } : Room) s m args below meth c 5 Q 0 0 (TH G.2.2.1 h ad T) 4 [(0, .ref (ad 0)), (1, .ref q), (2, .int z2), (3, .int z3)] [] := by
  intro n
  induction n with
  | zero => intro T z2 z3 hF; exact hF.elim
  | succ n ih =>
    intro T z2 z3 hF
    unfold L_tsum_4 at hF
    refine j_iload_n C dX2_sum_4 rfl 3 rfl ?_
    refine j_aload_n C dX2_sum_5 rfl 0 rfl ?_
    refine jtG5 C hg dX2_sum_6 ?_
    refine j_icmp_ge (tgt := 48) C dX2_sum_9 (by decide) (fun hc_1 => ?_) (fun hc_1 => ?_)
    · replace hF := hF.1 hc_1
      refine j_iload_n C dX2_sum_48 rfl 2 rfl ?_
      rw [hQ]
      exact j_iret C rfl ⟨_, _, rfl, rfl, hF⟩ dX2_sum_49
    · replace hF := hF.2 hc_1
      refine j_iconst (v := 0) C dX2_sum_12 rfl ?_
      refine j_istore (L2 := [(4, .int 0), (0, .ref (ad 0)), (1, .ref q), (2, .int z2), (3, .int z3)]) C dX2_sum_13 (by decide) rfl ?_
      refine J.locals [1, 2, 3, 4, 0] (WL_tsum_15 C hG hg hrow hQ ?_ NF _ _ _ hF) rfl
      · intro T_5 w2_6 hF
        refine j_iinc (q := 3) (v := z3 + 1) (L2 := [(3, .int (z3 + 1)), (0, .ref (ad 0)), (1, .ref q), (2, .int w2_6)]) C dX2_sum_42 rfl rfl (by decide) rfl ?_
        refine j_goto (tgt := 4) C dX2_sum_45 (by decide) ?_
        exact J.locals [1, 2, 3, 0] (ih _ _ _ hF) rfl
set_option maxHeartbeats 4000000 in
theorem M_tsum (G : GT) (l : Launch) (hG : GOK G) (h : AH) (ad : Nat → Nat) (hg : Tg ad) (q : Addr) (FB : FBT) (hrow : LamRow G l ad q FB) (T : TS) (P : Int32 → TS → Prop) (hF : F_tsum FB T P) : TMi G l yX2_sum cX2_sum 5 .int 4 120 [.ref (ad 0), .ref q] h ad T P := by
  refine MT.mk (own := RX2) (by decide) rfl hG (Nat.le_of_ble_eq_true rfl) ?_
  intro p e s m below meth c args Q hargs hQ C _
  refine J.loca (L2 := [(0, .ref (ad 0)), (1, .ref q)]) rfl ?_
  unfold F_tsum at hF
  refine j_iconst (v := 0) C dX2_sum_0 rfl ?_
  refine j_istore_n (L2 := [(2, .int 0), (0, .ref (ad 0)), (1, .ref q)]) C dX2_sum_1 rfl (by decide) rfl ?_
  refine j_iconst (v := 0) C dX2_sum_2 rfl ?_
  refine j_istore_n (L2 := [(3, .int 0), (2, .int 0), (0, .ref (ad 0)), (1, .ref q)]) C dX2_sum_3 rfl (by decide) rfl ?_
  refine J.locals [2, 3, 1, 0] (WL_tsum_4 C hG hg hrow hQ NF _ _ _ hF) rfl
theorem lamRow0 {G : GT} {l : Launch} {ad : Nat → Nat} (hG : GOK G) (hT : TabF G) (hg : Tg ad) {cK : ClassId} {H1 : Heap} {q : Nat} (hq : H1[q]? = some { cls := cK, slots := ([.ref (ad 0)] : List Value).toArray, vm := .none }) : LamRow (pin G (LamV lamX0 2 64 lamS0 cK) H1) l ad q F_tlambda_costOfPairs_1 := by
  intro p e R s m args below meth c nL Q bc bs h pc L rest cc ret count T i j P C hF hfr hcat hlo hdg kk
  have hG' : GOK (pin G (LamV lamX0 2 64 lamS0 cK) H1) := pin_ok hG (fun u U hW h => LamV.moved hW h)
  refine j_lamA (mc := 0) (ms := 0) (n1 := "") (d1 := "") C (x := yOf) C.2.2.2.2.2.1.2.1.2 (nm := RX2) rfl lamFit0 lamFld0_0 (by decide) q499 (C.tab (pin_tab hT) q501 rfl) (C.tab (pin_tab hT) q500 rfl) ⟨rfl, rfl, by decide +kernel⟩ ⟨by decide, by decide⟩ (by decide +kernel) (b := ad 0) (fun H hH => ⟨{ cls := cK, slots := ([.ref (ad 0)] : List Value).toArray, vm := .none }, by rw [hH.2]; exact hq, rfl, rfl, rfl⟩) (TH_at hg (k := 0) (by decide)) rfl (y := yX2_lambda_costOfPairs_1) (M_tlambda_costOfPairs_1 (pin G (LamV lamX0 2 64 lamS0 cK) H1) l hG' h ad hg T i j P hF) cal_tlambda_costOfPairs_1 ⟨rfl, rfl, by decide +kernel⟩ (fun v h' hv => by obtain ⟨r, S', rfl, -⟩ := hv; exact ⟨r, rfl⟩) (Nat.le_trans (Nat.le_of_ble_eq_true rfl) hfr) hcat (Nat.le_trans (Nat.le_of_ble_eq_true rfl) hlo) hdg (fun v h' hv => by obtain ⟨r, S', rfl, rfl, hP⟩ := hv; exact kk r S' hP)
def F_tcostOfPairs (T : TS) (P : Int32 → TS → Prop) : Prop := F_tsum F_tlambda_costOfPairs_1 T P
theorem cal_tcostOfPairs : CalV yX2_costOfPairs RX2 cX2_costOfPairs 1 (some .int) 0 := ⟨q488, q489, q94, q490, by decide +kernel⟩
theorem M_tcostOfPairs (G : GT) (l : Launch) (hG : GOK G) (hT : TabF G) (hLm : LamG G) (hm : FreeG G) (h : AH) (ad : Nat → Nat) (hg : Tg ad) (T : TS) (P : Int32 → TS → Prop) (hF : F_tcostOfPairs T P) : TMiA G l yX2_costOfPairs cX2_costOfPairs 1 .int 5 3090 1 1 [.ref (ad 0)] h ad T P := by
  refine MT.mkN (own := RX2) (by decide) rfl hG (Nat.le_of_ble_eq_true rfl) ?_
  intro p e s m below meth c args Q hargs hQ C hmid
  obtain ⟨cK, hL⟩ := (hLm s C.2.2.2.2.2.1.2.1).1
  refine J.loca (L2 := [(0, .ref (ad 0))]) rfl ?_
  refine j_aload_n C dX2_costOfPairs_0 rfl 0 rfl ?_
  refine j_aload_n C dX2_costOfPairs_1 rfl 0 rfl ?_
  refine j_make (vals := [.ref (ad 0)]) (tys := #[.object "MasterPrices$Town"]) (rest := [.ref (ad 0)]) (bc' := 0) (bs' := 0) C hL hmid (nm := RX2) rfl lamFit0 (by decide +kernel) rfl rfl (fun i v hv => by
    match i, hv with
    | 0, hv => cases hv; exact ⟨_, rfl, rfl⟩
    | k + 1, hv => cases hv) (Nat.le_of_ble_eq_true rfl) (Nat.le_of_ble_eq_true rfl) (Nat.le_of_ble_eq_true rfl) rfl dX2_costOfPairs_2 (fun H1 q _ hq => ?_)
  have hmv : ∀ u U : State, u.WarmedH U.vm → LamV lamX0 2 64 lamS0 cK u → LamV lamX0 2 64 lamS0 cK U := fun u U hW h => LamV.moved hW h
  refine jt_calli hg (C.pin hL hmv) (As := [.ref q]) (rest := []) (M_tsum (pin G (LamV lamX0 2 64 lamS0 cK) H1) l (pin_ok hG hmv) h ad hg q _ (lamRow0 hG hT hg hq) T P hF) q494 cal_tsum rfl rfl (Nat.le_of_ble_eq_true rfl) ⟨Nat.le_of_ble_eq_true rfl, Nat.le_of_ble_eq_true rfl⟩ dX2_costOfPairs_7 (fun r S' hP => ?_)
  refine j_unpin (G := G) hm ?_
  rw [hQ]
  exact j_iret C rfl ⟨_, _, rfl, rfl, hP⟩ dX2_costOfPairs_10
theorem lamRow1 {G : GT} {l : Launch} {ad : Nat → Nat} (hG : GOK G) (hT : TabF G) (hg : Tg ad) {cK : ClassId} {H1 : Heap} {q : Nat} (hq : H1[q]? = some { cls := cK, slots := ([.ref (ad 0)] : List Value).toArray, vm := .none }) : LamRow (pin G (LamV lamX1 2 57 lamS1 cK) H1) l ad q F_tlambda_countPairs_0 := by
  intro p e R s m args below meth c nL Q bc bs h pc L rest cc ret count T i j P C hF hfr hcat hlo hdg kk
  have hG' : GOK (pin G (LamV lamX1 2 57 lamS1 cK) H1) := pin_ok hG (fun u U hW h => LamV.moved hW h)
  refine j_lamA (mc := 0) (ms := 0) (n1 := "") (d1 := "") C (x := yOf) C.2.2.2.2.2.1.2.1.2 (nm := RX2) rfl lamFit1 lamFld1_0 (by decide) q499 (C.tab (pin_tab hT) q501 rfl) (C.tab (pin_tab hT) q500 rfl) ⟨rfl, rfl, by decide +kernel⟩ ⟨by decide, by decide⟩ (by decide +kernel) (b := ad 0) (fun H hH => ⟨{ cls := cK, slots := ([.ref (ad 0)] : List Value).toArray, vm := .none }, by rw [hH.2]; exact hq, rfl, rfl, rfl⟩) (TH_at hg (k := 0) (by decide)) rfl (y := yX2_lambda_countPairs_0) (M_tlambda_countPairs_0 (pin G (LamV lamX1 2 57 lamS1 cK) H1) l hG' h ad hg T i j P hF) cal_tlambda_countPairs_0 ⟨rfl, rfl, by decide +kernel⟩ (fun v h' hv => by obtain ⟨r, S', rfl, -⟩ := hv; exact ⟨r, rfl⟩) (Nat.le_trans (Nat.le_of_ble_eq_true rfl) hfr) hcat (Nat.le_trans (Nat.le_of_ble_eq_true rfl) hlo) hdg (fun v h' hv => by obtain ⟨r, S', rfl, rfl, hP⟩ := hv; exact kk r S' hP)
def F_tcountPairs (T : TS) (P : Int32 → TS → Prop) : Prop := F_tsum F_tlambda_countPairs_0 T P
theorem cal_tcountPairs : CalV yX2_countPairs RX2 cX2_countPairs 1 (some .int) 0 := ⟨q962, q963, q94, q964, by decide +kernel⟩
theorem M_tcountPairs (G : GT) (l : Launch) (hG : GOK G) (hT : TabF G) (hLm : LamG G) (hm : FreeG G) (h : AH) (ad : Nat → Nat) (hg : Tg ad) (T : TS) (P : Int32 → TS → Prop) (hF : F_tcountPairs T P) : TMiA G l yX2_countPairs cX2_countPairs 1 .int 5 3090 1 1 [.ref (ad 0)] h ad T P := by
  refine MT.mkN (own := RX2) (by decide) rfl hG (Nat.le_of_ble_eq_true rfl) ?_
  intro p e s m below meth c args Q hargs hQ C hmid
  obtain ⟨cK, hL⟩ := (hLm s C.2.2.2.2.2.1.2.1).2.1
  refine J.loca (L2 := [(0, .ref (ad 0))]) rfl ?_
  refine j_aload_n C dX2_countPairs_0 rfl 0 rfl ?_
  refine j_aload_n C dX2_countPairs_1 rfl 0 rfl ?_
  refine j_make (vals := [.ref (ad 0)]) (tys := #[.object "MasterPrices$Town"]) (rest := [.ref (ad 0)]) (bc' := 0) (bs' := 0) C hL hmid (nm := RX2) rfl lamFit1 (by decide +kernel) rfl rfl (fun i v hv => by
    match i, hv with
    | 0, hv => cases hv; exact ⟨_, rfl, rfl⟩
    | k + 1, hv => cases hv) (Nat.le_of_ble_eq_true rfl) (Nat.le_of_ble_eq_true rfl) (Nat.le_of_ble_eq_true rfl) rfl dX2_countPairs_2 (fun H1 q _ hq => ?_)
  have hmv : ∀ u U : State, u.WarmedH U.vm → LamV lamX1 2 57 lamS1 cK u → LamV lamX1 2 57 lamS1 cK U := fun u U hW h => LamV.moved hW h
  refine jt_calli hg (C.pin hL hmv) (As := [.ref q]) (rest := []) (M_tsum (pin G (LamV lamX1 2 57 lamS1 cK) H1) l (pin_ok hG hmv) h ad hg q _ (lamRow1 hG hT hg hq) T P hF) q494 cal_tsum rfl rfl (Nat.le_of_ble_eq_true rfl) ⟨Nat.le_of_ble_eq_true rfl, Nat.le_of_ble_eq_true rfl⟩ dX2_countPairs_7 (fun r S' hP => ?_)
  refine j_unpin (G := G) hm ?_
  rw [hQ]
  exact j_iret C rfl ⟨_, _, rfl, rfl, hP⟩ dX2_countPairs_10
theorem lamRow2 {G : GT} {l : Launch} {ad : Nat → Nat} (hG : GOK G) (hT : TabF G) (hg : Tg ad) {cK : ClassId} {H1 : Heap} {q : Nat} (hq : H1[q]? = some { cls := cK, slots := ([.ref (ad 0)] : List Value).toArray, vm := .none }) : LamRow (pin G (LamV lamX2 2 65 lamS2 cK) H1) l ad q F_tlambda_countBarred_2 := by
  intro p e R s m args below meth c nL Q bc bs h pc L rest cc ret count T i j P C hF hfr hcat hlo hdg kk
  have hG' : GOK (pin G (LamV lamX2 2 65 lamS2 cK) H1) := pin_ok hG (fun u U hW h => LamV.moved hW h)
  refine j_lamA (mc := 0) (ms := 0) (n1 := "") (d1 := "") C (x := yOf) C.2.2.2.2.2.1.2.1.2 (nm := RX2) rfl lamFit2 lamFld2_0 (by decide) q499 (C.tab (pin_tab hT) q501 rfl) (C.tab (pin_tab hT) q500 rfl) ⟨rfl, rfl, by decide +kernel⟩ ⟨by decide, by decide⟩ (by decide +kernel) (b := ad 0) (fun H hH => ⟨{ cls := cK, slots := ([.ref (ad 0)] : List Value).toArray, vm := .none }, by rw [hH.2]; exact hq, rfl, rfl, rfl⟩) (TH_at hg (k := 0) (by decide)) rfl (y := yX2_lambda_countBarred_2) (M_tlambda_countBarred_2 (pin G (LamV lamX2 2 65 lamS2 cK) H1) l hG' h ad hg T i j P hF) cal_tlambda_countBarred_2 ⟨rfl, rfl, by decide +kernel⟩ (fun v h' hv => by obtain ⟨r, S', rfl, -⟩ := hv; exact ⟨r, rfl⟩) (Nat.le_trans (Nat.le_of_ble_eq_true rfl) hfr) hcat (Nat.le_trans (Nat.le_of_ble_eq_true rfl) hlo) hdg (fun v h' hv => by obtain ⟨r, S', rfl, rfl, hP⟩ := hv; exact kk r S' hP)
def F_tcountBarred (T : TS) (P : Int32 → TS → Prop) : Prop := F_tsum F_tlambda_countBarred_2 T P
theorem cal_tcountBarred : CalV yX2_countBarred RX2 cX2_countBarred 1 (some .int) 0 := ⟨q1804, q1805, q94, q1806, by decide +kernel⟩
theorem M_tcountBarred (G : GT) (l : Launch) (hG : GOK G) (hT : TabF G) (hLm : LamG G) (hm : FreeG G) (h : AH) (ad : Nat → Nat) (hg : Tg ad) (T : TS) (P : Int32 → TS → Prop) (hF : F_tcountBarred T P) : TMiA G l yX2_countBarred cX2_countBarred 1 .int 5 3090 1 1 [.ref (ad 0)] h ad T P := by
  refine MT.mkN (own := RX2) (by decide) rfl hG (Nat.le_of_ble_eq_true rfl) ?_
  intro p e s m below meth c args Q hargs hQ C hmid
  obtain ⟨cK, hL⟩ := (hLm s C.2.2.2.2.2.1.2.1).2.2.1
  refine J.loca (L2 := [(0, .ref (ad 0))]) rfl ?_
  refine j_aload_n C dX2_countBarred_0 rfl 0 rfl ?_
  refine j_aload_n C dX2_countBarred_1 rfl 0 rfl ?_
  refine j_make (vals := [.ref (ad 0)]) (tys := #[.object "MasterPrices$Town"]) (rest := [.ref (ad 0)]) (bc' := 0) (bs' := 0) C hL hmid (nm := RX2) rfl lamFit2 (by decide +kernel) rfl rfl (fun i v hv => by
    match i, hv with
    | 0, hv => cases hv; exact ⟨_, rfl, rfl⟩
    | k + 1, hv => cases hv) (Nat.le_of_ble_eq_true rfl) (Nat.le_of_ble_eq_true rfl) (Nat.le_of_ble_eq_true rfl) rfl dX2_countBarred_2 (fun H1 q _ hq => ?_)
  have hmv : ∀ u U : State, u.WarmedH U.vm → LamV lamX2 2 65 lamS2 cK u → LamV lamX2 2 65 lamS2 cK U := fun u U hW h => LamV.moved hW h
  refine jt_calli hg (C.pin hL hmv) (As := [.ref q]) (rest := []) (M_tsum (pin G (LamV lamX2 2 65 lamS2 cK) H1) l (pin_ok hG hmv) h ad hg q _ (lamRow2 hG hT hg hq) T P hF) q494 cal_tsum rfl rfl (Nat.le_of_ble_eq_true rfl) ⟨Nat.le_of_ble_eq_true rfl, Nat.le_of_ble_eq_true rfl⟩ dX2_countBarred_7 (fun r S' hP => ?_)
  refine j_unpin (G := G) hm ?_
  rw [hQ]
  exact j_iret C rfl ⟨_, _, rfl, rfl, hP⟩ dX2_countBarred_10
theorem lamRow3 {G : GT} {l : Launch} {ad : Nat → Nat} (hG : GOK G) (hT : TabF G) (hg : Tg ad) (x1 : Int32) {cK : ClassId} {H1 : Heap} {q : Nat} (hq : H1[q]? = some { cls := cK, slots := ([.ref (ad 0), .int x1] : List Value).toArray, vm := .none }) : LamRow (pin G (LamV lamX3 3 66 lamS3 cK) H1) l ad q (fun T i j P => F_tlambda_yearsAt_3 T x1 i j P) := by
  intro p e R s m args below meth c nL Q bc bs h pc L rest cc ret count T i j P C hF hfr hcat hlo hdg kk
  have hG' : GOK (pin G (LamV lamX3 3 66 lamS3 cK) H1) := pin_ok hG (fun u U hW h => LamV.moved hW h)
  refine j_lamB (mc := 0) (ms := 0) C (x := yOf) C.2.2.2.2.2.1.2.1.2 (nm := RX2) rfl lamFit3 lamFld3_0 lamFld3_1 (by decide) q499 (C.tab (pin_tab hT) q501 rfl) (C.tab (pin_tab hT) q500 rfl) ⟨rfl, rfl, by decide +kernel⟩ ⟨by decide, by decide⟩ (by decide +kernel) (b := ad 0) (fun H hH => ⟨{ cls := cK, slots := ([.ref (ad 0), .int x1] : List Value).toArray, vm := .none }, by rw [hH.2]; exact hq, rfl, rfl, rfl⟩) (TH_at hg (k := 0) (by decide)) rfl (y := yX2_lambda_yearsAt_3) (M_tlambda_yearsAt_3 (pin G (LamV lamX3 3 66 lamS3 cK) H1) l hG' h ad hg T x1 i j P hF) cal_tlambda_yearsAt_3 ⟨rfl, rfl, by decide +kernel⟩ (fun v h' hv => by obtain ⟨r, S', rfl, -⟩ := hv; exact ⟨r, rfl⟩) (Nat.le_trans (Nat.le_of_ble_eq_true rfl) hfr) hcat (Nat.le_trans (Nat.le_of_ble_eq_true rfl) hlo) hdg (fun v h' hv => by obtain ⟨r, S', rfl, rfl, hP⟩ := hv; exact kk r S' hP)
def F_tyearsAt (T : TS) (x1 : Int32) (P : Int32 → TS → Prop) : Prop := F_tsum (fun T i j P => F_tlambda_yearsAt_3 T x1 i j P) T P
theorem cal_tyearsAt : CalV yX2_yearsAt RX2 cX2_yearsAt 2 (some .int) 1 := ⟨q1200, q1201, q94, q1202, by decide +kernel⟩
theorem M_tyearsAt (G : GT) (l : Launch) (hG : GOK G) (hT : TabF G) (hLm : LamG G) (hm : FreeG G) (h : AH) (ad : Nat → Nat) (hg : Tg ad) (T : TS) (x1 : Int32) (P : Int32 → TS → Prop) (hF : F_tyearsAt T x1 P) : TMiA G l yX2_yearsAt cX2_yearsAt 2 .int 5 3090 1 2 [.ref (ad 0), .int x1] h ad T P := by
  refine MT.mkN (own := RX2) (by decide) rfl hG (Nat.le_of_ble_eq_true rfl) ?_
  intro p e s m below meth c args Q hargs hQ C hmid
  obtain ⟨cK, hL⟩ := (hLm s C.2.2.2.2.2.1.2.1).2.2.2.1
  refine J.loca (L2 := [(0, .ref (ad 0)), (1, .int x1)]) rfl ?_
  refine j_aload_n C dX2_yearsAt_0 rfl 0 rfl ?_
  refine j_aload_n C dX2_yearsAt_1 rfl 0 rfl ?_
  refine j_iload_n C dX2_yearsAt_2 rfl 1 rfl ?_
  refine j_make (vals := [.ref (ad 0), .int x1]) (tys := #[.object "MasterPrices$Town", .int]) (rest := [.ref (ad 0)]) (bc' := 0) (bs' := 0) C hL hmid (nm := RX2) rfl lamFit3 (by decide +kernel) rfl rfl (fun i v hv => by
    match i, hv with
    | 0, hv => cases hv; exact ⟨_, rfl, rfl⟩
    | 1, hv => cases hv; exact ⟨_, rfl, rfl⟩
    | k + 2, hv => cases hv) (Nat.le_of_ble_eq_true rfl) (Nat.le_of_ble_eq_true rfl) (Nat.le_of_ble_eq_true rfl) rfl dX2_yearsAt_3 (fun H1 q _ hq => ?_)
  have hmv : ∀ u U : State, u.WarmedH U.vm → LamV lamX3 3 66 lamS3 cK u → LamV lamX3 3 66 lamS3 cK U := fun u U hW h => LamV.moved hW h
  refine jt_calli hg (C.pin hL hmv) (As := [.ref q]) (rest := []) (M_tsum (pin G (LamV lamX3 3 66 lamS3 cK) H1) l (pin_ok hG hmv) h ad hg q _ (lamRow3 hG hT hg x1 hq) T P hF) q494 cal_tsum rfl rfl (Nat.le_of_ble_eq_true rfl) ⟨Nat.le_of_ble_eq_true rfl, Nat.le_of_ble_eq_true rfl⟩ dX2_yearsAt_8 (fun r S' hP => ?_)
  refine j_unpin (G := G) hm ?_
  rw [hQ]
  exact j_iret C rfl ⟨_, _, rfl, rfl, hP⟩ dX2_yearsAt_11
theorem lamRow4 {G : GT} {l : Launch} {ad : Nat → Nat} (hG : GOK G) (hT : TabF G) (hg : Tg ad) (x1 : Int32) {cK : ClassId} {H1 : Heap} {q : Nat} (hq : H1[q]? = some { cls := cK, slots := ([.ref (ad 0), .int x1] : List Value).toArray, vm := .none }) : LamRow (pin G (LamV lamX4 3 69 lamS4 cK) H1) l ad q (fun T i j P => F_tlambda_yearsOf_4 T x1 i j P) := by
  intro p e R s m args below meth c nL Q bc bs h pc L rest cc ret count T i j P C hF hfr hcat hlo hdg kk
  have hG' : GOK (pin G (LamV lamX4 3 69 lamS4 cK) H1) := pin_ok hG (fun u U hW h => LamV.moved hW h)
  refine j_lamB (mc := 0) (ms := 0) C (x := yOf) C.2.2.2.2.2.1.2.1.2 (nm := RX2) rfl lamFit4 lamFld4_0 lamFld4_1 (by decide) q499 (C.tab (pin_tab hT) q501 rfl) (C.tab (pin_tab hT) q500 rfl) ⟨rfl, rfl, by decide +kernel⟩ ⟨by decide, by decide⟩ (by decide +kernel) (b := ad 0) (fun H hH => ⟨{ cls := cK, slots := ([.ref (ad 0), .int x1] : List Value).toArray, vm := .none }, by rw [hH.2]; exact hq, rfl, rfl, rfl⟩) (TH_at hg (k := 0) (by decide)) rfl (y := yX2_lambda_yearsOf_4) (M_tlambda_yearsOf_4 (pin G (LamV lamX4 3 69 lamS4 cK) H1) l hG' h ad hg T x1 i j P hF) cal_tlambda_yearsOf_4 ⟨rfl, rfl, by decide +kernel⟩ (fun v h' hv => by obtain ⟨r, S', rfl, -⟩ := hv; exact ⟨r, rfl⟩) (Nat.le_trans (Nat.le_of_ble_eq_true rfl) hfr) hcat (Nat.le_trans (Nat.le_of_ble_eq_true rfl) hlo) hdg (fun v h' hv => by obtain ⟨r, S', rfl, rfl, hP⟩ := hv; exact kk r S' hP)
def F_tyearsOf (T : TS) (x1 : Int32) (P : Int32 → TS → Prop) : Prop := F_tsum (fun T i j P => F_tlambda_yearsOf_4 T x1 i j P) T P
theorem cal_tyearsOf : CalV yX2_yearsOf RX2 cX2_yearsOf 2 (some .int) 1 := ⟨q1158, q1159, q94, q1160, by decide +kernel⟩
theorem M_tyearsOf (G : GT) (l : Launch) (hG : GOK G) (hT : TabF G) (hLm : LamG G) (hm : FreeG G) (h : AH) (ad : Nat → Nat) (hg : Tg ad) (T : TS) (x1 : Int32) (P : Int32 → TS → Prop) (hF : F_tyearsOf T x1 P) : TMiA G l yX2_yearsOf cX2_yearsOf 2 .int 5 3090 1 2 [.ref (ad 0), .int x1] h ad T P := by
  refine MT.mkN (own := RX2) (by decide) rfl hG (Nat.le_of_ble_eq_true rfl) ?_
  intro p e s m below meth c args Q hargs hQ C hmid
  obtain ⟨cK, hL⟩ := (hLm s C.2.2.2.2.2.1.2.1).2.2.2.2.1
  refine J.loca (L2 := [(0, .ref (ad 0)), (1, .int x1)]) rfl ?_
  refine j_aload_n C dX2_yearsOf_0 rfl 0 rfl ?_
  refine j_aload_n C dX2_yearsOf_1 rfl 0 rfl ?_
  refine j_iload_n C dX2_yearsOf_2 rfl 1 rfl ?_
  refine j_make (vals := [.ref (ad 0), .int x1]) (tys := #[.object "MasterPrices$Town", .int]) (rest := [.ref (ad 0)]) (bc' := 0) (bs' := 0) C hL hmid (nm := RX2) rfl lamFit4 (by decide +kernel) rfl rfl (fun i v hv => by
    match i, hv with
    | 0, hv => cases hv; exact ⟨_, rfl, rfl⟩
    | 1, hv => cases hv; exact ⟨_, rfl, rfl⟩
    | k + 2, hv => cases hv) (Nat.le_of_ble_eq_true rfl) (Nat.le_of_ble_eq_true rfl) (Nat.le_of_ble_eq_true rfl) rfl dX2_yearsOf_3 (fun H1 q _ hq => ?_)
  have hmv : ∀ u U : State, u.WarmedH U.vm → LamV lamX4 3 69 lamS4 cK u → LamV lamX4 3 69 lamS4 cK U := fun u U hW h => LamV.moved hW h
  refine jt_calli hg (C.pin hL hmv) (As := [.ref q]) (rest := []) (M_tsum (pin G (LamV lamX4 3 69 lamS4 cK) H1) l (pin_ok hG hmv) h ad hg q _ (lamRow4 hG hT hg x1 hq) T P hF) q494 cal_tsum rfl rfl (Nat.le_of_ble_eq_true rfl) ⟨Nat.le_of_ble_eq_true rfl, Nat.le_of_ble_eq_true rfl⟩ dX2_yearsOf_8 (fun r S' hP => ?_)
  refine j_unpin (G := G) hm ?_
  rw [hQ]
  exact j_iret C rfl ⟨_, _, rfl, rfl, hP⟩ dX2_yearsOf_11
theorem lamRow5 {G : GT} {l : Launch} {ad : Nat → Nat} (hG : GOK G) (hT : TabF G) (hg : Tg ad) (x1 : Int32) {cK : ClassId} {H1 : Heap} {q : Nat} (hq : H1[q]? = some { cls := cK, slots := ([.ref (ad 0), .int x1] : List Value).toArray, vm := .none }) : LamRow (pin G (LamV lamX5 3 70 lamS5 cK) H1) l ad q (fun T i j P => F_tlambda_countMastersOf_5 T x1 i j P) := by
  intro p e R s m args below meth c nL Q bc bs h pc L rest cc ret count T i j P C hF hfr hcat hlo hdg kk
  have hG' : GOK (pin G (LamV lamX5 3 70 lamS5 cK) H1) := pin_ok hG (fun u U hW h => LamV.moved hW h)
  refine j_lamB (mc := 0) (ms := 0) C (x := yOf) C.2.2.2.2.2.1.2.1.2 (nm := RX2) rfl lamFit5 lamFld5_0 lamFld5_1 (by decide) q499 (C.tab (pin_tab hT) q501 rfl) (C.tab (pin_tab hT) q500 rfl) ⟨rfl, rfl, by decide +kernel⟩ ⟨by decide, by decide⟩ (by decide +kernel) (b := ad 0) (fun H hH => ⟨{ cls := cK, slots := ([.ref (ad 0), .int x1] : List Value).toArray, vm := .none }, by rw [hH.2]; exact hq, rfl, rfl, rfl⟩) (TH_at hg (k := 0) (by decide)) rfl (y := yX2_lambda_countMastersOf_5) (M_tlambda_countMastersOf_5 (pin G (LamV lamX5 3 70 lamS5 cK) H1) l hG' h ad hg T x1 i j P hF) cal_tlambda_countMastersOf_5 ⟨rfl, rfl, by decide +kernel⟩ (fun v h' hv => by obtain ⟨r, S', rfl, -⟩ := hv; exact ⟨r, rfl⟩) (Nat.le_trans (Nat.le_of_ble_eq_true rfl) hfr) hcat (Nat.le_trans (Nat.le_of_ble_eq_true rfl) hlo) hdg (fun v h' hv => by obtain ⟨r, S', rfl, rfl, hP⟩ := hv; exact kk r S' hP)
def F_tcountMastersOf (T : TS) (x1 : Int32) (P : Int32 → TS → Prop) : Prop := F_tsum (fun T i j P => F_tlambda_countMastersOf_5 T x1 i j P) T P
theorem cal_tcountMastersOf : CalV yX2_countMastersOf RX2 cX2_countMastersOf 2 (some .int) 1 := ⟨q1165, q1166, q94, q1167, by decide +kernel⟩
theorem M_tcountMastersOf (G : GT) (l : Launch) (hG : GOK G) (hT : TabF G) (hLm : LamG G) (hm : FreeG G) (h : AH) (ad : Nat → Nat) (hg : Tg ad) (T : TS) (x1 : Int32) (P : Int32 → TS → Prop) (hF : F_tcountMastersOf T x1 P) : TMiA G l yX2_countMastersOf cX2_countMastersOf 2 .int 5 3090 1 2 [.ref (ad 0), .int x1] h ad T P := by
  refine MT.mkN (own := RX2) (by decide) rfl hG (Nat.le_of_ble_eq_true rfl) ?_
  intro p e s m below meth c args Q hargs hQ C hmid
  obtain ⟨cK, hL⟩ := (hLm s C.2.2.2.2.2.1.2.1).2.2.2.2.2.1
  refine J.loca (L2 := [(0, .ref (ad 0)), (1, .int x1)]) rfl ?_
  refine j_aload_n C dX2_countMastersOf_0 rfl 0 rfl ?_
  refine j_aload_n C dX2_countMastersOf_1 rfl 0 rfl ?_
  refine j_iload_n C dX2_countMastersOf_2 rfl 1 rfl ?_
  refine j_make (vals := [.ref (ad 0), .int x1]) (tys := #[.object "MasterPrices$Town", .int]) (rest := [.ref (ad 0)]) (bc' := 0) (bs' := 0) C hL hmid (nm := RX2) rfl lamFit5 (by decide +kernel) rfl rfl (fun i v hv => by
    match i, hv with
    | 0, hv => cases hv; exact ⟨_, rfl, rfl⟩
    | 1, hv => cases hv; exact ⟨_, rfl, rfl⟩
    | k + 2, hv => cases hv) (Nat.le_of_ble_eq_true rfl) (Nat.le_of_ble_eq_true rfl) (Nat.le_of_ble_eq_true rfl) rfl dX2_countMastersOf_3 (fun H1 q _ hq => ?_)
  have hmv : ∀ u U : State, u.WarmedH U.vm → LamV lamX5 3 70 lamS5 cK u → LamV lamX5 3 70 lamS5 cK U := fun u U hW h => LamV.moved hW h
  refine jt_calli hg (C.pin hL hmv) (As := [.ref q]) (rest := []) (M_tsum (pin G (LamV lamX5 3 70 lamS5 cK) H1) l (pin_ok hG hmv) h ad hg q _ (lamRow5 hG hT hg x1 hq) T P hF) q494 cal_tsum rfl rfl (Nat.le_of_ble_eq_true rfl) ⟨Nat.le_of_ble_eq_true rfl, Nat.le_of_ble_eq_true rfl⟩ dX2_countMastersOf_8 (fun r S' hP => ?_)
  refine j_unpin (G := G) hm ?_
  rw [hQ]
  exact j_iret C rfl ⟨_, _, rfl, rfl, hP⟩ dX2_countMastersOf_11
