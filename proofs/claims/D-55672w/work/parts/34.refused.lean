/-! OWN EXCEPTIONS: their constructors, called on an object just made (its monitor free) -/
set_option maxRecDepth 100000
/-- words that only the whole table has: kept by the world of the claim -/
def tabW : Cond → Bool
  | .fieldLinkNest .. => true
  | .methodLinkNest .. => true
  | .castable .. => true
  | .declares .. => true
  | .interfaceMethod .. => true
  | .publicMethod .. => true
  | .unhidden .. => true
  | .interfaceEntry .. => true
  | .arrayOver .. => true
  | .privateMethod .. => true
  | _ => false
def TabF (G : GT) : Prop := ∀ w ∈ lw_tbl, tabW w = true → ∀ U : State, G.2.2.2.1 U → va_Nw w U
def ExcF (G : GT) : Prop := ∀ U : State, G.2.2.2.1 U → vx_Zq Bundle.tN "UNASSIGNED_STACK" Bundle.steD (fun q => G.1 ≤ q) U U.heap ∧ vx_Zq Bundle.tN "SUPPRESSED_SENTINEL" Bundle.listD (fun q => G.1 ≤ q) U U.heap
theorem Cx.tab {G : GT} {p : Program} {s : State} {m : MethodId} {args : Array Value} {meth : Method} {c : Code} {cc : ByteArray} {own : String} {nL : Nat} {ret : Option FieldType} (C : Cx G p s m args meth c cc own nL ret) (hT : TabF G) {w : Cond} (hw : w ∈ lw_tbl) (ht : tabW w = true) : va_Nw w s := hT w hw ht s C.2.2.2.2.2.1.2.1
theorem hup_hup {h : AH} {a : Nat} {e e' : va_E} : hup (hup h a e) a e' = hup h a e' := by
  funext b; unfold hup; by_cases hb : b = a <;> simp [hb]
def MTH (G : GT) (l : Launch) (y : MethodName) (cc : ByteArray) (nL : Nat) (ret : Option FieldType) (fr lo mc ms : Nat) (av : List Value) (h : AH) (F : Heap → Prop) (Post : Option Value → AH → Prop) : Prop :=
  Met l y (ws_ y cc nL ret) ({ frames := fr, cells := mc, slots := ms, locals := lo }) (va_Pc av (fun U => (GW G U ∧ HG G h U.heap) ∧ F U.heap)) (SQ G Post) mc ms (fun q => G.1 ≤ q)
theorem MTH.mk {G : GT} {l : Launch} {h : AH} {F : Heap → Prop} {cc : ByteArray} {nL : Nat} {ret : Option FieldType} {own : String} {y : MethodName} {fr lo mc ms : Nat} {av : List Value} {Post : Option Value → AH → Prop} (hy : plainName y.cls = true) (hown : y.cls = own) (hG : GOK G) (hav : (lg_sl av).length ≤ nL)
    (body : ∀ (p : Program) (e : Env) (s : State) (m : MethodId) (below : List Frame) (meth : Method) (c : Code) (args : Array Value) (Q : State → Prop), args = av.toArray → Q = MQ below (SQ G Post) args s mc ms (fun q => G.1 ≤ q) → Cx G p s m args meth c cc own nL ret → meth.name = y.name → F s.heap → HG G h s.heap → ∀ ls : Array Slot, lv_has ls nL (lv_args 0 av) → W p l e ({ frames := fr, cells := mc, slots := ms, locals := lo }) s m args below meth c s.heap [] 0 0 Q (F0 m 0 ls [])) : MTH G l y cc nL ret fr lo mc ms av h F Post := by
  refine Met.ofW (cc := cc) (maxL := nL) (ret := ret) hy rfl ?_
  intro p e s m args below meth c s₁ B hml hv
  obtain ⟨rfl, ⟨hGW, hHW⟩, hF⟩ := hv
  have hts := atoms_spec (ws := ws_ y cc nL ret) B.pre
  have hts : ∀ w ∈ lw_all, w.before _ s = true := fun w h => hts w (List.mem_cons_of_mem _ h)
  have hown2 : s.vm.findClass own = some m.cls := hown ▸ findClass_of_methodNamed B.named
  have hl := lv_entry av (n := nL) hav
  rw [lg_entry_eq]
  exact body p e s m below meth c _ _ rfl rfl ⟨B.exec, B.bytes, hml, hown2, hts, hGW, hG, B.returns, B.notSynchronized⟩ (name_of_methodNamed B.named B.method).1 hF hHW _ hl
section RF
variable {G : GT} {p : Program} {l : Launch} {e : Env} {R : Room} {s : State} {m : MethodId} {args : Array Value} {below : List Frame} {meth : Method} {c : Code} {nL : Nat} {Q : State → Prop} {bc bs : Nat} {h : AH} {pc : Nat} {L : List (Nat × Value)} {rest : List Value} {cc : ByteArray} {own : String} {ret : Option FieldType} {H : Heap} {locs : List Loc} {ls : Array Slot} {cells slots : Nat}
theorem j_aloadN_n (C : Cx G p s m args meth c cc own nL ret) {kk : Fin 4} {i : Nat} (hdg : decode cc pc = .ok (.aload_n kk, 1)) (hi : (kk : Nat) = i) (q : Nat) (hq : L[q]? = some (i, .null)) (k : J G p l e R s m args below meth c nL Q bc bs h (pc + 1) L (.null :: rest)) : J G p l e R s m args below meth c nL Q bc bs h pc L rest :=
  fun H locs ls cells slots hH hS hl b1 b2 => lv_aload_nN C.1 C.2.1 hdg hi (lv_at hl q hq) (k H locs ls cells slots hH hS hl b1 b2)
/-- new, and its monitor is free -/
theorem w_new (C : Cx G p s m args meth c cc own nL ret) {Cn : String} {T : u_T} {N ci index : Nat} (hc : vwCl[ci]? = some (Cn, T, N)) (hin : ∀ w ∈ u_ws Cn T N, w ∈ lw_all) (ty0 : Nat → FieldType) (hty : ∀ k, k < N → parseFieldDescriptor (T k).2.2.1 = some (ty0 k)) (hcl : Cond.classLink own index Cn ∈ lw_all) (hinst : Cond.instantiable Cn N ∈ lw_all) (hini : Cond.initialized Cn ∈ lw_all) (fs : List Value) (hfs : ∀ j, j < N → defaultValue (ty0 j) = vp_V fs j) (hcells : cells + 1 ≤ R.cells) (hslots : slots + N ≤ R.slots) (hm : FreeG G) (hHW : HG G h H) (hS : va_S (fun q => G.1 ≤ q) s.heap H locs) (hdg : decode cc pc = .ok (.new index, 3))
    (kk : ∀ (q : Nat) (H1 : Heap), h q = none → G.1 ≤ q → MonF q H1 → HG G (hup h q (.inr (ci, fs))) H1 → va_S (fun q => G.1 ≤ q) s.heap H1 locs → W p l e R s m args below meth c H1 locs (cells + 1) (slots + N) Q (F0 m (pc + 3) ls (.ref q :: rest))) : W p l e R s m args below meth c H locs cells slots Q (F0 m pc ls rest) := by
  obtain ⟨hexec, hb, hml, hown, hts, hGW, hG, -, -⟩ := C
  obtain ⟨ws, h1, h2, h3⟩ := hHW.1
  refine W.newc hexec hb hown (hts _ hcl) (hts _ hinst) (hts _ hini) rfl hdg hcells hslots (fun cC kC e1 e2 e3 e4 => ?_)
  have hKn := hGW.1.1 ci _ hc
  have hcC : cC = G.2.1.1 ci := Option.some.inj (e1.symm.trans hKn.2.1)
  subst hcC
  have hsz : G.1 ≤ H.size := Nat.le_trans hGW.2.2 hS.1
  have hpush : (H.push (blank (G.2.1.1 ci) kC))[H.size]? = some (blank (G.2.1.1 ci) kC) := by simp
  have hold : ∀ q : Nat, q < H.size → (H.push (blank (G.2.1.1 ci) kC))[q]? = H[q]? := fun q hq => by simp [Array.getElem?_push, Nat.ne_of_lt hq]
  have hob := u_born ty0 hts hin hKn e2 hpush hty
  have hP : va_P G.2.1 vwCl (ws ++ [(H.size, .inr (ci, fs))]) (H.push (blank (G.2.1.1 ci) kC)) := by
    refine (h2.kept (fun k q hk => hold q.1 (h2 k q hk).lt)).app (fun k q hk => ?_)
    have hz : k < 1 := (List.getElem?_eq_some_iff.mp hk).1
    rw [show k = 0 by omega] at hk
    cases hk
    exact ⟨_, hc, hob.to (fun j hj => hfs j hj)⟩
  have hD := h3.push (e := .inr (ci, fs)) h2 rfl hsz
  obtain ⟨g1, g2, g3⟩ := HW.push h1 hP hD
  refine kk H.size _ g2 g3 (fun cell hcell => ?_) ⟨g1, hm _⟩ ⟨Nat.le_trans hS.1 (by simp), fun q hq hA => ?_, hS.2.2⟩
  · have hcell2 := hpush.symm.trans hcell
    cases hcell2
    exact ⟨rfl, rfl⟩
  · exact (hold q (Nat.lt_of_lt_of_le hq hS.1)).trans (hS.2.1 q hq hA)
/-- a constructor's call on an object just made -/
theorem w_callIH (C : Cx G p s m args meth c cc own nL ret) {y : MethodName} {cc' : ByteArray} {nL' : Nat} {fr lo mc ms n b index : Nat} {As st : List Value} {F : Heap → Prop} {Post : Option Value → AH → Prop} (hM : MTH G l y cc' nL' none fr lo mc ms (.ref b :: As) h F Post) (hq : Cond.methodLink own index y ∈ lw_all) (hy : CalI y cc' nL' n) (hn : As.length = n) (hst : st = As.reverse ++ .ref b :: rest) (hcat : (rest.map fun v => v.category).sum ≤ 8) (hR : fr + 1 ≤ R.frames ∧ 8 + (nL' + 11) + lo ≤ R.locals) (hmc : cells + mc ≤ R.cells) (hms : slots + ms ≤ R.slots) (hF : F H) (hHW : HG G h H) (hS : va_S (fun q => G.1 ≤ q) s.heap H locs) (hsz : ls.size = nL) (hdg : decode cc pc = .ok (.invokespecial index, 3))
    (kk : ∀ (v : Option Value) (h' : AH) (H1 : Heap) (locs1 : List Loc), Post v h' → HG G h' H1 → va_S (fun q => G.1 ≤ q) s.heap H1 locs1 → W p l e R s m args below meth c H1 locs1 (cells + mc) (slots + ms) Q (F0 m (pc + 3) ls (v.toList ++ rest))) : W p l e R s m args below meth c H locs cells slots Q (F0 m pc ls st) := by
  have hr := va_runI (p := p) (l := l) (e := e) (R := R) (s := s) (m := m) (args := args) (below := below) (meth := meth) (c := c) (H := H) (locs := locs) (cells := cells) (slots := slots) (b := b) (As := As) (rest := rest) (g := F0 m pc ls st) ⟨C.1, C.2.1, C.2.2.1, C.2.2.2.1, C.2.2.2.2.1⟩ hM (cwI n C.2.2.2.2.1 (lw_meth hy.2.2.1) rfl rfl rfl (C.2.2.2.2.1 _ hy.2.1) (C.2.2.2.2.1 _ hq) (C.2.2.2.2.1 _ hy.1) hy.2.2.2.1 hy.2.2.2.2 hR) ⟨fun a U g mk z => ⟨z.1, ⟨z.2.1.1.calling C.2.2.2.2.2.2.1, z.2.1.2⟩, z.2.2⟩, fun U hU hW => ⟨rfl, ⟨C.gw hS hU hW, by rw [hU]; exact hHW⟩, by rw [hU]; exact hF⟩⟩ rfl hn hsz hst (lv_room hcat) hdg ⟨hmc, hms⟩
  intro T hT X
  obtain ⟨v, st₀, t, T', L1, h0, X', hL, e1, e2, ⟨⟨v', h', hv, hp, hg, hw⟩, hFr⟩, st1⟩ := hr T hT X
  cases hv
  obtain ⟨k1, k2, k3⟩ := vx_keep h0 e1 hS (fun _ _ z => z) (fun _ z => z) hL hFr
  obtain ⟨t2, a1, b3⟩ := kk v h' T'.heap (locs ++ L1) hp (by rw [e1]; exact hw) k3 T' rfl X'
  exact ⟨t2, st1 t2 a1, b3⟩
end RF
def rfs0 : List Value := [.null, .null, .null, .null, .null, .int 0, .int 0, .int 0, .null]
def rfs (a : Nat) (u0 sen : Value) (r d : Int32) (b : Option Nat) : List Value := [.ref a, u0, sen, .null, .null, .int 0, .int r, .int d, va_rf b]
def tfs0 : List Value := [.null, .null, .null, .null, .null, .int 0, .int 0]
def tfsx (a : Nat) (u0 sen : Value) (r : Int32) : List Value := [.ref a, u0, sen, .null, .null, .int 0, .int r]
theorem cal_refused3 : CalI yX5_init_2 cX5_init_2 4 3 := ⟨q354, q106, q355, rfl, by decide +kernel⟩
theorem cal_refused2 : CalI yX5_init cX5_init 3 2 := ⟨q351, q106, q352, rfl, by decide +kernel⟩
set_option maxHeartbeats 1000000 in
theorem M_refused3 (G : GT) (l : Launch) (hG : GOK G) (hT : TabF G) (hX : ExcF G) (hfl : l.stackTraces = false) (hm : FreeG G) (h : AH) (a : Nat) (r d : Int32) (b : Option Nat) (ha : h a = some (.inr (5, rfs0))) : MTH G l yX5_init_2 cX5_init_2 4 none 4 80 0 0 [.ref a, .int r, .int d, va_rf b] h (MonF a) (fun v h' => v = none ∧ ∃ u0 sen : Value, h' = hup h a (.inr (5, rfs a u0 sen r d b))) := by
  refine MTH.mk (own := RX5) (by decide) rfl hG (by cases b <;> exact Nat.le_of_ble_eq_true rfl) ?_
  intro p e s m below meth c args Q hargs hQ C hname hmon hHW ls hl
  have hl : lv_has ls 4 [(0, .ref a), (1, .int r), (2, .int d), (3, va_rf b)] := by cases b <;> exact hl
  obtain ⟨x1, x2⟩ := hX s C.2.2.2.2.2.1.2.1
  refine lv_aload_n C.1 C.2.1 dX5_init_2_0 rfl (lv_at hl 0 rfl) ?_
  refine w_excInit C hfl ha rfl ⟨rfl, rfl, rfl, rfl⟩ (by decide) rfl rfl hmon in_X5 tyX5 tyX5_ok nmX5 x1 x2 (C.tab hT q309 rfl) q356 q311 q312 hm hHW hl.1 dX5_init_2_1 (Nat.le_of_ble_eq_true rfl) (Nat.le_of_ble_eq_true rfl) (fun u0 sen H1 locs1 ok1 ok2 hH1 hS1 => ?_)
  suffices hJ : J G p l e ({ frames := 4, cells := 0, slots := 0, locals := 80 } : Room) s m args below meth c 4 Q 0 0 (hup h a (.inr (5, [.ref a, u0, sen, .null, .null, .int 0, .int 0, .int 0, .null]))) 4 [(0, .ref a), (1, .int r), (2, .int d), (3, va_rf b)] [] from hJ H1 locs1 ls 0 0 hH1 hS1 hl (Nat.zero_le _) (Nat.zero_le _)
  refine j_aload_n C dX5_init_2_4 rfl 0 rfl ?_
  refine j_iload_n C dX5_init_2_5 rfl 1 rfl ?_
  refine j_putF C hm hup_self rfl in_X5 tyX5 tyX5_ok nmX5 6 (by decide) q360 rfl rfl hname rfl rfl rfl (Nat.le_of_ble_eq_true rfl) dX5_init_2_6 ?_
  refine j_aload_n C dX5_init_2_9 rfl 0 rfl ?_
  refine j_iload_n C dX5_init_2_10 rfl 2 rfl ?_
  refine j_putF C hm hup_self rfl in_X5 tyX5 tyX5_ok nmX5 7 (by decide) q362 rfl rfl hname rfl rfl rfl (Nat.le_of_ble_eq_true rfl) dX5_init_2_11 ?_
  refine j_aload_n C dX5_init_2_14 rfl 0 rfl ?_
  cases b with
  | none =>
    refine j_aloadN_n C dX5_init_2_15 rfl 3 rfl ?_
    refine j_putF C hm hup_self rfl in_X5 tyX5 tyX5_ok nmX5 8 (by decide) q364 rfl rfl hname rfl rfl rfl (Nat.le_of_ble_eq_true rfl) dX5_init_2_16 ?_
    rw [hQ]
    exact j_vret C ⟨rfl, u0, sen, by simp only [hup_hup]; rfl⟩ dX5_init_2_19
  | some q =>
    refine j_aload_n C dX5_init_2_15 rfl 3 rfl ?_
    refine j_putF C hm hup_self rfl in_X5 tyX5 tyX5_ok nmX5 8 (by decide) q364 rfl rfl hname rfl rfl rfl (Nat.le_of_ble_eq_true rfl) dX5_init_2_16 ?_
    rw [hQ]
    exact j_vret C ⟨rfl, u0, sen, by simp only [hup_hup]; rfl⟩ dX5_init_2_19
set_option maxHeartbeats 1000000 in
theorem M_refused2 (G : GT) (l : Launch) (hG : GOK G) (hT : TabF G) (hX : ExcF G) (hfl : l.stackTraces = false) (hm : FreeG G) (h : AH) (a : Nat) (r d : Int32) (ha : h a = some (.inr (5, rfs0))) : MTH G l yX5_init cX5_init 3 none 5 103 0 0 [.ref a, .int r, .int d] h (MonF a) (fun v h' => v = none ∧ ∃ u0 sen : Value, h' = hup h a (.inr (5, rfs a u0 sen r d none))) := by
  refine MTH.mk (own := RX5) (by decide) rfl hG (Nat.le_of_ble_eq_true rfl) ?_
  intro p e s m below meth c args Q hargs hQ C hname hmon hHW ls hl
  have hl : lv_has ls 3 [(0, .ref a), (1, .int r), (2, .int d)] := hl
  refine lv_aload_n C.1 C.2.1 dX5_init_0 rfl (lv_at hl 0 rfl) ?_
  refine lv_iload_n C.1 C.2.1 dX5_init_1 rfl (lv_at hl 1 rfl) ?_
  refine lv_iload_n C.1 C.2.1 dX5_init_2 rfl (lv_at hl 2 rfl) ?_
  refine lv_null C.1 C.2.1 dX5_init_3 ?_
  refine w_callIH (As := [.int r, .int d, va_rf none]) (rest := []) C (M_refused3 G l hG hT hX hfl hm h a r d none ha) q353 cal_refused3 rfl rfl (Nat.le_of_ble_eq_true rfl) ⟨Nat.le_of_ble_eq_true rfl, Nat.le_of_ble_eq_true rfl⟩ (Nat.le_of_ble_eq_true rfl) (Nat.le_of_ble_eq_true rfl) hmon hHW va_S.rf hl.1 dX5_init_4 (fun v h' H1 locs1 hp hH1 hS1 => ?_)
  obtain ⟨rfl, hp⟩ := hp
  suffices hJ : J G p l e ({ frames := 5, cells := 0, slots := 0, locals := 103 } : Room) s m args below meth c 3 Q 0 0 h' 7 [(0, .ref a), (1, .int r), (2, .int d)] [] from hJ H1 locs1 ls 0 0 hH1 hS1 hl (Nat.zero_le _) (Nat.zero_le _)
  rw [hQ]
  exact j_vret C ⟨rfl, hp⟩ dX5_init_7
theorem cal_textexc : CalI yX12_init cX12_init 2 1 := ⟨q1632, q134, q1633, rfl, by decide +kernel⟩
set_option maxHeartbeats 1000000 in
theorem M_textexc (G : GT) (l : Launch) (hG : GOK G) (hT : TabF G) (hX : ExcF G) (hfl : l.stackTraces = false) (hm : FreeG G) (h : AH) (a : Nat) (r : Int32) (ha : h a = some (.inr (10, tfs0))) : MTH G l yX12_init cX12_init 2 none 4 80 0 0 [.ref a, .int r] h (MonF a) (fun v h' => v = none ∧ ∃ u0 sen : Value, h' = hup h a (.inr (10, tfsx a u0 sen r))) := by
  refine MTH.mk (own := RX12) (by decide) rfl hG (Nat.le_of_ble_eq_true rfl) ?_
  intro p e s m below meth c args Q hargs hQ C hname hmon hHW ls hl
  have hl : lv_has ls 2 [(0, .ref a), (1, .int r)] := hl
  obtain ⟨x1, x2⟩ := hX s C.2.2.2.2.2.1.2.1
  refine lv_aload_n C.1 C.2.1 dX12_init_0 rfl (lv_at hl 0 rfl) ?_
  refine w_excInit C hfl ha rfl ⟨rfl, rfl, rfl, rfl⟩ (by decide) rfl rfl hmon in_X12 tyX12 tyX12_ok nmX12 x1 x2 (C.tab hT q309 rfl) q1634 q1625 q335 hm hHW hl.1 dX12_init_1 (Nat.le_of_ble_eq_true rfl) (Nat.le_of_ble_eq_true rfl) (fun u0 sen H1 locs1 ok1 ok2 hH1 hS1 => ?_)
  suffices hJ : J G p l e ({ frames := 4, cells := 0, slots := 0, locals := 80 } : Room) s m args below meth c 2 Q 0 0 (hup h a (.inr (10, [.ref a, u0, sen, .null, .null, .int 0, .int 0]))) 4 [(0, .ref a), (1, .int r)] [] from hJ H1 locs1 ls 0 0 hH1 hS1 hl (Nat.zero_le _) (Nat.zero_le _)
  refine j_aload_n C dX12_init_4 rfl 0 rfl ?_
  refine j_iload_n C dX12_init_5 rfl 1 rfl ?_
  refine j_putF C hm hup_self rfl in_X12 tyX12 tyX12_ok nmX12 6 (by decide) q1635 rfl rfl hname rfl rfl rfl (Nat.le_of_ble_eq_true rfl) dX12_init_6 ?_
  rw [hQ]
  exact j_vret C ⟨rfl, u0, sen, by simp only [hup_hup]; rfl⟩ dX12_init_9
