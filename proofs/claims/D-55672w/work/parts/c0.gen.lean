/-! GENERAL ROWS: what stands in the world or, frozen, below z; getstatic, ldc of a text, clone, calls of any kind -/
set_option maxRecDepth 100000
def LoF (G : GT) (a ci k : Nat) (v : Value) : Prop := ∃ r : vw_C, vwCl[ci]? = some r ∧ ∀ U : State, GW G U → va_OF (r.2.1 k).1 (r.2.1 k).2.1 (r.2.1 k).2.2.1 v a (fun q => G.1 ≤ q) U U.heap
def LoC (G : GT) (a ci : Nat) : Prop := ∃ r : vw_C, vwCl[ci]? = some r ∧ ∀ U : State, GW G U → va_O r.1 a (fun q => G.1 ≤ q) U U.heap
def LoT (G : GT) (ty : FieldType) (a n : Nat) (f : Nat → Value) : Prop := ∀ U : State, GW G U → va_T ty a n f (fun q => G.1 ≤ q) U U.heap
/-- a field holds v -/
def aF (G : GT) (h : AH) (a ci k : Nat) (v : Value) : Prop := (∃ fs : List Value, h a = some (.inr (ci, fs)) ∧ fs[k]? = some v) ∨ LoF G a ci k v
/-- an object of class ci -/
def aC (G : GT) (h : AH) (a ci : Nat) : Prop := (∃ fs : List Value, h a = some (.inr (ci, fs))) ∨ LoC G a ci
/-- bytes -/
def aB (G : GT) (h : AH) (a n : Nat) (f : Nat → Int32) : Prop := h a = some (.inl (G.2.2.1 2, n, .inl f)) ∨ LoT G .byte a n (fun j => .int (f j))
/-- references -/
def aO (G : GT) (h : AH) (a n : Nat) (f : Nat → Option Nat) : Prop := (∃ (d : Nat) (C : String), (tyl G.2.2.1)[d]? = some (G.2.2.1 d, .object C) ∧ h a = some (.inl (G.2.2.1 d, n, .inr (.inr (.inr (.inr f)))))) ∨ ∃ C : String, LoT G (.object C) a n (fun j => va_rf (f j))
/-- an array's length -/
def aL (G : GT) (h : AH) (a n : Nat) : Prop := (∃ (d : Nat) (ty : FieldType) (x : (Nat → Int32) ⊕ (Nat → Int64) ⊕ (Nat → UInt32) ⊕ (Nat → UInt64) ⊕ (Nat → Option Nat)), (tyl G.2.2.1)[d]? = some (G.2.2.1 d, ty) ∧ h a = some (.inl (G.2.2.1 d, n, x))) ∨ ∃ (ty : FieldType) (f : Nat → Value), LoT G ty a n f
def StV (G : GT) (C n d : String) (v : Value) : Prop := ∀ U : State, GW G U → va_Z C n d v (fun q => G.1 ≤ q) U U.heap
theorem aB.len {G : GT} {h : AH} {a n : Nat} {f : Nat → Int32} (x : aB G h a n f) : aL G h a n := x.elim (fun z => Or.inl ⟨2, .byte, _, rfl, z⟩) (fun z => Or.inr ⟨_, _, z⟩)
theorem aO.len {G : GT} {h : AH} {a n : Nat} {f : Nat → Option Nat} (x : aO G h a n f) : aL G h a n := x.elim (fun ⟨d, C, z1, z2⟩ => Or.inl ⟨d, _, _, z1, z2⟩) (fun ⟨_, z⟩ => Or.inr ⟨_, _, z⟩)
section GG
variable {G : GT} {p : Program} {l : Launch} {e : Env} {R : Room} {s : State} {m : MethodId} {args : Array Value} {below : List Frame} {meth : Method} {c : Code} {nL : Nat} {Q : State → Prop} {bc bs : Nat} {h : AH} {pc : Nat} {L : List (Nat × Value)} {rest : List Value} {cc : ByteArray} {own : String} {ret : Option FieldType}
theorem aC.recv (C : Cx G p s m args meth c cc own nL ret) {a ci : Nat} {r : vw_C} (x : aC G h a ci) (hc : vwCl[ci]? = some r) {H : Heap} {locs : List Loc} (hH : HG G h H) (hS : va_S (fun q => G.1 ≤ q) s.heap H locs) : ∃ cell : Cell, H[a]? = some cell ∧ cell.vm.isStatics = false ∧ s.vm.findClass r.1 = some cell.cls := by
  rcases x with ⟨fs, hf⟩ | ⟨r', h1, h2⟩
  · obtain ⟨ws, w1, w2, w3⟩ := id hH.1
    obtain ⟨q0, hq0⟩ := w1 a _ hf
    exact va_recv C.2.2.2.2.2.1.1 w2 hc hq0
  · cases h1.symm.trans hc
    obtain ⟨cell, g1, g2, g3, g4⟩ := h2 s C.2.2.2.2.2.1
    exact ⟨cell, by rw [hS.2.1 a (Array.getElem?_eq_some_iff.mp g1).1 g4]; exact g1, g2, g3⟩
theorem jg_get (C : Cx G p s m args meth c cc own nL ret) {a : Nat} {ref Cn : String} {T : u_T} {N ci index : Nat} (hc : vwCl[ci]? = some (Cn, T, N)) (hin : ∀ w ∈ u_ws Cn T N, w ∈ lw_all) (k : Nat) (hk : k < N) (hlink : Cond.fieldLink own index ref (T k).2.1 (T k).2.2.1 ∈ lw_all) (hsame : (T k).1 = ref) {v : Value} (hv : aF G h a ci k v) (hdg : decode cc pc = .ok (.getfield index, 3))
    (kk : J G p l e R s m args below meth c nL Q bc bs h (pc + 3) L (v :: rest)) : J G p l e R s m args below meth c nL Q bc bs h pc L (.ref a :: rest) := by
  rcases hv with ⟨fs, h1, h2⟩ | ⟨r', h1, h2⟩
  · exact j_get C h1 hc hin k hk hlink hsame h2 hdg kk
  · cases h1.symm.trans hc
    intro H locs ls cells slots hH hS hl b1 b2
    exact vk_getf C.1 C.2.1 (h2 s C.2.2.2.2.2.1) hS C.2.2.2.1 (C.2.2.2.2.1 _ hlink) (fun x hx => by rw [← hsame]; exact hx) hdg (kk H locs ls cells slots hH hS hl b1 b2)
theorem jg_bald (C : Cx G p s m args meth c cc own nL ret) {a n : Nat} {f : Nat → Int32} (ha : aB G h a n f) {i : Int32} (hin : vp_in i n) (hdg : decode cc pc = .ok (.baload, 1)) (kk : J G p l e R s m args below meth c nL Q bc bs h (pc + 1) L (.int (f i.toNatClampNeg) :: rest)) : J G p l e R s m args below meth c nL Q bc bs h pc L (.int i :: .ref a :: rest) := by
  rcases ha with ha | ha
  · exact j_bald C ha hin hdg kk
  · intro H locs ls cells slots hH hS hl b1 b2
    exact va_tb C.1 C.2.1 (ha s C.2.2.2.2.2.1) hS hin rfl hdg (kk H locs ls cells slots hH hS hl b1 b2)
theorem jg_aald (C : Cx G p s m args meth c cc own nL ret) {a n : Nat} {f : Nat → Option Nat} (ha : aO G h a n f) {i : Int32} (hin : vp_in i n) (hdg : decode cc pc = .ok (.aaload, 1)) (kk : J G p l e R s m args below meth c nL Q bc bs h (pc + 1) L (va_rf (f i.toNatClampNeg) :: rest)) : J G p l e R s m args below meth c nL Q bc bs h pc L (.int i :: .ref a :: rest) := by
  rcases ha with ⟨d, D, h1, h2⟩ | ⟨D, ha⟩
  · intro H locs ls cells slots hH hS hl b1 b2
    obtain ⟨ws, w1, w2, w3⟩ := id hH.1
    obtain ⟨q0, hq0⟩ := w1 a _ h2
    exact va_aldq C.1 C.2.1 C.2.2.2.2.2.1.1 w2 q0 d hq0 h1 hin hdg (kk H locs ls cells slots hH hS hl b1 b2)
  · intro H locs ls cells slots hH hS hl b1 b2
    exact vb_tq C.1 C.2.1 (ha s C.2.2.2.2.2.1) hS hin rfl hdg (kk H locs ls cells slots hH hS hl b1 b2)
theorem jg_alen (C : Cx G p s m args meth c cc own nL ret) {a n : Nat} (ha : aL G h a n) (hdg : decode cc pc = .ok (.arraylength, 1)) (kk : J G p l e R s m args below meth c nL Q bc bs h (pc + 1) L (.int (Int32.ofNat n) :: rest)) : J G p l e R s m args below meth c nL Q bc bs h pc L (.ref a :: rest) := by
  rcases ha with ⟨d, ty, x, h1, h2⟩ | ⟨ty, f, ha⟩
  · exact j_alen C h2 h1 hdg kk
  · intro H locs ls cells slots hH hS hl b1 b2
    exact va_tlen C.1 C.2.1 (ha s C.2.2.2.2.2.1) hS rfl hdg (kk H locs ls cells slots hH hS hl b1 b2)
theorem jg_gets (C : Cx G p s m args meth c cc own nL ret) {D n d ref : String} {v : Value} {index : Nat} (hZ : StV G D n d v) (hlink : Cond.fieldLink own index ref n d ∈ lw_all) (hsame : D = ref) (hdg : decode cc pc = .ok (.getstatic index, 3)) (kk : J G p l e R s m args below meth c nL Q bc bs h (pc + 3) L (v :: rest)) : J G p l e R s m args below meth c nL Q bc bs h pc L rest := by
  subst hsame
  intro H locs ls cells slots hH hS hl b1 b2
  exact va_gets C.1 C.2.1 (hZ s C.2.2.2.2.2.1) hS C.2.2.2.1 (C.2.2.2.2.1 _ hlink) (fun x hx => hx) hdg (kk H locs ls cells slots hH hS hl b1 b2)
/-- a text's constant -/
def LitR (G : GT) (own : String) (k : Nat) (tx : String) (a : Nat) : Prop := ∀ U : State, GW G U → vk_R own k tx a U
theorem jg_ldcS (C : Cx G p s m args meth c cc own nL ret) {tx : String} {index q : Nat} (hZ : LitR G own index tx q) (hdg : decode cc pc = .ok (.ldc index, 2)) (kk : J G p l e R s m args below meth c nL Q bc bs h (pc + 2) L (.ref q :: rest)) : J G p l e R s m args below meth c nL Q bc bs h pc L rest := by
  intro H locs ls cells slots hH hS hl b1 b2
  exact va_ldcS C.1 C.2.1 C.2.2.2.1 (hZ s C.2.2.2.2.2.1) hdg (kk H locs ls cells slots hH hS hl b1 b2)
/-! options: a reference or null -/
theorem jg_aload (C : Cx G p s m args meth c cc own nL ret) {i : Nat} {x : Option Nat} (hdg : decode cc pc = .ok (.aload i, 2)) (q : Nat) (hq : L[q]? = some (i, va_rf x)) (k : J G p l e R s m args below meth c nL Q bc bs h (pc + 2) L (va_rf x :: rest)) : J G p l e R s m args below meth c nL Q bc bs h pc L rest := by
  cases x with
  | some x => exact j_aload C hdg q hq k
  | none => exact fun H locs ls cells slots hH hS hl b1 b2 => lv_aloadN C.1 C.2.1 hdg (lv_at hl q hq) (k H locs ls cells slots hH hS hl b1 b2)
theorem jg_aload_n (C : Cx G p s m args meth c cc own nL ret) {kk : Fin 4} {i : Nat} {x : Option Nat} (hdg : decode cc pc = .ok (.aload_n kk, 1)) (hi : (kk : Nat) = i) (q : Nat) (hq : L[q]? = some (i, va_rf x)) (k : J G p l e R s m args below meth c nL Q bc bs h (pc + 1) L (va_rf x :: rest)) : J G p l e R s m args below meth c nL Q bc bs h pc L rest := by
  cases x with
  | some x => exact j_aload_n C hdg hi q hq k
  | none => exact j_aloadN_n C hdg hi q hq k
theorem jg_astore (C : Cx G p s m args meth c cc own nL ret) {i : Nat} {x : Option Nat} {L2 : List (Nat × Value)} (hdg : decode cc pc = .ok (.astore i, 2)) (hn : i < nL) (hl2 : (i, va_rf x) :: L.filter (fun q => !(q.1 == i) && !(q.1 + 1 == i && q.2.category == 2)) = L2) (k : J G p l e R s m args below meth c nL Q bc bs h (pc + 2) L2 rest) : J G p l e R s m args below meth c nL Q bc bs h pc L (va_rf x :: rest) := by
  cases x with
  | some x => exact j_astore C hdg hn hl2 k
  | none => exact fun H locs ls cells slots hH hS hl b1 b2 => lv_astoreN C.1 C.2.1 hdg hl hn hl2 (fun ls' hl' => k H locs ls' cells slots hH hS hl' b1 b2)
theorem jg_astore_n (C : Cx G p s m args meth c cc own nL ret) {kk : Fin 4} {i : Nat} {x : Option Nat} {L2 : List (Nat × Value)} (hdg : decode cc pc = .ok (.astore_n kk, 1)) (hi : (kk : Nat) = i) (hn : i < nL) (hl2 : (i, va_rf x) :: L.filter (fun q => !(q.1 == i) && !(q.1 + 1 == i && q.2.category == 2)) = L2) (k : J G p l e R s m args below meth c nL Q bc bs h (pc + 1) L2 rest) : J G p l e R s m args below meth c nL Q bc bs h pc L (va_rf x :: rest) := by
  cases x with
  | some x => exact j_astore_n C hdg hi hn hl2 k
  | none => exact fun H locs ls cells slots hH hS hl b1 b2 => lv_astore_nN C.1 C.2.1 hdg hi hl hn hl2 (fun ls' hl' => k H locs ls' cells slots hH hS hl' b1 b2)
theorem jg_ifnull (C : Cx G p s m args meth c cc own nL ret) {x : Option Nat} {off : Int} {tgt : Nat} (hdg : decode cc pc = .ok (.ifnull off, 3)) (ht : (pc : Int) + off = (tgt : Int)) (kt : x = none → J G p l e R s m args below meth c nL Q bc bs h tgt L rest) (kf : ∀ q : Nat, x = some q → J G p l e R s m args below meth c nL Q bc bs h (pc + 3) L rest) : J G p l e R s m args below meth c nL Q bc bs h pc L (va_rf x :: rest) := by
  cases x with
  | none => exact j_ifnullN C hdg ht (kt rfl)
  | some q => exact j_ifnull C hdg (kf q rfl)
theorem jg_ifnonnull (C : Cx G p s m args meth c cc own nL ret) {x : Option Nat} {off : Int} {tgt : Nat} (hdg : decode cc pc = .ok (.ifnonnull off, 3)) (ht : (pc : Int) + off = (tgt : Int)) (kt : ∀ q : Nat, x = some q → J G p l e R s m args below meth c nL Q bc bs h tgt L rest) (kf : x = none → J G p l e R s m args below meth c nL Q bc bs h (pc + 3) L rest) : J G p l e R s m args below meth c nL Q bc bs h pc L (va_rf x :: rest) := by
  cases x with
  | none => exact j_ifnonnullN C hdg (kf rfl)
  | some q => exact j_ifnonnull C hdg ht (kt q rfl)
theorem jg_acmp_eq (C : Cx G p s m args meth c cc own nL ret) {x y : Option Nat} {off : Int} {tgt : Nat} (hdg : decode cc pc = .ok (.if_acmp .eq off, 3)) (ht : (pc : Int) + off = (tgt : Int)) (kt : x = y → J G p l e R s m args below meth c nL Q bc bs h tgt L rest) (kf : ¬ x = y → J G p l e R s m args below meth c nL Q bc bs h (pc + 3) L rest) : J G p l e R s m args below meth c nL Q bc bs h pc L (va_rf y :: va_rf x :: rest) :=
  fun H locs ls cells slots hH hS hl b1 b2 => lv_acmp_eq C.1 C.2.1 hdg ht (fun z => kt z H locs ls cells slots hH hS hl b1 b2) (fun z => kf z H locs ls cells slots hH hS hl b1 b2)
theorem jg_acmp_ne (C : Cx G p s m args meth c cc own nL ret) {x y : Option Nat} {off : Int} {tgt : Nat} (hdg : decode cc pc = .ok (.if_acmp .ne off, 3)) (ht : (pc : Int) + off = (tgt : Int)) (kt : ¬ x = y → J G p l e R s m args below meth c nL Q bc bs h tgt L rest) (kf : x = y → J G p l e R s m args below meth c nL Q bc bs h (pc + 3) L rest) : J G p l e R s m args below meth c nL Q bc bs h pc L (va_rf y :: va_rf x :: rest) :=
  fun H locs ls cells slots hH hS hl b1 b2 => lv_acmp_ne C.1 C.2.1 hdg ht (fun z => kt z H locs ls cells slots hH hS hl b1 b2) (fun z => kf z H locs ls cells slots hH hS hl b1 b2)
/-! arrays of references -/
theorem jg_aast (C : Cx G p s m args meth c cc own nL ret) (hm : FreeG G) {a d ci n v : Nat} {E : String} {r : vw_C} {f : Nat → Option Nat} (ha : h a = some (.inl (G.2.2.1 d, n, .inr (.inr (.inr (.inr f)))))) (ht : (tyl G.2.2.1)[d]? = some (G.2.2.1 d, .object E)) (hca : va_Nw (.castable r.1 E) s) {fs : List Value} (hv : h v = some (.inr (ci, fs))) (hc : vwCl[ci]? = some r) {i : Int32} (hin : vp_in i n) (hdg : decode cc pc = .ok (.aastore, 1))
    (kk : J G p l e R s m args below meth c nL Q bc bs (hup h a (.inl (G.2.2.1 d, n, .inr (.inr (.inr (.inr (va_up f i.toNatClampNeg (some v)))))))) (pc + 1) L rest) : J G p l e R s m args below meth c nL Q bc bs h pc L (.ref v :: .int i :: .ref a :: rest) := by
  intro H locs ls cells slots hH hS hl b1 b2
  obtain ⟨ws, h1, h2, h3⟩ := id hH.1
  obtain ⟨q0, hq⟩ := h1 a _ ha
  obtain ⟨qk, hqk⟩ := h1 v _ hv
  exact va_astqO C.1 C.2.1 C.2.2.2.2.2.1.1 h2 h3 hS q0 d qk ci hq ht hca hqk hc hin hdg (fun H1 locs1 hP hD hS1 => kk H1 locs1 ls cells slots ⟨HW.set h1 hq hP hD, hm _⟩ hS1 hl b1 b2)
theorem jg_aastN (C : Cx G p s m args meth c cc own nL ret) (hm : FreeG G) {a d n : Nat} {E : String} {f : Nat → Option Nat} (ha : h a = some (.inl (G.2.2.1 d, n, .inr (.inr (.inr (.inr f)))))) (ht : (tyl G.2.2.1)[d]? = some (G.2.2.1 d, .object E)) {i : Int32} (hin : vp_in i n) (hdg : decode cc pc = .ok (.aastore, 1))
    (kk : J G p l e R s m args below meth c nL Q bc bs (hup h a (.inl (G.2.2.1 d, n, .inr (.inr (.inr (.inr (va_up f i.toNatClampNeg none))))))) (pc + 1) L rest) : J G p l e R s m args below meth c nL Q bc bs h pc L (.null :: .int i :: .ref a :: rest) := by
  intro H locs ls cells slots hH hS hl b1 b2
  obtain ⟨ws, h1, h2, h3⟩ := id hH.1
  obtain ⟨q0, hq⟩ := h1 a _ ha
  exact va_astqN C.1 C.2.1 C.2.2.2.2.2.1.1 h2 h3 hS q0 d hq ht hin hdg (fun H1 locs1 hP hD hS1 => kk H1 locs1 ls cells slots ⟨HW.set h1 hq hP hD, hm _⟩ hS1 hl b1 b2)
end GG
