/-! GENERAL ROWS: states of a general mirror; the clone of bytes -/
set_option maxRecDepth 100000
/-- a world and what is left of the budget: cells, slots -/
abbrev GZ : Type := AH × Nat × Nat
theorem va_rf_cat (x : Option Nat) : (va_rf x).category = 1 := by cases x <;> rfl
section GX
variable {G : GT} {p : Program} {l : Launch} {e : Env} {R : Room} {s : State} {m : MethodId} {args : Array Value} {below : List Frame} {meth : Method} {c : Code} {nL : Nat} {Q : State → Prop} {bc bs : Nat} {h : AH} {pc : Nat} {L : List (Nat × Value)} {rest : List Value} {cc : ByteArray} {own : String} {ret : Option FieldType}
theorem g_J {σ : GZ} {st : List Value} (q : σ = (h, bc, bs)) (k : J G p l e R s m args below meth c nL Q σ.2.1 σ.2.2 σ.1 pc L st) : J G p l e R s m args below meth c nL Q bc bs h pc L st := by
  subst q; exact k
theorem g_in {n : Nat} {f : Nat → Int32} {cA : ClassId} (h : ∀ i : Nat, i < n → fits .byte (.int (f i)) = true) (i : Nat) (v : Value) (hv : (vp_cell cA (n, .inl f)).slots[i]? = some v) : fits .byte v = true :=
  va_fit (F := fun j => .int (f j)) (fun j hj => h j hj) i v hv
theorem jg_cloneb (C : Cx G p s m args meth c cc own nL ret) (hT : TabF G) (hm : FreeG G) {index a n : Nat} {f : Nat → Int32} (hq : Cond.methodLink own index ⟨"[B", "clone", "()Ljava/lang/Object;"⟩ ∈ lw_all) (ha : h a = some (.inl (G.2.2.1 2, n, .inl f))) (hfit : ∀ i : Nat, i < n → fits .byte (.int (f i)) = true) (hframes : 1 ≤ R.frames) (hlocals : (rest.map fun v => v.category).sum + 14 ≤ R.locals) {bc' bs' : Nat} (hbc : bc' + 1 ≤ bc) (hbs : bs' + n ≤ bs) (hdg : decode cc pc = .ok (.invokevirtual index, 3))
    (kk : ∀ q : Nat, h q = none → G.1 ≤ q → J G p l e R s m args below meth c nL Q bc' bs' (hup h q (.inl (G.2.2.1 2, n, .inl f))) (pc + 3) L (.ref q :: rest)) : J G p l e R s m args below meth c nL Q bc bs h pc L (.ref a :: rest) := by
  intro H locs ls cells slots hH hS hl b1 b2
  obtain ⟨ws, h1, h2, h3⟩ := id hH.1
  obtain ⟨q0, hq0⟩ := h1 a _ ha
  refine va_clone (ty := .byte) (t0 := 2) C.1 C.2.1 (by rw [C.2.2.1, hl.1]) C.2.2.2.1 (C.2.2.2.2.1 _ hq) (C.2.2.2.2.1 _ q787) (C.2.2.2.2.1 _ q788) (C.2.2.2.2.1 _ q789) (C.2.2.2.2.1 _ q790) (C.tab hT q791 rfl) C.2.2.2.2.2.1.1 h2 h3 hS (fun q hq => Nat.le_trans C.2.2.2.2.2.1.2.2 hq) q0 hq0 rfl (va_nm_byte ((C.2.2.2.2.2.1.1.2 2 _ rfl).2)) (g_in hfit) hframes hlocals (by omega) (by dsimp only; omega) hdg (fun q H1 hK hP hD hS1 => ?_)
  obtain ⟨g1, g2, g3⟩ := HW.push h1 hP hD
  exact kk q g2 g3 H1 locs ls _ _ ⟨g1, hm _⟩ hS1 hl (by omega) (by dsimp only; omega)
end GX
theorem g_nrf (C : String) (x : Option Nat) : narrow (.object C) (va_rf x) = va_rf x := by cases x <;> rfl
theorem g_frf (C : String) (x : Option Nat) : fits (.object C) (va_rf x) = true := by cases x <;> rfl
theorem g_rfv (x : Option Nat) : va_rf x = .null ∨ ∃ a, va_rf x = .ref a := by
  cases x with
  | none => exact Or.inl rfl
  | some a => exact Or.inr ⟨a, rfl⟩
section KK
variable {G : GT} {p : Program} {l : Launch} {e : Env} {R : Room} {s : State} {m : MethodId} {args : Array Value} {below : List Frame} {meth : Method} {c : Code} {nL : Nat} {Q : State → Prop} {bc bs : Nat} {pc : Nat} {L : List (Nat × Value)} {rest : List Value}
theorem kk_v {P : AH → Prop} (k : ∀ h' : AH, P h' → J G p l e R s m args below meth c nL Q bc bs h' pc L rest) : ∀ (v : Option Value) (h' : AH), (v = none ∧ P h') → J G p l e R s m args below meth c nL Q bc bs h' pc L (v.toList ++ rest) := fun v h' ⟨q, hp⟩ => by subst q; exact k h' hp
theorem kk_i {P : Int32 → AH → Prop} (k : ∀ (r : Int32) (h' : AH), P r h' → J G p l e R s m args below meth c nL Q bc bs h' pc L (.int r :: rest)) : ∀ (v : Option Value) (h' : AH), (∃ r : Int32, v = some (.int r) ∧ P r h') → J G p l e R s m args below meth c nL Q bc bs h' pc L (v.toList ++ rest) := fun v h' ⟨r, q, hp⟩ => by subst q; exact k r h' hp
theorem kk_l {P : Int64 → AH → Prop} (k : ∀ (r : Int64) (h' : AH), P r h' → J G p l e R s m args below meth c nL Q bc bs h' pc L (.long r :: rest)) : ∀ (v : Option Value) (h' : AH), (∃ r : Int64, v = some (.long r) ∧ P r h') → J G p l e R s m args below meth c nL Q bc bs h' pc L (v.toList ++ rest) := fun v h' ⟨r, q, hp⟩ => by subst q; exact k r h' hp
theorem kk_d {P : UInt64 → AH → Prop} (k : ∀ (r : UInt64) (h' : AH), P r h' → J G p l e R s m args below meth c nL Q bc bs h' pc L (.double r :: rest)) : ∀ (v : Option Value) (h' : AH), (∃ r : UInt64, v = some (.double r) ∧ P r h') → J G p l e R s m args below meth c nL Q bc bs h' pc L (v.toList ++ rest) := fun v h' ⟨r, q, hp⟩ => by subst q; exact k r h' hp
theorem kk_f {P : UInt32 → AH → Prop} (k : ∀ (r : UInt32) (h' : AH), P r h' → J G p l e R s m args below meth c nL Q bc bs h' pc L (.float r :: rest)) : ∀ (v : Option Value) (h' : AH), (∃ r : UInt32, v = some (.float r) ∧ P r h') → J G p l e R s m args below meth c nL Q bc bs h' pc L (v.toList ++ rest) := fun v h' ⟨r, q, hp⟩ => by subst q; exact k r h' hp
theorem kk_r {P : Nat → AH → Prop} (k : ∀ (r : Nat) (h' : AH), P r h' → J G p l e R s m args below meth c nL Q bc bs h' pc L (.ref r :: rest)) : ∀ (v : Option Value) (h' : AH), (∃ r : Nat, v = some (.ref r) ∧ P r h') → J G p l e R s m args below meth c nL Q bc bs h' pc L (v.toList ++ rest) := fun v h' ⟨r, q, hp⟩ => by subst q; exact k r h' hp
theorem kk_o {P : Option Nat → AH → Prop} (k : ∀ (r : Option Nat) (h' : AH), P r h' → J G p l e R s m args below meth c nL Q bc bs h' pc L (va_rf r :: rest)) : ∀ (v : Option Value) (h' : AH), (∃ r : Option Nat, v = some (va_rf r) ∧ P r h') → J G p l e R s m args below meth c nL Q bc bs h' pc L (v.toList ++ rest) := fun v h' ⟨r, q, hp⟩ => by subst q; exact k r h' hp
end KK
/-- what may lie in a row of objects -/
def gEl (G : GT) (h : AH) (v : Nat) : Prop := ∃ Cn : String, Cond.castable Cn "java/lang/Object" ∈ lw_tbl ∧ ((∃ (ci : Nat) (fs : List Value) (T : u_T) (N : Nat), h v = some (.inr (ci, fs)) ∧ vwCl[ci]? = some (Cn, T, N)) ∨ ∀ U : State, GW G U → va_O Cn v (fun q => G.1 ≤ q) U U.heap)
section GY
variable {G : GT} {p : Program} {l : Launch} {e : Env} {R : Room} {s : State} {m : MethodId} {args : Array Value} {below : List Frame} {meth : Method} {c : Code} {nL : Nat} {Q : State → Prop} {bc bs : Nat} {h : AH} {pc : Nat} {L : List (Nat × Value)} {rest : List Value} {cc : ByteArray} {own : String} {ret : Option FieldType}
theorem gEl.any (C : Cx G p s m args meth c cc own nL ret) (hT : TabF G) {v : Nat} (x : gEl G h v) {H : Heap} {locs : List Loc} (hH : HG G h H) (hS : va_S (fun q => G.1 ≤ q) s.heap H locs) : va_Any "java/lang/Object" s H v := by
  obtain ⟨Cn, hw, hx⟩ := x
  obtain ⟨c3, t3, e1, e2, e3⟩ := Cond.castable_spec (va_Nw.use (A := args) rfl (C.tab hT hw rfl))
  have hr : ∃ cell : Cell, H[v]? = some cell ∧ cell.vm.isStatics = false ∧ s.vm.findClass Cn = some cell.cls := by
    rcases hx with ⟨ci, fs, T, N, g1, g2⟩ | hx
    · exact aC.recv C (Or.inl ⟨fs, g1⟩) g2 hH hS
    · obtain ⟨cell, g1, g2, g3, g4⟩ := hx s C.2.2.2.2.2.1
      exact ⟨cell, by rw [hS.2.1 v (Array.getElem?_eq_some_iff.mp g1).1 g4]; exact g1, g2, g3⟩
  obtain ⟨cell, g1, g2, g3⟩ := hr
  obtain ⟨kC, hkC, -⟩ := Vm.findClass_spec g3
  refine ⟨cell, g1, g2, ⟨kC, hkC⟩, fun comp hc => ?_⟩
  cases hc.symm.trans e2
  cases g3.symm.trans e1
  exact e3
theorem jg_aastC (C : Cx G p s m args meth c cc own nL ret) (hT : TabF G) (hm : FreeG G) {a n v : Nat} {f : Nat → Option Nat} (ha : h a = some (.inl (G.2.2.1 7, n, .inr (.inr (.inr (.inr f)))))) (hv : gEl G h v) {i : Int32} (hin : vp_in i n) (hdg : decode cc pc = .ok (.aastore, 1))
    (kk : J G p l e R s m args below meth c nL Q bc bs (hup h a (.inl (G.2.2.1 7, n, .inr (.inr (.inr (.inr (va_up f i.toNatClampNeg (some v)))))))) (pc + 1) L rest) : J G p l e R s m args below meth c nL Q bc bs h pc L (.ref v :: .int i :: .ref a :: rest) := by
  intro H locs ls cells slots hH hS hl b1 b2
  obtain ⟨ws, h1, h2, h3⟩ := id hH.1
  obtain ⟨q0, hq⟩ := h1 a _ ha
  exact va_astqM (E := "java/lang/Object") C.1 C.2.1 C.2.2.2.2.2.1.1 h2 h3 hS q0 7 hq rfl (hv.any C hT hH hS) hin hdg (fun H1 locs1 hP hD hS1 => kk H1 locs1 ls cells slots ⟨HW.set h1 hq hP hD, hm _⟩ hS1 hl b1 b2)
theorem jg_copyo (C : Cx G p s m args meth c cc own nL ret) (hT : TabF G) (hm : FreeG G) {index : Nat} (hq : Cond.methodLink own index arraycopyName ∈ lw_all) {a0 a n0 n1 : Nat} {f g : Nat → Option Nat} (ha0 : h a0 = some (.inl (G.2.2.1 7, n0, .inr (.inr (.inr (.inr f)))))) (ha1 : h a = some (.inl (G.2.2.1 7, n1, .inr (.inr (.inr (.inr g))))))
    {sp dp n : Int32} (h1 : ¬ sp < 0) (h2 : ¬ dp < 0) (h3 : ¬ n < 0) (h4 : sp.toNatClampNeg + n.toNatClampNeg ≤ n0) (h5 : dp.toNatClampNeg + n.toNatClampNeg ≤ n1) (hel : ∀ i : Nat, i < n.toNatClampNeg → ∀ y : Nat, f (sp.toNatClampNeg + i) = some y → gEl G h y) (hframes : 1 ≤ R.frames) (hlocals : (rest.map fun v => v.category).sum + 200 ≤ R.locals) (hdg : decode cc pc = .ok (.invokestatic index, 3))
    (kk : J G p l e R s m args below meth c nL Q bc bs (hup h a (.inl (G.2.2.1 7, n1, .inr (.inr (.inr (.inr (va_cpy f g sp.toNatClampNeg dp.toNatClampNeg n.toNatClampNeg))))))) (pc + 3) L rest) : J G p l e R s m args below meth c nL Q bc bs h pc L (.int n :: .int dp :: .ref a :: .int sp :: .ref a0 :: rest) := by
  intro H locs ls cells slots hH hS hl b1 b2
  obtain ⟨ws, w1, w2, w3⟩ := id hH.1
  obtain ⟨q0, hq0⟩ := w1 a0 _ ha0
  obtain ⟨q1, hq1⟩ := w1 a _ ha1
  have hlo : (rest.map fun v => v.category).sum + (nativeFrameWords "java/lang/System" "arraycopy" 5 + 11) ≤ R.locals := Nat.le_trans (Nat.add_le_add_left (Nat.le_of_ble_eq_true (by decide +kernel)) _) hlocals
  exact va_copyM (E0 := "java/lang/Object") (E1 := "java/lang/Object") C.1 C.2.1 (by rw [C.2.2.1, hl.1]) C.2.2.2.1 (C.2.2.2.2.1 _ hq) (C.2.2.2.2.1 _ q293) (C.2.2.2.2.1 _ q292) (C.2.2.2.2.1 _ q103) C.2.2.2.2.2.1.1 w2 w3 hS q0 q1 7 7 hq0 hq1 rfl rfl h1 h2 h3 h4 h5 (fun i hi y hy => (hel i hi y hy).any C hT hH hS) hframes hlo hdg (fun H1 locs1 hP hD hS1 => kk H1 locs1 ls cells slots ⟨HW.set w1 hq1 hP hD, hm _⟩ hS1 hl b1 b2)
theorem j_iushr (C : Cx G p s m args meth c cc own nL ret) {x y : Int32} (hdg : decode cc pc = .ok (.iushr, 1)) (k : J G p l e R s m args below meth c nL Q bc bs h (pc + 1) L (.int ((x.toUInt32 >>> (y.toUInt32 &&& Int32.toUInt32 31)).toInt32) :: rest)) : J G p l e R s m args below meth c nL Q bc bs h pc L (.int y :: .int x :: rest) :=
  fun H locs ls cells slots hH hS hl b1 b2 => lv_iushr C.1 C.2.1 hdg rfl (k H locs ls cells slots hH hS hl b1 b2)
/-- an inherited field, named through the class -/
theorem jg_getSF (C : Cx G p s m args meth c cc own nL ret) {a : Nat} {ref Cn : String} {T : u_T} {N ci index : Nat} (hc : vwCl[ci]? = some (Cn, T, N)) (hin : ∀ w ∈ u_ws Cn T N, w ∈ lw_all) (k : Nat) (hk : k < N) (hlink : Cond.fieldLink own index ref (T k).2.1 (T k).2.2.1 ∈ lw_all) (hsf : Cond.sameField ref (T k).1 (T k).2.1 (T k).2.2.1 ∈ lw_all) {v : Value} (hv : aF G h a ci k v) (hdg : decode cc pc = .ok (.getfield index, 3))
    (kk : J G p l e R s m args below meth c nL Q bc bs h (pc + 3) L (v :: rest)) : J G p l e R s m args below meth c nL Q bc bs h pc L (.ref a :: rest) := by
  intro H locs ls cells slots hH hS hl b1 b2
  rcases hv with ⟨fs, h1, h2⟩ | ⟨r', h1, h2⟩
  · obtain ⟨ws, w1, w2, w3⟩ := id hH.1
    obtain ⟨q0, hq⟩ := w1 a _ h1
    exact va_get C.1 C.2.1 C.2.2.2.2.1 hin C.2.2.2.1 C.2.2.2.2.2.1.1 w2 q0 hq hc k hk (C.2.2.2.2.1 _ hlink) (u_same (C.2.2.2.2.1 _ hsf)) h2 hdg (kk H locs ls cells slots hH hS hl b1 b2)
  · cases h1.symm.trans hc
    exact vk_getf C.1 C.2.1 (h2 s C.2.2.2.2.2.1) hS C.2.2.2.1 (C.2.2.2.2.1 _ hlink) (u_same (C.2.2.2.2.1 _ hsf)) hdg (kk H locs ls cells slots hH hS hl b1 b2)
theorem jg_putSF (C : Cx G p s m args meth c cc own nL ret) (hm : FreeG G) {a : Nat} {ref Cn : String} {T : u_T} {N ci index : Nat} {fs : List Value} (ha : h a = some (.inr (ci, fs))) (hc : vwCl[ci]? = some (Cn, T, N)) (hin : ∀ w ∈ u_ws Cn T N, w ∈ lw_all) (ty0 : Nat → FieldType) (hty : ∀ k, k < N → parseFieldDescriptor (T k).2.2.1 = some (ty0 k)) (hnm : ∀ a, a < N → ∀ b, b < N → a ≠ b → (T a).2.1 ≠ (T b).2.1) (k : Nat) (hk : k < N) (hlink : Cond.fieldLink own index ref (T k).2.1 (T k).2.2.1 ∈ lw_all) (hsf : Cond.sameField ref (T k).1 (T k).2.1 (T k).2.2.1 ∈ lw_all) (hfin : (T k).2.2.2 = false) {v : Value} (hn : narrow (ty0 k) v = v) (hfit : fits (ty0 k) v = true) (hl0 : k < fs.length) (hdg : decode cc pc = .ok (.putfield index, 3))
    (kk : J G p l e R s m args below meth c nL Q bc bs (hup h a (.inr (ci, fs.set k v))) (pc + 3) L rest) : J G p l e R s m args below meth c nL Q bc bs h pc L (v :: .ref a :: rest) := by
  intro H locs ls cells slots hH hS hl b1 b2
  obtain ⟨ws, h1, h2, h3⟩ := id hH.1
  obtain ⟨q0, hq⟩ := h1 a _ ha
  exact va_put C.1 C.2.1 C.2.2.2.2.1 hin ty0 hty hnm C.2.2.2.1 C.2.2.2.2.2.1.1 h2 h3 hS q0 hq hc k hk (C.2.2.2.2.1 _ hlink) (u_same (C.2.2.2.2.1 _ hsf)) hfin (hty k hk) hn hfit hl0 hdg (fun H1 locs1 hP hD hS1 => kk H1 locs1 ls cells slots ⟨HW.set h1 hq hP hD, hm _⟩ hS1 hl b1 b2)
end GY
/-! the class object of rows of objects -/
def MiF (G : GT) (mi : Nat) : Prop := ∀ U : State, GW G U → va_Mi "[Ljava/lang/Object;" mi U
section GM
variable {G : GT} {p : Program} {l : Launch} {e : Env} {R : Room} {s : State} {m : MethodId} {args : Array Value} {below : List Frame} {meth : Method} {c : Code} {nL : Nat} {Q : State → Prop} {bc bs : Nat} {h : AH} {pc : Nat} {L : List (Nat × Value)} {rest : List Value} {cc : ByteArray} {own : String} {ret : Option FieldType}
theorem jg_ldcM (C : Cx G p s m args meth c cc own nL ret) {index mi : Nat} (hl : Cond.classLink own index "[Ljava/lang/Object;" ∈ lw_all) (hM : MiF G mi) (hdg : decode cc pc = .ok (.ldc index, 2)) (kk : J G p l e R s m args below meth c nL Q bc bs h (pc + 2) L (.ref mi :: rest)) : J G p l e R s m args below meth c nL Q bc bs h pc L rest :=
  fun H locs ls cells slots hH hS hl' b1 b2 => va_ldcM C.1 C.2.1 C.2.2.2.1 (C.2.2.2.2.1 _ hl) (hM s C.2.2.2.2.2.1) hdg (kk H locs ls cells slots hH hS hl' b1 b2)
theorem jg_getC (C : Cx G p s m args meth c cc own nL ret) (hT : TabF G) {index mi a n : Nat} {f : Nat → Option Nat} (hq : Cond.methodLink own index ⟨"java/lang/Object", "getClass", "()Ljava/lang/Class;"⟩ ∈ lw_all) (hM : MiF G mi) (ha : h a = some (.inl (G.2.2.1 7, n, .inr (.inr (.inr (.inr f)))))) (hframes : 1 ≤ R.frames) (hlocals : (rest.map fun v => v.category).sum + 14 ≤ R.locals) (hdg : decode cc pc = .ok (.invokevirtual index, 3)) (kk : J G p l e R s m args below meth c nL Q bc bs h (pc + 3) L (.ref mi :: rest)) : J G p l e R s m args below meth c nL Q bc bs h pc L (.ref a :: rest) := by
  intro H locs ls cells slots hH hS hl b1 b2
  obtain ⟨ws, w1, w2, w3⟩ := id hH.1
  obtain ⟨q0, hq0⟩ := w1 a _ ha
  refine va_getC (C := "[Ljava/lang/Object;") C.1 C.2.1 (by rw [C.2.2.1, hl.1]) C.2.2.2.1 (C.2.2.2.2.1 _ hq) (va_any rfl (C.tab hT q2360 rfl)) (C.2.2.2.2.1 _ q2359) (C.2.2.2.2.1 _ q609) (C.2.2.2.2.1 _ q641) (hM s C.2.2.2.2.2.1) ⟨_, w2 q0 _ hq0, rfl, ?_⟩ hframes hlocals hdg (kk H locs ls cells slots hH hS hl b1 b2)
  exact va_nmO ((C.2.2.2.2.2.1.1.2 7 _ rfl).2) (by decide +kernel)
end GM
/-! a private method of AbstractStringBuilder on a StringBuilder -/
theorem g_selP {p : Program} {s : State} {m : MethodId} {args : Array Value} {meth : Method} {c : Code} {nL : Nat} {cc : ByteArray} {own : String} {ret : Option FieldType} {G : GT} (C : Cx G p s m args meth c cc own nL ret) (hT : TabF G) {y : MethodName} (hw : Cond.privateMethod y ∈ lw_tbl) (hi : Cond.instanceMethod y ∈ lw_all) (hcls : y.cls = "java/lang/AbstractStringBuilder") : (Cond.selects "java/lang/StringBuilder" y y).before args s = true := by
  obtain ⟨mk, methM, hnamed, hmethM, -, -⟩ := Cond.instanceMethod_spec (C.2.2.2.2.1 _ hi)
  have hfound : s.methodFound? y.cls y.name y.desc = some mk := State.methodFound?_of_named hnamed ⟨by rw [hcls]; decide +kernel, by rw [hcls]; decide +kernel⟩
  obtain ⟨c2, r2, m2, e1, e2, e3, e4, k, e5, e6⟩ := Cond.selects_spec (C.2.2.2.2.1 _ q796)
  have hm2 : m2.cls = mk.cls := by
    have z1 := findClass_of_methodNamed hnamed
    have z2 := findClass_of_methodNamed e3
    rw [hcls] at z1
    exact Option.some.inj (z2.symm.trans z1)
  have hsel : selectMethod {} s.vm c2 mk = .method mk := selectMethod_private hmethM (Cond.privateMethod_at (args := args) (va_any rfl (C.tab hT hw rfl)) mk methM hnamed hmethM)
  rw [hm2] at e5
  simp only [Cond.before, Cond.holds, Cond.value, e1, hfound, hnamed, hsel, e5]
  simp; exact e6
def CalP (y : MethodName) (cc : ByteArray) (nL : Nat) (ret : Option FieldType) (n : Nat) : Prop := Cond.instanceMethod y ∈ lw_all ∧ Cond.privateMethod y ∈ lw_tbl ∧ Cond.initialized y.cls ∈ lw_all ∧ Cond.code y cc nL ret ∈ lw_all ∧ Cond.sameMethod y.cls y.cls y.name y.desc ∈ lw_all ∧ (y.cls = "java/lang/AbstractStringBuilder" ∧ y.cls ≠ "java/lang/invoke/MethodHandle" ∧ y.cls ≠ "java/lang/invoke/VarHandle" ∧ (parseMethodDescriptor y.desc).map (fun d => d.parameters.length) = some n)
theorem jg_callP {G : GT} {p : Program} {l : Launch} {e : Env} {R : Room} {s : State} {m : MethodId} {args : Array Value} {below : List Frame} {meth : Method} {c : Code} {nL : Nat} {Q : State → Prop} {bc bs : Nat} {h : AH} {pc : Nat} {L : List (Nat × Value)} {rest : List Value} {cc : ByteArray} {own : String} {ret : Option FieldType} (C : Cx G p s m args meth c cc own nL ret) (hT : TabF G) {y : MethodName} {cc' : ByteArray} {nL' : Nat} {ret' : Option FieldType} {fr lo mc ms n b index : Nat} {As st : List Value} {Post : Option Value → AH → Prop} (hM : MT G l y cc' nL' ret' fr lo mc ms (.ref b :: As) h Post) (hq : Cond.methodLink own index y ∈ lw_all) (hy : CalP y cc' nL' ret' n) (hrecv : aC G h b 13) (hn : As.length = n) (hst : st = As.reverse ++ .ref b :: rest) (hcat : (rest.map fun v => v.category).sum ≤ 8) (hR : fr + 1 ≤ R.frames ∧ 8 + (nL' + 11) + lo ≤ R.locals) (hmc : mc ≤ bc) (hms : ms ≤ bs) (hdg : decode cc pc = .ok (.invokevirtual index, 3))
    (kk : ∀ (v : Option Value) (h' : AH), Post v h' → J G p l e R s m args below meth c nL Q (bc - mc) (bs - ms) h' (pc + 3) L (v.toList ++ rest)) : J G p l e R s m args below meth c nL Q bc bs h pc L st := by
  refine j_run (a := (Value.ref b :: As).toArray) C hmc hms (fun H locs ls cells slots hH hS hsz hf => ?_) kk
  obtain ⟨y1, y2, y3, y4, y5, y9, y6, y7, y8⟩ := hy
  have hgood : ∀ w ∈ ws_ y cc' nL' ret', ∀ (a' : Array Value) (U : State), s.WarmedH U.vm → w.before a' U = true := pay_in C.2.2.2.2.1 (lw_meth y4)
  have cw : va_CU R s args own "java/lang/StringBuilder" y.cls index y y cc' nL' ret' (ws_ y cc' nL' ret') ({ frames := fr, cells := mc, slots := ms, locals := lo }) mc ms n :=
    ⟨⟨rfl, rfl, hR.1, hR.2, hgood, List.mem_cons_self⟩, C.2.2.2.2.1 _ y4, C.2.2.2.2.1 _ y3, ⟨y6, y7⟩, fun sig hs => by
      rw [hs] at y8
      exact (Option.some.inj y8).symm, C.2.2.2.2.1 _ hq, C.2.2.2.2.1 _ y5, va_Decl.of (C.2.2.2.2.1 _ y1) (C.2.2.2.2.1 _ y4), g_selP C hT y2 y1 y9, C.2.2.2.2.1 _ y1⟩
  exact va_runU ⟨C.1, C.2.1, C.2.2.1, C.2.2.2.1, C.2.2.2.2.1⟩ hM cw ⟨SP.blind C.2.2.2.2.2.2.1, hrecv.recv C (r := (RJ3, TJ3, 4)) rfl hH hS, fun U hU hW => ⟨rfl, C.gw hS hU hW, by rw [hU]; exact hH⟩⟩ rfl hn hsz hst (lv_room hcat) hdg hf
/-- an overriding method: x is named, y runs -/
def CalO (x y : MethodName) (Cn : String) (cc : ByteArray) (nL : Nat) (ret : Option FieldType) (n : Nat) : Prop := Cond.instanceMethod x ∈ lw_all ∧ (∃ (b : ByteArray) (m0 : Nat) (r0 : Option FieldType), Cond.code x b m0 r0 ∈ lw_all) ∧ Cond.instanceMethod y ∈ lw_all ∧ Cond.selects Cn x y ∈ lw_all ∧ Cond.initialized y.cls ∈ lw_all ∧ Cond.code y cc nL ret ∈ lw_all ∧ Cond.sameMethod x.cls x.cls x.name x.desc ∈ lw_all ∧ (x.cls ≠ "java/lang/invoke/MethodHandle" ∧ x.cls ≠ "java/lang/invoke/VarHandle" ∧ (parseMethodDescriptor x.desc).map (fun d => d.parameters.length) = some n)
theorem jg_callO {G : GT} {p : Program} {l : Launch} {e : Env} {R : Room} {s : State} {m : MethodId} {args : Array Value} {below : List Frame} {meth : Method} {c : Code} {nL : Nat} {Q : State → Prop} {bc bs : Nat} {h : AH} {pc : Nat} {L : List (Nat × Value)} {rest : List Value} {cc : ByteArray} {own : String} {ret : Option FieldType} (C : Cx G p s m args meth c cc own nL ret) {x y : MethodName} {Cn : String} {cc' : ByteArray} {nL' : Nat} {ret' : Option FieldType} {fr lo mc ms n b ci index : Nat} {As st : List Value} {T : u_T} {N : Nat} {Post : Option Value → AH → Prop} (hM : MT G l y cc' nL' ret' fr lo mc ms (.ref b :: As) h Post) (hq : Cond.methodLink own index x ∈ lw_all) (hy : CalO x y Cn cc' nL' ret' n) (hci : vwCl[ci]? = some (Cn, T, N)) (hrecv : aC G h b ci) (hn : As.length = n) (hst : st = As.reverse ++ .ref b :: rest) (hcat : (rest.map fun v => v.category).sum ≤ 8) (hR : fr + 1 ≤ R.frames ∧ 8 + (nL' + 11) + lo ≤ R.locals) (hmc : mc ≤ bc) (hms : ms ≤ bs) (hdg : decode cc pc = .ok (.invokevirtual index, 3))
    (kk : ∀ (v : Option Value) (h' : AH), Post v h' → J G p l e R s m args below meth c nL Q (bc - mc) (bs - ms) h' (pc + 3) L (v.toList ++ rest)) : J G p l e R s m args below meth c nL Q bc bs h pc L st := by
  refine j_run (a := (Value.ref b :: As).toArray) C hmc hms (fun H locs ls cells slots hH hS hsz hf => ?_) kk
  obtain ⟨x1, ⟨b0, m0, r0, x2⟩, y1, y2, y3, y4, y5, y6, y7, y8⟩ := hy
  have hgood : ∀ w ∈ ws_ y cc' nL' ret', ∀ (a' : Array Value) (U : State), s.WarmedH U.vm → w.before a' U = true := pay_in C.2.2.2.2.1 (lw_meth y4)
  have cw : va_CU R s args own Cn x.cls index x y cc' nL' ret' (ws_ y cc' nL' ret') ({ frames := fr, cells := mc, slots := ms, locals := lo }) mc ms n :=
    ⟨⟨rfl, rfl, hR.1, hR.2, hgood, List.mem_cons_self⟩, C.2.2.2.2.1 _ y4, C.2.2.2.2.1 _ y3, ⟨y6, y7⟩, fun sig hs => by
      rw [hs] at y8
      exact (Option.some.inj y8).symm, C.2.2.2.2.1 _ hq, C.2.2.2.2.1 _ y5, va_Decl.of (C.2.2.2.2.1 _ x1) (C.2.2.2.2.1 _ x2), C.2.2.2.2.1 _ y2, C.2.2.2.2.1 _ y1⟩
  exact va_runU ⟨C.1, C.2.1, C.2.2.1, C.2.2.2.1, C.2.2.2.2.1⟩ hM cw ⟨SP.blind C.2.2.2.2.2.2.1, hrecv.recv C hci hH hS, fun U hU hW => ⟨rfl, C.gw hS hU hW, by rw [hU]; exact hH⟩⟩ rfl hn hsz hst (lv_room hcat) hdg hf
