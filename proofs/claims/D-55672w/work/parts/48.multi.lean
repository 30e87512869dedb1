/-! ARRAYS OF ARRAYS MADE; System.arraycopy of ints; a cell said otherwise -/
set_option maxRecDepth 100000
def HWb (z : Nat) (D : va_G) (h : AH) (H : Heap) (b : Nat) : Prop := ∃ ws : va_W, (∀ (a : Nat) (e : va_E), h a = some e → ∃ k : Nat, ws[k]? = some (a, e)) ∧ va_P D vwCl ws H ∧ va_D (fun q => z ≤ q) ws ∧ ∀ (k : Nat) (q : Nat × va_E), ws[k]? = some q → q.1 < b
theorem HWb.out {z : Nat} {D : va_G} {h : AH} {H : Heap} {b : Nat} (hh : HWb z D h H b) : HW z D h H := by
  obtain ⟨ws, h1, h2, h3, -⟩ := hh
  exact ⟨ws, h1, h2, h3⟩
theorem HW.bound {z : Nat} {D : va_G} {h : AH} {H H1 : Heap} (hh : HW z D h H) (hk : ∀ a : Nat, a < H.size → H1[a]? = H[a]?) : HWb z D h H1 H.size := by
  obtain ⟨ws, h1, h2, h3⟩ := hh
  exact ⟨ws, h1, h2.kept (fun k q hq => hk q.1 ((h2 k q hq).lt)), h3, fun k q hq => (h2 k q hq).lt⟩
theorem HWb.none {z : Nat} {D : va_G} {h : AH} {H : Heap} {b q : Nat} (hh : HWb z D h H b) (hb : b ≤ q) : h q = none := by
  obtain ⟨ws, h1, -, -, h4⟩ := hh
  cases hq : h q with
  | none => rfl
  | some e =>
    obtain ⟨k, hk⟩ := h1 q e hq
    have := h4 k _ hk
    dsimp only at this
    omega
theorem HWb.add {z : Nat} {D : va_G} {h : AH} {H : Heap} {b q : Nat} {e : va_E} (hh : HWb z D h H b) (hb : b ≤ q) (hz : z ≤ q) (he : va_at D vwCl (q, e) H) : HWb z D (hup h q e) H (q + 1) := by
  obtain ⟨ws, h1, h2, h3, h4⟩ := hh
  have key : ∀ (k : Nat) (x : Nat × va_E), (ws ++ [(q, e)])[k]? = some x → (ws[k]? = some x ∧ x.1 < q) ∨ (k = ws.length ∧ x = (q, e)) := by
    intro k x hx
    by_cases hl : k < ws.length
    · rw [List.getElem?_append_left hl] at hx
      exact Or.inl ⟨hx, Nat.lt_of_lt_of_le (h4 k x hx) hb⟩
    · rw [List.getElem?_append_right (by omega)] at hx
      have h0 : k - ws.length < 1 := (List.getElem?_eq_some_iff.mp hx).1
      rw [show k - ws.length = 0 by omega] at hx
      exact Or.inr ⟨by omega, (Option.some.inj hx).symm⟩
  refine ⟨ws ++ [(q, e)], fun a ea ha => ?_, fun k x hx => ?_, ⟨fun i j x y hx hy hxy => ?_, fun k x hx => ?_⟩, fun k x hx => ?_⟩
  · by_cases hq : a = q
    · subst hq; rw [hup_self] at ha; cases ha
      exact ⟨ws.length, by simp⟩
    · rw [hup_ne hq] at ha
      obtain ⟨k, hk⟩ := h1 a ea ha
      exact ⟨k, by rw [List.getElem?_append_left (List.getElem?_eq_some_iff.mp hk).1]; exact hk⟩
  · rcases key k x hx with ⟨g, -⟩ | ⟨-, rfl⟩
    · exact h2 k x g
    · exact he
  · rcases key i x hx with ⟨g, g'⟩ | ⟨g, rfl⟩ <;> rcases key j y hy with ⟨f, f'⟩ | ⟨f, rfl⟩
    · exact h3.1 i j x y g f hxy
    · dsimp only at hxy; omega
    · dsimp only at hxy; omega
    · omega
  · rcases key k x hx with ⟨g, -⟩ | ⟨-, rfl⟩
    · exact h3.2 k x g
    · exact hz
  · rcases key k x hx with ⟨-, g⟩ | ⟨-, rfl⟩
    · omega
    · exact Nat.lt_succ_self _
/-- six rows behind an array of them -/
def Z6 (dA : Nat → ClassId) : va_E := .inl (dA 0, 6, .inl (cut6 fun _ => 0))
def mulH (dA : Nat → ClassId) (h : AH) (q : Nat) (r : Nat → Option Nat) : AH := hup (hup (hup (hup (hup (hup (hup h q (.inl (dA 6, 6, .inr (.inr (.inr (.inr r)))))) (q + 1 + 0) (Z6 dA)) (q + 1 + 1) (Z6 dA)) (q + 1 + 2) (Z6 dA)) (q + 1 + 3) (Z6 dA)) (q + 1 + 4) (Z6 dA)) (q + 1 + 5) (Z6 dA)
theorem outer6 (cA : ClassId) (h0 : Nat) {r : Nat → Option Nat} (hr : ∀ i, i < 6 → r i = some (h0 + 1 + i)) : Jvm.Free.Multi.outerC cA 6 h0 6 = vp_cell cA (6, .inr (.inr (.inr (.inr r)))) := by
  show _ = arrV cA 6 (fun j => va_rf (r j))
  have e : ∀ f : Nat → Value, arrV cA 6 f = ({ cls := cA, slots := #[f 0, f 1, f 2, f 3, f 4, f 5], vm := .none } : Cell) := fun f => by
    simp only [arrV]; rfl
  rw [e, hr 0 (by omega), hr 1 (by omega), hr 2 (by omega), hr 3 (by omega), hr 4 (by omega), hr 5 (by omega)]
  rfl
theorem inner6 (cA : ClassId) : Jvm.Free.Multi.innerC cA 6 (defaultValue .int) = vp_cell cA (6, .inl (cut6 fun _ => 0)) := rfl
section MU
variable {G : GT} {p : Program} {l : Launch} {e : Env} {R : Room} {s : State} {m : MethodId} {args : Array Value} {below : List Frame} {meth : Method} {c : Code} {nL : Nat} {Q : State → Prop} {bc bs : Nat} {h : AH} {pc : Nat} {L : List (Nat × Value)} {rest : List Value} {cc : ByteArray} {own : String} {ret : Option FieldType}
theorem j_multi66 (C : Cx G p s m args meth c cc own nL ret) (hT : TabF G) (hm : FreeG G) {index : Nat} (hcl : Cond.classLink own index "[[I" ∈ lw_all) {bc' bs' : Nat} (hbc : bc' + 7 ≤ bc) (hbs : bs' + 42 ≤ bs) (hdg : decode cc pc = .ok (.multianewarray index 2, 4))
    (kk : ∀ (q : Nat), (∀ i, i < 7 → h (q + i) = none) → G.1 ≤ q → ∀ r : Nat → Option Nat, (∀ i, i < 6 → r i = some (q + 1 + i)) → J G p l e R s m args below meth c nL Q bc' bs' (mulH G.2.2.1 h q r) (pc + 4) L (.ref q :: rest)) : J G p l e R s m args below meth c nL Q bc bs h pc L (.int 6 :: .int 6 :: rest) := by
  intro H locs ls cells slots hH hS hl b1 b2
  intro T hT0 X
  have hdcl : fits .int (defaultValue .int) = true := rfl
  obtain ⟨vm₁, cA, comp, hW, hfA, hfC, -, -, X1, step⟩ := X.multianewarray2F C.1 (own := own) (index := index) (ty := .int) C.2.2.2.1 (C.2.2.2.2.1 _ hcl) (C.tab hT q151 rfl) (C.2.2.2.2.1 _ q199)
    (g := F0 m pc ls (.int 6 :: .int 6 :: rest)) rfl (by rw [C.2.1]; exact hdg) (n := 6) (k := 6) (rest := rest) rfl (by decide) (by decide) (by decide) (by decide) (by decide) rfl rfl (by show cells + (1 + 6) ≤ _; omega) (by show slots + (6 + 6 * 6) ≤ _; omega)
  have hK := C.2.2.2.2.2.1.1
  have eA : cA = G.2.2.1 6 := by
    have := (hK.2 6 (G.2.2.1 6, .array .int) rfl).2
    exact Option.some.inj (hfA.symm.trans this)
  have eC : comp = G.2.2.1 0 := by
    have := (hK.2 0 (G.2.2.1 0, .int) rfl).2
    exact Option.some.inj (hfC.symm.trans this)
  subst eA eC
  obtain ⟨f1, f2, f3, f4⟩ := Jvm.Free.Multi.fill_facts (T.setVm vm₁) (G.2.2.1 6) (G.2.2.1 0) 6 6 (defaultValue .int) 6
  have f5 : ∀ a, a < T.heap.size → (Jvm.Free.Multi.fill (T.setVm vm₁) (G.2.2.1 6) (G.2.2.1 0) 6 6 (defaultValue .int) 6).heap[a]? = T.heap[a]? := fun a ha => Jvm.Free.Multi.fill_old (T.setVm vm₁) (G.2.2.1 6) (G.2.2.1 0) 6 6 (defaultValue .int) (show a < (T.setVm vm₁).heap.size from ha) 6
  have f6 : ∀ j, j < 6 → (Jvm.Free.Multi.fill (T.setVm vm₁) (G.2.2.1 6) (G.2.2.1 0) 6 6 (defaultValue .int) 6).heap[T.heap.size + 1 + j]? = some (Jvm.Free.Multi.innerC (G.2.2.1 0) 6 (defaultValue .int)) := fun j hj => Jvm.Free.Multi.fill_inner (T.setVm vm₁) (G.2.2.1 6) (G.2.2.1 0) 6 6 (defaultValue .int) 6 j hj
  have f1' : (Jvm.Free.Multi.fill (T.setVm vm₁) (G.2.2.1 6) (G.2.2.1 0) 6 6 (defaultValue .int) 6).heap.size = T.heap.size + 1 + 6 := f1
  have f2' : (Jvm.Free.Multi.fill (T.setVm vm₁) (G.2.2.1 6) (G.2.2.1 0) 6 6 (defaultValue .int) 6).heap[T.heap.size]? = some (Jvm.Free.Multi.outerC (G.2.2.1 6) 6 T.heap.size 6) := f2
  generalize hF : Jvm.Free.Multi.fill (T.setVm vm₁) (G.2.2.1 6) (G.2.2.1 0) 6 6 (defaultValue .int) 6 = T1 at *
  have X1' : Stand p l e R s m args below meth c T1 locs (cells + 7) (slots + 42) := by
    have := X1
    rw [show Int32.toNatClampNeg 6 = 6 from rfl, hF] at this
    exact this
  have step' : ∀ target, Steps p.tables e below (T1.setTop (F0 m (pc + 4) ls (.ref T.heap.size :: rest))) target → Steps p.tables e below (T.setTop (F0 m pc ls (.int 6 :: .int 6 :: rest))) target := by
    have := step
    rw [show Int32.toNatClampNeg 6 = 6 from rfl, hF] at this
    exact this
  rw [hT0] at f1' f2' f5 f6 step'
  have zq : G.1 ≤ H.size := Nat.le_trans C.2.2.2.2.2.1.2.2 hS.1
  have B0 := hH.1.bound f5
  have fresh : ∀ i, i < 7 → h (H.size + i) = none := fun i _ => B0.none (by omega)
  have hin : ∀ j, j < 6 → va_at G.2.1 vwCl (H.size + 1 + j, Z6 G.2.2.1) T1.heap := fun j hj => by
    show T1.heap[H.size + 1 + j]? = some (vp_cell (G.2.2.1 0) (6, .inl (cut6 fun _ => 0)))
    rw [f6 j hj, inner6]
  obtain ⟨t2, q1, q2⟩ := kk H.size fresh zq (fun i => some (H.size + 1 + i)) (fun i _ => rfl) T1.heap locs ls (cells + 7) (slots + 42)
    ⟨by
      refine HWb.out (b := H.size + 1 + 5 + 1) ?_
      unfold mulH
      refine HWb.add (b := H.size + 1 + 4 + 1) ?_ (by omega) (by omega) (hin 5 (by omega))
      refine HWb.add (b := H.size + 1 + 3 + 1) ?_ (by omega) (by omega) (hin 4 (by omega))
      refine HWb.add (b := H.size + 1 + 2 + 1) ?_ (by omega) (by omega) (hin 3 (by omega))
      refine HWb.add (b := H.size + 1 + 1 + 1) ?_ (by omega) (by omega) (hin 2 (by omega))
      refine HWb.add (b := H.size + 1 + 0 + 1) ?_ (by omega) (by omega) (hin 1 (by omega))
      refine HWb.add (b := H.size + 1) ?_ (by omega) (by omega) (hin 0 (by omega))
      refine HWb.add B0 (Nat.le_refl _) zq ?_
      show T1.heap[H.size]? = some (vp_cell (G.2.2.1 6) (6, .inr (.inr (.inr (.inr fun i => some (H.size + 1 + i))))))
      rw [f2', outer6 (r := fun i => some (H.size + 1 + i)) _ _ (fun i _ => rfl)], hm _⟩
    ⟨Nat.le_trans hS.1 (by rw [f1']; omega), fun a h1 h2 => (f5 a (Nat.lt_of_lt_of_le h1 hS.1)).trans (hS.2.1 a h1 h2), hS.2.2⟩ hl (by omega) (by omega) T1 rfl X1'
  exact ⟨t2, step' _ q1, q2⟩
theorem J.recell {st : List Value} {a n : Nat} {cA : ClassId} {x x' : (Nat → Int32) ⊕ (Nat → Int64) ⊕ (Nat → UInt32) ⊕ (Nat → UInt64) ⊕ (Nat → Option Nat)} (ha : h a = some (.inl (cA, n, x))) (hx : vp_cell cA (n, x) = vp_cell cA (n, x')) (k : J G p l e R s m args below meth c nL Q bc bs (hup h a (.inl (cA, n, x'))) pc L st) : J G p l e R s m args below meth c nL Q bc bs h pc L st := by
  intro H locs ls cells slots hH hS hl b1 b2
  obtain ⟨ws, h1, h2, h3⟩ := id hH.1
  obtain ⟨q0, hq⟩ := h1 a _ ha
  refine k H locs ls cells slots ⟨HW.set h1 hq (h2.set h3 hq ?_ (fun _ _ => rfl)) (h3.set hq), hH.2⟩ hS hl b1 b2
  have := h2 q0 _ hq
  show H[a]? = some (vp_cell cA (n, x'))
  rw [← hx]; exact this
theorem j_copyi (C : Cx G p s m args meth c cc own nL ret) (hm : FreeG G) {index : Nat} (hq : Cond.methodLink own index arraycopyName ∈ lw_all) {a0 a n0 n1 : Nat} {f g : Nat → Int32} (ha0 : h a0 = some (.inl (G.2.2.1 0, n0, .inl f))) (ha1 : h a = some (.inl (G.2.2.1 0, n1, .inl g)))
    {sp dp n : Int32} (h1 : ¬ sp < 0) (h2 : ¬ dp < 0) (h3 : ¬ n < 0) (h4 : sp.toNatClampNeg + n.toNatClampNeg ≤ n0) (h5 : dp.toNatClampNeg + n.toNatClampNeg ≤ n1) (hframes : 1 ≤ R.frames) (hlocals : (rest.map fun v => v.category).sum + 200 ≤ R.locals) (hdg : decode cc pc = .ok (.invokestatic index, 3))
    (kk : J G p l e R s m args below meth c nL Q bc bs (hup h a (.inl (G.2.2.1 0, n1, .inl (va_cpy f g sp.toNatClampNeg dp.toNatClampNeg n.toNatClampNeg)))) (pc + 3) L rest) : J G p l e R s m args below meth c nL Q bc bs h pc L (.int n :: .int dp :: .ref a :: .int sp :: .ref a0 :: rest) := by
  intro H locs ls cells slots hH hS hl b1 b2
  obtain ⟨ws, w1, w2, w3⟩ := id hH.1
  obtain ⟨q0, hq0⟩ := w1 a0 _ ha0
  obtain ⟨q1, hq1⟩ := w1 a _ ha1
  refine va_copyi C.1 C.2.1 (by rw [C.2.2.1, hl.1]) C.2.2.2.1 (C.2.2.2.2.1 _ hq) (C.2.2.2.2.1 _ q293) (C.2.2.2.2.1 _ q292) (C.2.2.2.2.1 _ q103) C.2.2.2.2.2.1.1 w2 w3 hS q0 q1 0 0 hq0 hq1 rfl rfl rfl h1 h2 h3 h4 h5 (fun i _ => rfl) hframes (Nat.le_trans ?_ hlocals) hdg (fun H1 locs1 hP hD hS1 => kk H1 locs1 ls cells slots ⟨HW.set w1 hq1 hP hD, hm _⟩ hS1 hl b1 b2)
  exact Nat.add_le_add_left (Nat.le_of_ble_eq_true (by decide +kernel)) _
end MU
