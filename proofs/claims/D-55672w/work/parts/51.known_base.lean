/-! KNOWN's WORLD: 5 cells at kd 0 .. kd 4 as a function K: 0 .. first, 6 .. with, 42 .. without, 78 apprentices, 79 least, 80 many, 81 manyLeast, 82 .. masters (the pairing tried) -/
set_option maxRecDepth 100000
def cutn (n : Nat) (f : Nat → Int32) : Nat → Int32 := fun j => if j < n then f j else 0
theorem cutn_at {n : Nat} {f : Nat → Int32} {j : Nat} (h : j < n) : cutn n f j = f j := by simp [cutn, h]
theorem cutn_eq {n : Nat} {f g : Nat → Int32} (h : ∀ j, j < n → f j = g j) : cutn n f = cutn n g := by
  funext j; unfold cutn; by_cases hj : j < n
  · rw [if_pos hj, if_pos hj, h j hj]
  · rw [if_neg hj, if_neg hj]
theorem cutn_upd {n : Nat} {f g : Nat → Int32} {i : Nat} {v : Int32} (hi : i < n) (h : ∀ j, j < n → g j = if j = i then v else f j) : upd (cutn n f) i v = cutn n g := by
  funext j
  by_cases hji : j = i
  · subst hji; rw [pk_us, cutn_at hi, h j hi, if_pos rfl]
  · rw [pk_un hji]; unfold cutn; by_cases hj : j < n
    · rw [if_pos hj, if_pos hj, h j hj, if_neg hji]
    · rw [if_neg hj, if_neg hj]
theorem in_ltn {i : Int32} {n : Nat} (h : vp_in i n) : i.toNatClampNeg < n := Nat.not_le.mp fun q => h (Or.inr q)
def kfs (kd : Nat → Nat) (K : TS) : List Value := [.ref (kd 1), .ref (kd 2), .ref (kd 3), .int (K 78), .int (K 79), .int (K 80), .int (K 81)]
def kcell (dA : Nat → ClassId) (kd : Nat → Nat) (K : TS) (k : Nat) : va_E :=
  if k = 0 then .inr (3, kfs kd K) else if k = 1 then .inl (dA 0, 6, .inl (cutn 6 fun j => K (0 + j))) else if k = 2 then .inl (dA 0, 36, .inl (cutn 36 fun j => K (6 + j))) else if k = 3 then .inl (dA 0, 36, .inl (cutn 36 fun j => K (42 + j))) else .inl (dA 0, 6, .inl (cutn 6 fun j => K (82 + j)))
def Kg (kd : Nat → Nat) : Prop := ∀ i j, i < 5 → j < 5 → kd i = kd j → i = j
def KH (dA : Nat → ClassId) (h : AH) (kd : Nat → Nat) (K : TS) : AH := fun a => match (List.range 5).find? (fun k => kd k == a) with
  | some k => some (kcell dA kd K k)
  | none => h a
theorem KH_at {dA : Nat → ClassId} {h : AH} {kd : Nat → Nat} (hg : Kg kd) {K : TS} {k : Nat} (hk : k < 5) : KH dA h kd K (kd k) = some (kcell dA kd K k) := by
  have h1 : (List.range 5).find? (fun j => kd j == kd k) = some k := by
    cases hf : (List.range 5).find? (fun j => kd j == kd k) with
    | none =>
      have := List.find?_eq_none.mp hf k (List.mem_range.mpr hk)
      simp at this
    | some j =>
      have h2 := List.find?_some hf
      have h3 := List.mem_range.mp (List.mem_of_find?_eq_some hf)
      rw [hg j k h3 hk (by simpa using h2)]
  unfold KH; rw [h1]
theorem KH_out {dA : Nat → ClassId} {h : AH} {kd : Nat → Nat} {K : TS} {a : Nat} (ha : ∀ k, k < 5 → kd k ≠ a) : KH dA h kd K a = h a := by
  have h1 : (List.range 5).find? (fun k => kd k == a) = none := List.find?_eq_none.mpr fun k hk => by simpa using ha k (List.mem_range.mp hk)
  unfold KH; rw [h1]
theorem KH_cases (kd : Nat → Nat) (a : Nat) : (∃ k, k < 5 ∧ kd k = a) ∨ ∀ k, k < 5 → kd k ≠ a := by
  by_cases h : ∃ k, k < 5 ∧ kd k = a
  · exact Or.inl h
  · exact Or.inr fun k hk e => h ⟨k, hk, e⟩
theorem KH_set {dA : Nat → ClassId} {h : AH} {kd : Nat → Nat} (hg : Kg kd) {K K' : TS} {k : Nat} (hk : k < 5) {e : va_E} (he : e = kcell dA kd K' k) (ho : ∀ j, j < 5 → j ≠ k → kcell dA kd K' j = kcell dA kd K j) : hup (KH dA h kd K) (kd k) e = KH dA h kd K' := by
  funext b
  by_cases hb : b = kd k
  · subst hb; rw [hup_self, KH_at hg hk, he]
  · rw [hup_ne hb]
    rcases KH_cases kd b with ⟨j, hj, rfl⟩ | hn
    · rw [KH_at hg hj, KH_at hg hj, ho j hj (fun q => hb (by rw [q]))]
    · rw [KH_out hn, KH_out hn]
theorem kcell_congr {dA : Nat → ClassId} {kd : Nat → Nat} {K K' : TS} {k : Nat} (h0 : k = 0 → K' 78 = K 78 ∧ K' 79 = K 79 ∧ K' 80 = K 80 ∧ K' 81 = K 81) (h1 : k = 1 → ∀ j, j < 6 → K' (0 + j) = K (0 + j)) (h2 : k = 2 → ∀ j, j < 36 → K' (6 + j) = K (6 + j)) (h3 : k = 3 → ∀ j, j < 36 → K' (42 + j) = K (42 + j)) (h4 : 4 ≤ k → ∀ j, j < 6 → K' (82 + j) = K (82 + j)) : kcell dA kd K' k = kcell dA kd K k := by
  unfold kcell
  by_cases e0 : k = 0
  · obtain ⟨a0, a1, a2, a3⟩ := h0 e0
    rw [if_pos e0, if_pos e0]; unfold kfs; rw [a0, a1, a2, a3]
  rw [if_neg e0, if_neg e0]
  by_cases e1 : k = 1
  · rw [if_pos e1, if_pos e1, cutn_eq (h1 e1)]
  rw [if_neg e1, if_neg e1]
  by_cases e2 : k = 2
  · rw [if_pos e2, if_pos e2, cutn_eq (h2 e2)]
  rw [if_neg e2, if_neg e2]
  by_cases e3 : k = 3
  · rw [if_pos e3, if_pos e3, cutn_eq (h3 e3)]
  rw [if_neg e3, if_neg e3, cutn_eq (h4 (by omega))]
section KK
variable {G : GT} {p : Program} {l : Launch} {e : Env} {R : Room} {s : State} {m : MethodId} {args : Array Value} {below : List Frame} {meth : Method} {c : Code} {nL : Nat} {Q : State → Prop} {bc bs : Nat} {h : AH} {pc : Nat} {L : List (Nat × Value)} {rest : List Value} {cc : ByteArray} {own : String} {ret : Option FieldType} {kd : Nat → Nat} {K : TS}
theorem jkG0 (C : Cx G p s m args meth c cc RX8 nL ret) (hg : Kg kd) (hdg : decode cc pc = .ok (.getfield 9, 3)) (kk : J G p l e R s m args below meth c nL Q bc bs (KH G.2.2.1 h kd K) (pc + 3) L (.ref (kd 1) :: rest)) : J G p l e R s m args below meth c nL Q bc bs (KH G.2.2.1 h kd K) pc L (.ref (kd 0) :: rest) := j_get C (KH_at hg (k := 0) (by decide)) rfl in_X8 0 (by decide) q718 rfl rfl hdg kk
theorem jkG1 (C : Cx G p s m args meth c cc RX8 nL ret) (hg : Kg kd) (hdg : decode cc pc = .ok (.getfield 15, 3)) (kk : J G p l e R s m args below meth c nL Q bc bs (KH G.2.2.1 h kd K) (pc + 3) L (.ref (kd 2) :: rest)) : J G p l e R s m args below meth c nL Q bc bs (KH G.2.2.1 h kd K) pc L (.ref (kd 0) :: rest) := j_get C (KH_at hg (k := 0) (by decide)) rfl in_X8 1 (by decide) q720 rfl rfl hdg kk
theorem jkG2 (C : Cx G p s m args meth c cc RX8 nL ret) (hg : Kg kd) (hdg : decode cc pc = .ok (.getfield 18, 3)) (kk : J G p l e R s m args below meth c nL Q bc bs (KH G.2.2.1 h kd K) (pc + 3) L (.ref (kd 3) :: rest)) : J G p l e R s m args below meth c nL Q bc bs (KH G.2.2.1 h kd K) pc L (.ref (kd 0) :: rest) := j_get C (KH_at hg (k := 0) (by decide)) rfl in_X8 2 (by decide) q722 rfl rfl hdg kk
theorem jkG3 (C : Cx G p s m args meth c cc RX8 nL ret) (hg : Kg kd) (hdg : decode cc pc = .ok (.getfield 31, 3)) (kk : J G p l e R s m args below meth c nL Q bc bs (KH G.2.2.1 h kd K) (pc + 3) L (.int (K 78) :: rest)) : J G p l e R s m args below meth c nL Q bc bs (KH G.2.2.1 h kd K) pc L (.ref (kd 0) :: rest) := j_get C (KH_at hg (k := 0) (by decide)) rfl in_X8 3 (by decide) q724 rfl rfl hdg kk
theorem jkG4 (C : Cx G p s m args meth c cc RX8 nL ret) (hg : Kg kd) (hdg : decode cc pc = .ok (.getfield 22, 3)) (kk : J G p l e R s m args below meth c nL Q bc bs (KH G.2.2.1 h kd K) (pc + 3) L (.int (K 79) :: rest)) : J G p l e R s m args below meth c nL Q bc bs (KH G.2.2.1 h kd K) pc L (.ref (kd 0) :: rest) := j_get C (KH_at hg (k := 0) (by decide)) rfl in_X8 4 (by decide) q725 rfl rfl hdg kk
theorem jkP4 (C : Cx G p s m args meth c cc RX8 nL ret) (hg : Kg kd) (hm : FreeG G) {v : Int32} (hdg : decode cc pc = .ok (.putfield 22, 3)) (kk : J G p l e R s m args below meth c nL Q bc bs (KH G.2.2.1 h kd (upd K 79 v)) (pc + 3) L rest) : J G p l e R s m args below meth c nL Q bc bs (KH G.2.2.1 h kd K) pc L (.int v :: .ref (kd 0) :: rest) := j_put C hm (KH_at hg (k := 0) (by decide)) rfl in_X8 tyX8 tyX8_ok nmX8 4 (by decide) q725 rfl rfl rfl rfl (Nat.le_of_ble_eq_true rfl) hdg (J.heap kk (KH_set hg (K' := upd K 79 v) (by decide) rfl (fun j hj hn => kcell_congr (fun z => absurd z hn) (fun _ i hi => pk_un (by omega)) (fun _ i hi => pk_un (by omega)) (fun _ i hi => pk_un (by omega)) (fun _ i hi => pk_un (by omega)))))
theorem jkG5 (C : Cx G p s m args meth c cc RX8 nL ret) (hg : Kg kd) (hdg : decode cc pc = .ok (.getfield 44, 3)) (kk : J G p l e R s m args below meth c nL Q bc bs (KH G.2.2.1 h kd K) (pc + 3) L (.int (K 80) :: rest)) : J G p l e R s m args below meth c nL Q bc bs (KH G.2.2.1 h kd K) pc L (.ref (kd 0) :: rest) := j_get C (KH_at hg (k := 0) (by decide)) rfl in_X8 5 (by decide) q728 rfl rfl hdg kk
theorem jkP5 (C : Cx G p s m args meth c cc RX8 nL ret) (hg : Kg kd) (hm : FreeG G) {v : Int32} (hdg : decode cc pc = .ok (.putfield 44, 3)) (kk : J G p l e R s m args below meth c nL Q bc bs (KH G.2.2.1 h kd (upd K 80 v)) (pc + 3) L rest) : J G p l e R s m args below meth c nL Q bc bs (KH G.2.2.1 h kd K) pc L (.int v :: .ref (kd 0) :: rest) := j_put C hm (KH_at hg (k := 0) (by decide)) rfl in_X8 tyX8 tyX8_ok nmX8 5 (by decide) q728 rfl rfl rfl rfl (Nat.le_of_ble_eq_true rfl) hdg (J.heap kk (KH_set hg (K' := upd K 80 v) (by decide) rfl (fun j hj hn => kcell_congr (fun z => absurd z hn) (fun _ i hi => pk_un (by omega)) (fun _ i hi => pk_un (by omega)) (fun _ i hi => pk_un (by omega)) (fun _ i hi => pk_un (by omega)))))
theorem jkG6 (C : Cx G p s m args meth c cc RX8 nL ret) (hg : Kg kd) (hdg : decode cc pc = .ok (.getfield 47, 3)) (kk : J G p l e R s m args below meth c nL Q bc bs (KH G.2.2.1 h kd K) (pc + 3) L (.int (K 81) :: rest)) : J G p l e R s m args below meth c nL Q bc bs (KH G.2.2.1 h kd K) pc L (.ref (kd 0) :: rest) := j_get C (KH_at hg (k := 0) (by decide)) rfl in_X8 6 (by decide) q730 rfl rfl hdg kk
theorem jkP6 (C : Cx G p s m args meth c cc RX8 nL ret) (hg : Kg kd) (hm : FreeG G) {v : Int32} (hdg : decode cc pc = .ok (.putfield 47, 3)) (kk : J G p l e R s m args below meth c nL Q bc bs (KH G.2.2.1 h kd (upd K 81 v)) (pc + 3) L rest) : J G p l e R s m args below meth c nL Q bc bs (KH G.2.2.1 h kd K) pc L (.int v :: .ref (kd 0) :: rest) := j_put C hm (KH_at hg (k := 0) (by decide)) rfl in_X8 tyX8 tyX8_ok nmX8 6 (by decide) q730 rfl rfl rfl rfl (Nat.le_of_ble_eq_true rfl) hdg (J.heap kk (KH_set hg (K' := upd K 81 v) (by decide) rfl (fun j hj hn => kcell_congr (fun z => absurd z hn) (fun _ i hi => pk_un (by omega)) (fun _ i hi => pk_un (by omega)) (fun _ i hi => pk_un (by omega)) (fun _ i hi => pk_un (by omega)))))
theorem jkL1 (C : Cx G p s m args meth c cc own nL ret) (hg : Kg kd) {i : Int32} (hin : vp_in i 6) (hdg : decode cc pc = .ok (.iaload, 1)) (kk : J G p l e R s m args below meth c nL Q bc bs (KH G.2.2.1 h kd K) (pc + 1) L (.int (K (0 + i.toNatClampNeg)) :: rest)) : J G p l e R s m args below meth c nL Q bc bs (KH G.2.2.1 h kd K) pc L (.int i :: .ref (kd 1) :: rest) := j_iald C (f := cutn 6 fun j => K (0 + j)) (KH_at hg (k := 1) (by decide)) hin hdg (J.stack kk (by rw [cutn_at (in_ltn hin)]))
theorem jkS1 (C : Cx G p s m args meth c cc own nL ret) (hg : Kg kd) (hm : FreeG G) {i x : Int32} (hin : vp_in i 6) (hdg : decode cc pc = .ok (.iastore, 1)) (kk : J G p l e R s m args below meth c nL Q bc bs (KH G.2.2.1 h kd (upd K (0 + i.toNatClampNeg) x)) (pc + 1) L rest) : J G p l e R s m args below meth c nL Q bc bs (KH G.2.2.1 h kd K) pc L (.int x :: .int i :: .ref (kd 1) :: rest) := by
  have hi := in_ltn hin
  refine j_iast C hm (f := cutn 6 fun j => K (0 + j)) (KH_at hg (k := 1) (by decide)) hin hdg (J.heap kk (KH_set hg (K' := upd K (0 + i.toNatClampNeg) x) (by decide) ?_ (fun j hj hn => kcell_congr (fun z => ⟨pk_un (by omega), pk_un (by omega), pk_un (by omega), pk_un (by omega)⟩) (fun z a ha => pk_un (by omega)) (fun z a ha => pk_un (by omega)) (fun z a ha => pk_un (by omega)) (fun z a ha => pk_un (by omega)))))
  rw [cutn_upd (g := fun j => upd K (0 + i.toNatClampNeg) x (0 + j)) hi (fun j hj => by
    by_cases hji : j = i.toNatClampNeg
    · subst hji; rw [pk_us, if_pos rfl]
    · rw [if_neg hji]; exact pk_un (by omega))]
  rfl
theorem jkL2 (C : Cx G p s m args meth c cc own nL ret) (hg : Kg kd) {i : Int32} (hin : vp_in i 36) (hdg : decode cc pc = .ok (.iaload, 1)) (kk : J G p l e R s m args below meth c nL Q bc bs (KH G.2.2.1 h kd K) (pc + 1) L (.int (K (6 + i.toNatClampNeg)) :: rest)) : J G p l e R s m args below meth c nL Q bc bs (KH G.2.2.1 h kd K) pc L (.int i :: .ref (kd 2) :: rest) := j_iald C (f := cutn 36 fun j => K (6 + j)) (KH_at hg (k := 2) (by decide)) hin hdg (J.stack kk (by rw [cutn_at (in_ltn hin)]))
theorem jkS2 (C : Cx G p s m args meth c cc own nL ret) (hg : Kg kd) (hm : FreeG G) {i x : Int32} (hin : vp_in i 36) (hdg : decode cc pc = .ok (.iastore, 1)) (kk : J G p l e R s m args below meth c nL Q bc bs (KH G.2.2.1 h kd (upd K (6 + i.toNatClampNeg) x)) (pc + 1) L rest) : J G p l e R s m args below meth c nL Q bc bs (KH G.2.2.1 h kd K) pc L (.int x :: .int i :: .ref (kd 2) :: rest) := by
  have hi := in_ltn hin
  refine j_iast C hm (f := cutn 36 fun j => K (6 + j)) (KH_at hg (k := 2) (by decide)) hin hdg (J.heap kk (KH_set hg (K' := upd K (6 + i.toNatClampNeg) x) (by decide) ?_ (fun j hj hn => kcell_congr (fun z => ⟨pk_un (by omega), pk_un (by omega), pk_un (by omega), pk_un (by omega)⟩) (fun z a ha => pk_un (by omega)) (fun z a ha => pk_un (by omega)) (fun z a ha => pk_un (by omega)) (fun z a ha => pk_un (by omega)))))
  rw [cutn_upd (g := fun j => upd K (6 + i.toNatClampNeg) x (6 + j)) hi (fun j hj => by
    by_cases hji : j = i.toNatClampNeg
    · subst hji; rw [pk_us, if_pos rfl]
    · rw [if_neg hji]; exact pk_un (by omega))]
  rfl
theorem jkL3 (C : Cx G p s m args meth c cc own nL ret) (hg : Kg kd) {i : Int32} (hin : vp_in i 36) (hdg : decode cc pc = .ok (.iaload, 1)) (kk : J G p l e R s m args below meth c nL Q bc bs (KH G.2.2.1 h kd K) (pc + 1) L (.int (K (42 + i.toNatClampNeg)) :: rest)) : J G p l e R s m args below meth c nL Q bc bs (KH G.2.2.1 h kd K) pc L (.int i :: .ref (kd 3) :: rest) := j_iald C (f := cutn 36 fun j => K (42 + j)) (KH_at hg (k := 3) (by decide)) hin hdg (J.stack kk (by rw [cutn_at (in_ltn hin)]))
theorem jkS3 (C : Cx G p s m args meth c cc own nL ret) (hg : Kg kd) (hm : FreeG G) {i x : Int32} (hin : vp_in i 36) (hdg : decode cc pc = .ok (.iastore, 1)) (kk : J G p l e R s m args below meth c nL Q bc bs (KH G.2.2.1 h kd (upd K (42 + i.toNatClampNeg) x)) (pc + 1) L rest) : J G p l e R s m args below meth c nL Q bc bs (KH G.2.2.1 h kd K) pc L (.int x :: .int i :: .ref (kd 3) :: rest) := by
  have hi := in_ltn hin
  refine j_iast C hm (f := cutn 36 fun j => K (42 + j)) (KH_at hg (k := 3) (by decide)) hin hdg (J.heap kk (KH_set hg (K' := upd K (42 + i.toNatClampNeg) x) (by decide) ?_ (fun j hj hn => kcell_congr (fun z => ⟨pk_un (by omega), pk_un (by omega), pk_un (by omega), pk_un (by omega)⟩) (fun z a ha => pk_un (by omega)) (fun z a ha => pk_un (by omega)) (fun z a ha => pk_un (by omega)) (fun z a ha => pk_un (by omega)))))
  rw [cutn_upd (g := fun j => upd K (42 + i.toNatClampNeg) x (42 + j)) hi (fun j hj => by
    by_cases hji : j = i.toNatClampNeg
    · subst hji; rw [pk_us, if_pos rfl]
    · rw [if_neg hji]; exact pk_un (by omega))]
  rfl
theorem jkL4 (C : Cx G p s m args meth c cc own nL ret) (hg : Kg kd) {i : Int32} (hin : vp_in i 6) (hdg : decode cc pc = .ok (.iaload, 1)) (kk : J G p l e R s m args below meth c nL Q bc bs (KH G.2.2.1 h kd K) (pc + 1) L (.int (K (82 + i.toNatClampNeg)) :: rest)) : J G p l e R s m args below meth c nL Q bc bs (KH G.2.2.1 h kd K) pc L (.int i :: .ref (kd 4) :: rest) := j_iald C (f := cutn 6 fun j => K (82 + j)) (KH_at hg (k := 4) (by decide)) hin hdg (J.stack kk (by rw [cutn_at (in_ltn hin)]))
theorem jkS4 (C : Cx G p s m args meth c cc own nL ret) (hg : Kg kd) (hm : FreeG G) {i x : Int32} (hin : vp_in i 6) (hdg : decode cc pc = .ok (.iastore, 1)) (kk : J G p l e R s m args below meth c nL Q bc bs (KH G.2.2.1 h kd (upd K (82 + i.toNatClampNeg) x)) (pc + 1) L rest) : J G p l e R s m args below meth c nL Q bc bs (KH G.2.2.1 h kd K) pc L (.int x :: .int i :: .ref (kd 4) :: rest) := by
  have hi := in_ltn hin
  refine j_iast C hm (f := cutn 6 fun j => K (82 + j)) (KH_at hg (k := 4) (by decide)) hin hdg (J.heap kk (KH_set hg (K' := upd K (82 + i.toNatClampNeg) x) (by decide) ?_ (fun j hj hn => kcell_congr (fun z => ⟨pk_un (by omega), pk_un (by omega), pk_un (by omega), pk_un (by omega)⟩) (fun z a ha => pk_un (by omega)) (fun z a ha => pk_un (by omega)) (fun z a ha => pk_un (by omega)) (fun z a ha => pk_un (by omega)))))
  rw [cutn_upd (g := fun j => upd K (82 + i.toNatClampNeg) x (82 + j)) hi (fun j hj => by
    by_cases hji : j = i.toNatClampNeg
    · subst hji; rw [pk_us, if_pos rfl]
    · rw [if_neg hji]; exact pk_un (by omega))]
  rfl
def cpyK (K : TS) : TS := fun i => if i < 6 then K (82 + i) else K i
theorem jkCopy (C : Cx G p s m args meth c cc RX8 nL ret) (hg : Kg kd) (hm : FreeG G) (hframes : 1 ≤ R.frames) (hlocals : (rest.map fun v => v.category).sum + 200 ≤ R.locals) (hdg : decode cc pc = .ok (.invokestatic 50, 3)) (kk : J G p l e R s m args below meth c nL Q bc bs (KH G.2.2.1 h kd (cpyK K)) (pc + 3) L rest) : J G p l e R s m args below meth c nL Q bc bs (KH G.2.2.1 h kd K) pc L (.int 6 :: .int 0 :: .ref (kd 1) :: .int 0 :: .ref (kd 4) :: rest) := by
  have hc : ∀ i, 6 ≤ i → cpyK K i = K i := fun i hi => if_neg (by omega)
  refine j_copyi C hm q692 (n0 := 6) (n1 := 6) (f := cutn 6 fun j => K (82 + j)) (g := cutn 6 fun j => K (0 + j)) (KH_at hg (k := 4) (by decide)) (KH_at hg (k := 1) (by decide)) (by decide) (by decide) (by decide) (by decide) (by decide) hframes hlocals hdg (J.heap kk (KH_set hg (K' := cpyK K) (by decide) ?_ (fun j hj hn => kcell_congr (fun z => ⟨hc _ (by omega), hc _ (by omega), hc _ (by omega), hc _ (by omega)⟩) (fun z => absurd z hn) (fun _ i _ => hc _ (by omega)) (fun _ i _ => hc _ (by omega)) (fun _ i _ => hc _ (by omega)))))
  refine congrArg (fun f => (.inl (G.2.2.1 0, 6, .inl f) : va_E)) (funext fun j => ?_)
  show va_cpy _ _ 0 0 6 j = _
  unfold va_cpy
  by_cases hj : j < 6
  · rw [if_pos (by omega), cutn_at (show 0 + (j - 0) < 6 by omega), cutn_at hj]
    show _ = cpyK K (0 + j)
    unfold cpyK
    rw [if_pos (by omega)]
    congr 1
  · rw [if_neg (by omega)]
    unfold cutn
    rw [if_neg hj, if_neg hj]
def KMi (G : GT) (l : Launch) (y : MethodName) (cc : ByteArray) (nL : Nat) (ret : FieldType) (fr lo : Nat) (av : List Value) (h : AH) (kd : Nat → Nat) (K : TS) (P : Int32 → TS → Prop) : Prop := MT G l y cc nL (some ret) fr lo 0 0 av (KH G.2.2.1 h kd K) (fun v h' => ∃ (r : Int32) (S' : TS), v = some (.int r) ∧ h' = KH G.2.2.1 h kd S' ∧ P r S')
def KMv (G : GT) (l : Launch) (y : MethodName) (cc : ByteArray) (nL : Nat) (fr lo : Nat) (av : List Value) (h : AH) (kd : Nat → Nat) (K : TS) (P : TS → Prop) : Prop := MT G l y cc nL none fr lo 0 0 av (KH G.2.2.1 h kd K) (fun v h' => ∃ (S' : TS), v = none ∧ h' = KH G.2.2.1 h kd S' ∧ P S')
theorem jk_callv (hg : Kg kd) (C : Cx G p s m args meth c cc own nL ret) {y : MethodName} {cc' : ByteArray} {nL' fr lo n index : Nat} {As st : List Value} {P : TS → Prop} (hM : KMv G l y cc' nL' fr lo (.ref (kd 0) :: As) h kd K P) (hq : Cond.methodLink own index y ∈ lw_all) (hy : CalV y RX8 cc' nL' none n) (hn : As.length = n) (hst : st = As.reverse ++ .ref (kd 0) :: rest) (hcat : (rest.map fun v => v.category).sum ≤ 8) (hR : fr + 1 ≤ R.frames ∧ 8 + (nL' + 11) + lo ≤ R.locals) (hdg : decode cc pc = .ok (.invokevirtual index, 3)) (kk : ∀ (S' : TS), P S' → J G p l e R s m args below meth c nL Q bc bs (KH G.2.2.1 h kd S') (pc + 3) L rest) : J G p l e R s m args below meth c nL Q bc bs (KH G.2.2.1 h kd K) pc L st :=
  j_callV C hM hq hy (KH_at hg (k := 0) (by decide)) rfl hn hst hcat hR (Nat.zero_le _) (Nat.zero_le _) hdg (fun v h' hv => by obtain ⟨S1, rfl, rfl, hP⟩ := hv; exact kk S1 hP)
theorem k_J {S' : TS} {st : List Value} (e1 : K = S') (k : J G p l e R s m args below meth c nL Q bc bs (KH G.2.2.1 h kd K) pc L st) : J G p l e R s m args below meth c nL Q bc bs (KH G.2.2.1 h kd S') pc L st := e1 ▸ k
end KK
