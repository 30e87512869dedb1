/-! THE TOWN's WORLD: 18 cells at ad 0 .. ad 17 as a function T: 0 apprentices, 1 masters, 2 years, 4 freed, 5 settled, 6.. costs, 42.. served, 78.. prices, 84.. pairs, 90.. bids -/
set_option maxRecDepth 100000
abbrev TS : Type := Nat → Int32
def cut6 (f : Nat → Int32) : Nat → Int32 := fun j => if j < 6 then f j else 0
theorem cut6_at {f : Nat → Int32} {j : Nat} (h : j < 6) : cut6 f j = f j := by simp [cut6, h]
theorem cut6_eq {f g : Nat → Int32} (h : ∀ j, j < 6 → f j = g j) : cut6 f = cut6 g := by
  funext j; unfold cut6; by_cases hj : j < 6
  · rw [if_pos hj, if_pos hj, h j hj]
  · rw [if_neg hj, if_neg hj]
theorem cut6_upd {f g : Nat → Int32} {i : Nat} {v : Int32} (hi : i < 6) (h : ∀ j, j < 6 → g j = if j = i then v else f j) : upd (cut6 f) i v = cut6 g := by
  funext j
  by_cases hji : j = i
  · subst hji; rw [pk_us, cut6_at hi, h j hi, if_pos rfl]
  · rw [pk_un hji]; unfold cut6; by_cases hj : j < 6
    · rw [if_pos hj, if_pos hj, h j hj, if_neg hji]
    · rw [if_neg hj, if_neg hj]
def tfs (ad : Nat → Nat) (T : TS) : List Value := [.ref (ad 1), .ref (ad 2), .ref (ad 3), .ref (ad 4), .ref (ad 5), .int (T 0), .int (T 1), .int (T 4), .int (T 2), .int (T 5)]
def tcell (dA : Nat → ClassId) (ad : Nat → Nat) (T : TS) (k : Nat) : va_E :=
  if k = 0 then .inr (1, tfs ad T) else if k = 1 then .inl (dA 6, 6, .inr (.inr (.inr (.inr fun i => some (ad (6 + i)))))) else if k = 2 then .inl (dA 6, 6, .inr (.inr (.inr (.inr fun i => some (ad (12 + i))))))
  else if k = 3 then .inl (dA 0, 6, .inl (cut6 fun j => T (78 + j))) else if k = 4 then .inl (dA 0, 6, .inl (cut6 fun j => T (90 + j))) else if k = 5 then .inl (dA 0, 6, .inl (cut6 fun j => T (84 + j)))
  else .inl (dA 0, 6, .inl (cut6 fun j => T (6 + 6 * (k - 6) + j)))
def Tg (ad : Nat → Nat) : Prop := ∀ i j, i < 18 → j < 18 → ad i = ad j → i = j
def TH (dA : Nat → ClassId) (h : AH) (ad : Nat → Nat) (T : TS) : AH := fun a => match (List.range 18).find? (fun k => ad k == a) with
  | some k => some (tcell dA ad T k)
  | none => h a
theorem TH_at {dA : Nat → ClassId} {h : AH} {ad : Nat → Nat} (hg : Tg ad) {T : TS} {k : Nat} (hk : k < 18) : TH dA h ad T (ad k) = some (tcell dA ad T k) := by
  have h1 : (List.range 18).find? (fun j => ad j == ad k) = some k := by
    cases hf : (List.range 18).find? (fun j => ad j == ad k) with
    | none =>
      have := List.find?_eq_none.mp hf k (List.mem_range.mpr hk)
      simp at this
    | some j =>
      have h2 := List.find?_some hf
      have h3 := List.mem_range.mp (List.mem_of_find?_eq_some hf)
      rw [hg j k h3 hk (by simpa using h2)]
  unfold TH; rw [h1]
theorem TH_out {dA : Nat → ClassId} {h : AH} {ad : Nat → Nat} {T : TS} {a : Nat} (ha : ∀ k, k < 18 → ad k ≠ a) : TH dA h ad T a = h a := by
  have h1 : (List.range 18).find? (fun j => ad j == a) = none := List.find?_eq_none.mpr fun k hk => by simpa using ha k (List.mem_range.mp hk)
  unfold TH; rw [h1]
theorem TH_cases (ad : Nat → Nat) (a : Nat) : (∃ k, k < 18 ∧ ad k = a) ∨ ∀ k, k < 18 → ad k ≠ a := by
  by_cases h : ∃ k, k < 18 ∧ ad k = a
  · exact Or.inl h
  · exact Or.inr fun k hk e => h ⟨k, hk, e⟩
theorem TH_set {dA : Nat → ClassId} {h : AH} {ad : Nat → Nat} (hg : Tg ad) {T T' : TS} {k : Nat} (hk : k < 18) {e : va_E} (he : e = tcell dA ad T' k) (ho : ∀ j, j < 18 → j ≠ k → tcell dA ad T' j = tcell dA ad T j) : hup (TH dA h ad T) (ad k) e = TH dA h ad T' := by
  funext b
  by_cases hb : b = ad k
  · subst hb; rw [hup_self, TH_at hg hk, he]
  · rw [hup_ne hb]
    rcases TH_cases ad b with ⟨j, hj, rfl⟩ | hn
    · rw [TH_at hg hj, TH_at hg hj, ho j hj (fun q => hb (by rw [q]))]
    · rw [TH_out hn, TH_out hn]
theorem tcell_congr {dA : Nat → ClassId} {ad : Nat → Nat} {T T' : TS} {k : Nat} (h0 : k = 0 → T' 0 = T 0 ∧ T' 1 = T 1 ∧ T' 2 = T 2 ∧ T' 4 = T 4 ∧ T' 5 = T 5) (h3 : k = 3 → ∀ j, j < 6 → T' (78 + j) = T (78 + j)) (h4 : k = 4 → ∀ j, j < 6 → T' (90 + j) = T (90 + j)) (h5 : k = 5 → ∀ j, j < 6 → T' (84 + j) = T (84 + j)) (h6 : 6 ≤ k → ∀ j, j < 6 → T' (6 + 6 * (k - 6) + j) = T (6 + 6 * (k - 6) + j)) : tcell dA ad T' k = tcell dA ad T k := by
  unfold tcell
  by_cases e0 : k = 0
  · obtain ⟨a0, a1, a2, a4, a5⟩ := h0 e0
    rw [if_pos e0, if_pos e0]; unfold tfs; rw [a0, a1, a2, a4, a5]
  · rw [if_neg e0, if_neg e0]
    by_cases e1 : k = 1
    · rw [if_pos e1, if_pos e1]
    · rw [if_neg e1, if_neg e1]
      by_cases e2 : k = 2
      · rw [if_pos e2, if_pos e2]
      · rw [if_neg e2, if_neg e2]
        by_cases e3 : k = 3
        · rw [if_pos e3, if_pos e3, cut6_eq (h3 e3)]
        · rw [if_neg e3, if_neg e3]
          by_cases e4 : k = 4
          · rw [if_pos e4, if_pos e4, cut6_eq (h4 e4)]
          · rw [if_neg e4, if_neg e4]
            by_cases e5 : k = 5
            · rw [if_pos e5, if_pos e5, cut6_eq (h5 e5)]
            · rw [if_neg e5, if_neg e5, cut6_eq (h6 (by omega))]
theorem in_lt6 {i : Int32} (h : vp_in i 6) : i.toNatClampNeg < 6 := Nat.not_le.mp fun q => h (Or.inr q)
section TT
variable {G : GT} {p : Program} {l : Launch} {e : Env} {R : Room} {s : State} {m : MethodId} {args : Array Value} {below : List Frame} {meth : Method} {c : Code} {nL : Nat} {Q : State → Prop} {bc bs : Nat} {h : AH} {pc : Nat} {L : List (Nat × Value)} {rest : List Value} {cc : ByteArray} {own : String} {ret : Option FieldType} {ad : Nat → Nat} {T : TS}
/-- aaload, of any array of references -/
theorem j_aald (C : Cx G p s m args meth c cc own nL ret) {a n di : Nat} {ty : FieldType} {f : Nat → Option Nat} (ha : h a = some (.inl (G.2.2.1 di, n, .inr (.inr (.inr (.inr f)))))) (ht : (tyl G.2.2.1)[di]? = some (G.2.2.1 di, ty)) (hr : ty.isReference = true) {i : Int32} (hin : vp_in i n) (hdg : decode cc pc = .ok (.aaload, 1)) (kk : J G p l e R s m args below meth c nL Q bc bs h (pc + 1) L (va_rf (f i.toNatClampNeg) :: rest)) : J G p l e R s m args below meth c nL Q bc bs h pc L (.int i :: .ref a :: rest) := by
  intro H locs ls cells slots hH hS hl b1 b2
  obtain ⟨ws, h1, h2, h3⟩ := id hH.1
  obtain ⟨q0, hq⟩ := h1 a _ ha
  have hlt : i.toNatClampNeg < n := Nat.not_le.mp fun q => hin (Or.inr q)
  refine W.aald C.1 C.2.1 (h2 q0 _ hq) ((C.2.2.2.2.2.1.1.2 di _ ht).1 n (fun j => va_rf (f j))) hr (fun q => by cases q) (by show ¬ (i < 0 ∨ (arrV _ _ _).slots.size ≤ _); rw [arrV_size]; exact hin) (v := va_rf (f i.toNatClampNeg)) ?_ rfl rfl hdg (kk H locs ls cells slots hH hS hl b1 b2)
  show (arrV _ n (fun j => va_rf (f j))).slots[i.toNatClampNeg]? = _
  simp [arrV, hlt]
theorem jtG0 (C : Cx G p s m args meth c cc RX2 nL ret) (hg : Tg ad) (hdg : decode cc pc = .ok (.getfield 11, 3)) (kk : J G p l e R s m args below meth c nL Q bc bs (TH G.2.2.1 h ad T) (pc + 3) L (.ref (ad 1) :: rest)) : J G p l e R s m args below meth c nL Q bc bs (TH G.2.2.1 h ad T) pc L (.ref (ad 0) :: rest) := j_get C (TH_at hg (k := 0) (by decide)) rfl in_X2 0 (by decide) q152 rfl rfl hdg kk
theorem jtG1 (C : Cx G p s m args meth c cc RX2 nL ret) (hg : Tg ad) (hdg : decode cc pc = .ok (.getfield 16, 3)) (kk : J G p l e R s m args below meth c nL Q bc bs (TH G.2.2.1 h ad T) (pc + 3) L (.ref (ad 2) :: rest)) : J G p l e R s m args below meth c nL Q bc bs (TH G.2.2.1 h ad T) pc L (.ref (ad 0) :: rest) := j_get C (TH_at hg (k := 0) (by decide)) rfl in_X2 1 (by decide) q156 rfl rfl hdg kk
theorem jtG2 (C : Cx G p s m args meth c cc RX2 nL ret) (hg : Tg ad) (hdg : decode cc pc = .ok (.getfield 19, 3)) (kk : J G p l e R s m args below meth c nL Q bc bs (TH G.2.2.1 h ad T) (pc + 3) L (.ref (ad 3) :: rest)) : J G p l e R s m args below meth c nL Q bc bs (TH G.2.2.1 h ad T) pc L (.ref (ad 0) :: rest) := j_get C (TH_at hg (k := 0) (by decide)) rfl in_X2 2 (by decide) q158 rfl rfl hdg kk
theorem jtG3 (C : Cx G p s m args meth c cc RX2 nL ret) (hg : Tg ad) (hdg : decode cc pc = .ok (.getfield 23, 3)) (kk : J G p l e R s m args below meth c nL Q bc bs (TH G.2.2.1 h ad T) (pc + 3) L (.ref (ad 4) :: rest)) : J G p l e R s m args below meth c nL Q bc bs (TH G.2.2.1 h ad T) pc L (.ref (ad 0) :: rest) := j_get C (TH_at hg (k := 0) (by decide)) rfl in_X2 3 (by decide) q161 rfl rfl hdg kk
theorem jtG4 (C : Cx G p s m args meth c cc RX2 nL ret) (hg : Tg ad) (hdg : decode cc pc = .ok (.getfield 26, 3)) (kk : J G p l e R s m args below meth c nL Q bc bs (TH G.2.2.1 h ad T) (pc + 3) L (.ref (ad 5) :: rest)) : J G p l e R s m args below meth c nL Q bc bs (TH G.2.2.1 h ad T) pc L (.ref (ad 0) :: rest) := j_get C (TH_at hg (k := 0) (by decide)) rfl in_X2 4 (by decide) q163 rfl rfl hdg kk
theorem jtG5 (C : Cx G p s m args meth c cc RX2 nL ret) (hg : Tg ad) (hdg : decode cc pc = .ok (.getfield 35, 3)) (kk : J G p l e R s m args below meth c nL Q bc bs (TH G.2.2.1 h ad T) (pc + 3) L (.int (T 0) :: rest)) : J G p l e R s m args below meth c nL Q bc bs (TH G.2.2.1 h ad T) pc L (.ref (ad 0) :: rest) := j_get C (TH_at hg (k := 0) (by decide)) rfl in_X2 5 (by decide) q167 rfl rfl hdg kk
theorem jtP5 (C : Cx G p s m args meth c cc RX2 nL ret) (hg : Tg ad) (hm : FreeG G) {v : Int32} (hdg : decode cc pc = .ok (.putfield 35, 3)) (kk : J G p l e R s m args below meth c nL Q bc bs (TH G.2.2.1 h ad (upd T 0 v)) (pc + 3) L rest) : J G p l e R s m args below meth c nL Q bc bs (TH G.2.2.1 h ad T) pc L (.int v :: .ref (ad 0) :: rest) := j_put C hm (TH_at hg (k := 0) (by decide)) rfl in_X2 tyX2 tyX2_ok nmX2 5 (by decide) q167 rfl rfl rfl rfl (Nat.le_of_ble_eq_true rfl) hdg (J.heap kk (TH_set hg (T' := upd T 0 v) (by decide) rfl (fun j hj hn => tcell_congr (fun z => absurd z hn) (fun _ i hi => pk_un (by omega)) (fun _ i hi => pk_un (by omega)) (fun _ i hi => pk_un (by omega)) (fun _ i hi => pk_un (by omega)))))
theorem jtG6 (C : Cx G p s m args meth c cc RX2 nL ret) (hg : Tg ad) (hdg : decode cc pc = .ok (.getfield 39, 3)) (kk : J G p l e R s m args below meth c nL Q bc bs (TH G.2.2.1 h ad T) (pc + 3) L (.int (T 1) :: rest)) : J G p l e R s m args below meth c nL Q bc bs (TH G.2.2.1 h ad T) pc L (.ref (ad 0) :: rest) := j_get C (TH_at hg (k := 0) (by decide)) rfl in_X2 6 (by decide) q170 rfl rfl hdg kk
theorem jtP6 (C : Cx G p s m args meth c cc RX2 nL ret) (hg : Tg ad) (hm : FreeG G) {v : Int32} (hdg : decode cc pc = .ok (.putfield 39, 3)) (kk : J G p l e R s m args below meth c nL Q bc bs (TH G.2.2.1 h ad (upd T 1 v)) (pc + 3) L rest) : J G p l e R s m args below meth c nL Q bc bs (TH G.2.2.1 h ad T) pc L (.int v :: .ref (ad 0) :: rest) := j_put C hm (TH_at hg (k := 0) (by decide)) rfl in_X2 tyX2 tyX2_ok nmX2 6 (by decide) q170 rfl rfl rfl rfl (Nat.le_of_ble_eq_true rfl) hdg (J.heap kk (TH_set hg (T' := upd T 1 v) (by decide) rfl (fun j hj hn => tcell_congr (fun z => absurd z hn) (fun _ i hi => pk_un (by omega)) (fun _ i hi => pk_un (by omega)) (fun _ i hi => pk_un (by omega)) (fun _ i hi => pk_un (by omega)))))
theorem jtG7 (C : Cx G p s m args meth c cc RX2 nL ret) (hg : Tg ad) (hdg : decode cc pc = .ok (.getfield 42, 3)) (kk : J G p l e R s m args below meth c nL Q bc bs (TH G.2.2.1 h ad T) (pc + 3) L (.int (T 4) :: rest)) : J G p l e R s m args below meth c nL Q bc bs (TH G.2.2.1 h ad T) pc L (.ref (ad 0) :: rest) := j_get C (TH_at hg (k := 0) (by decide)) rfl in_X2 7 (by decide) q172 rfl rfl hdg kk
theorem jtP7 (C : Cx G p s m args meth c cc RX2 nL ret) (hg : Tg ad) (hm : FreeG G) {v : Int32} (hdg : decode cc pc = .ok (.putfield 42, 3)) (kk : J G p l e R s m args below meth c nL Q bc bs (TH G.2.2.1 h ad (upd T 4 v)) (pc + 3) L rest) : J G p l e R s m args below meth c nL Q bc bs (TH G.2.2.1 h ad T) pc L (.int v :: .ref (ad 0) :: rest) := j_put C hm (TH_at hg (k := 0) (by decide)) rfl in_X2 tyX2 tyX2_ok nmX2 7 (by decide) q172 rfl rfl rfl rfl (Nat.le_of_ble_eq_true rfl) hdg (J.heap kk (TH_set hg (T' := upd T 4 v) (by decide) rfl (fun j hj hn => tcell_congr (fun z => absurd z hn) (fun _ i hi => pk_un (by omega)) (fun _ i hi => pk_un (by omega)) (fun _ i hi => pk_un (by omega)) (fun _ i hi => pk_un (by omega)))))
theorem jtG8 (C : Cx G p s m args meth c cc RX2 nL ret) (hg : Tg ad) (hdg : decode cc pc = .ok (.getfield 45, 3)) (kk : J G p l e R s m args below meth c nL Q bc bs (TH G.2.2.1 h ad T) (pc + 3) L (.int (T 2) :: rest)) : J G p l e R s m args below meth c nL Q bc bs (TH G.2.2.1 h ad T) pc L (.ref (ad 0) :: rest) := j_get C (TH_at hg (k := 0) (by decide)) rfl in_X2 8 (by decide) q174 rfl rfl hdg kk
theorem jtP8 (C : Cx G p s m args meth c cc RX2 nL ret) (hg : Tg ad) (hm : FreeG G) {v : Int32} (hdg : decode cc pc = .ok (.putfield 45, 3)) (kk : J G p l e R s m args below meth c nL Q bc bs (TH G.2.2.1 h ad (upd T 2 v)) (pc + 3) L rest) : J G p l e R s m args below meth c nL Q bc bs (TH G.2.2.1 h ad T) pc L (.int v :: .ref (ad 0) :: rest) := j_put C hm (TH_at hg (k := 0) (by decide)) rfl in_X2 tyX2 tyX2_ok nmX2 8 (by decide) q174 rfl rfl rfl rfl (Nat.le_of_ble_eq_true rfl) hdg (J.heap kk (TH_set hg (T' := upd T 2 v) (by decide) rfl (fun j hj hn => tcell_congr (fun z => absurd z hn) (fun _ i hi => pk_un (by omega)) (fun _ i hi => pk_un (by omega)) (fun _ i hi => pk_un (by omega)) (fun _ i hi => pk_un (by omega)))))
theorem jtG9 (C : Cx G p s m args meth c cc RX2 nL ret) (hg : Tg ad) (hdg : decode cc pc = .ok (.getfield 48, 3)) (kk : J G p l e R s m args below meth c nL Q bc bs (TH G.2.2.1 h ad T) (pc + 3) L (.int (T 5) :: rest)) : J G p l e R s m args below meth c nL Q bc bs (TH G.2.2.1 h ad T) pc L (.ref (ad 0) :: rest) := j_get C (TH_at hg (k := 0) (by decide)) rfl in_X2 9 (by decide) q176 rfl rfl hdg kk
theorem jtP9 (C : Cx G p s m args meth c cc RX2 nL ret) (hg : Tg ad) (hm : FreeG G) {v : Int32} (hdg : decode cc pc = .ok (.putfield 48, 3)) (kk : J G p l e R s m args below meth c nL Q bc bs (TH G.2.2.1 h ad (upd T 5 v)) (pc + 3) L rest) : J G p l e R s m args below meth c nL Q bc bs (TH G.2.2.1 h ad T) pc L (.int v :: .ref (ad 0) :: rest) := j_put C hm (TH_at hg (k := 0) (by decide)) rfl in_X2 tyX2 tyX2_ok nmX2 9 (by decide) q176 rfl rfl rfl rfl (Nat.le_of_ble_eq_true rfl) hdg (J.heap kk (TH_set hg (T' := upd T 5 v) (by decide) rfl (fun j hj hn => tcell_congr (fun z => absurd z hn) (fun _ i hi => pk_un (by omega)) (fun _ i hi => pk_un (by omega)) (fun _ i hi => pk_un (by omega)) (fun _ i hi => pk_un (by omega)))))
theorem jtL3 (C : Cx G p s m args meth c cc RX2 nL ret) (hg : Tg ad) {i : Int32} (hin : vp_in i 6) (hdg : decode cc pc = .ok (.iaload, 1)) (kk : J G p l e R s m args below meth c nL Q bc bs (TH G.2.2.1 h ad T) (pc + 1) L (.int (T (78 + i.toNatClampNeg)) :: rest)) : J G p l e R s m args below meth c nL Q bc bs (TH G.2.2.1 h ad T) pc L (.int i :: .ref (ad 3) :: rest) := j_iald C (f := cut6 fun j => T (78 + j)) (TH_at hg (k := 3) (by decide)) hin hdg (J.stack kk (by rw [cut6_at (in_lt6 hin)]))
theorem jtS3 (C : Cx G p s m args meth c cc RX2 nL ret) (hg : Tg ad) (hm : FreeG G) {i x : Int32} (hin : vp_in i 6) (hdg : decode cc pc = .ok (.iastore, 1)) (kk : J G p l e R s m args below meth c nL Q bc bs (TH G.2.2.1 h ad (upd T (78 + i.toNatClampNeg) x)) (pc + 1) L rest) : J G p l e R s m args below meth c nL Q bc bs (TH G.2.2.1 h ad T) pc L (.int x :: .int i :: .ref (ad 3) :: rest) := by
  have hi := in_lt6 hin
  refine j_iast C hm (f := cut6 fun j => T (78 + j)) (TH_at hg (k := 3) (by decide)) hin hdg (J.heap kk (TH_set hg (T' := upd T (78 + i.toNatClampNeg) x) (by decide) ?_ (fun j hj hn => tcell_congr (fun z => ⟨pk_un (by omega), pk_un (by omega), pk_un (by omega), pk_un (by omega), pk_un (by omega)⟩) (fun z a ha => pk_un (by omega)) (fun z a ha => pk_un (by omega)) (fun z a ha => pk_un (by omega)) (fun z a ha => pk_un (by omega)))))
  rw [cut6_upd (g := fun j => upd T (78 + i.toNatClampNeg) x (78 + j)) hi (fun j hj => by
    by_cases hji : j = i.toNatClampNeg
    · subst hji; rw [pk_us, if_pos rfl]
    · rw [if_neg hji]; exact pk_un (by omega))]
  rfl
theorem jtL4 (C : Cx G p s m args meth c cc RX2 nL ret) (hg : Tg ad) {i : Int32} (hin : vp_in i 6) (hdg : decode cc pc = .ok (.iaload, 1)) (kk : J G p l e R s m args below meth c nL Q bc bs (TH G.2.2.1 h ad T) (pc + 1) L (.int (T (90 + i.toNatClampNeg)) :: rest)) : J G p l e R s m args below meth c nL Q bc bs (TH G.2.2.1 h ad T) pc L (.int i :: .ref (ad 4) :: rest) := j_iald C (f := cut6 fun j => T (90 + j)) (TH_at hg (k := 4) (by decide)) hin hdg (J.stack kk (by rw [cut6_at (in_lt6 hin)]))
theorem jtS4 (C : Cx G p s m args meth c cc RX2 nL ret) (hg : Tg ad) (hm : FreeG G) {i x : Int32} (hin : vp_in i 6) (hdg : decode cc pc = .ok (.iastore, 1)) (kk : J G p l e R s m args below meth c nL Q bc bs (TH G.2.2.1 h ad (upd T (90 + i.toNatClampNeg) x)) (pc + 1) L rest) : J G p l e R s m args below meth c nL Q bc bs (TH G.2.2.1 h ad T) pc L (.int x :: .int i :: .ref (ad 4) :: rest) := by
  have hi := in_lt6 hin
  refine j_iast C hm (f := cut6 fun j => T (90 + j)) (TH_at hg (k := 4) (by decide)) hin hdg (J.heap kk (TH_set hg (T' := upd T (90 + i.toNatClampNeg) x) (by decide) ?_ (fun j hj hn => tcell_congr (fun z => ⟨pk_un (by omega), pk_un (by omega), pk_un (by omega), pk_un (by omega), pk_un (by omega)⟩) (fun z a ha => pk_un (by omega)) (fun z a ha => pk_un (by omega)) (fun z a ha => pk_un (by omega)) (fun z a ha => pk_un (by omega)))))
  rw [cut6_upd (g := fun j => upd T (90 + i.toNatClampNeg) x (90 + j)) hi (fun j hj => by
    by_cases hji : j = i.toNatClampNeg
    · subst hji; rw [pk_us, if_pos rfl]
    · rw [if_neg hji]; exact pk_un (by omega))]
  rfl
theorem jtL5 (C : Cx G p s m args meth c cc RX2 nL ret) (hg : Tg ad) {i : Int32} (hin : vp_in i 6) (hdg : decode cc pc = .ok (.iaload, 1)) (kk : J G p l e R s m args below meth c nL Q bc bs (TH G.2.2.1 h ad T) (pc + 1) L (.int (T (84 + i.toNatClampNeg)) :: rest)) : J G p l e R s m args below meth c nL Q bc bs (TH G.2.2.1 h ad T) pc L (.int i :: .ref (ad 5) :: rest) := j_iald C (f := cut6 fun j => T (84 + j)) (TH_at hg (k := 5) (by decide)) hin hdg (J.stack kk (by rw [cut6_at (in_lt6 hin)]))
theorem jtS5 (C : Cx G p s m args meth c cc RX2 nL ret) (hg : Tg ad) (hm : FreeG G) {i x : Int32} (hin : vp_in i 6) (hdg : decode cc pc = .ok (.iastore, 1)) (kk : J G p l e R s m args below meth c nL Q bc bs (TH G.2.2.1 h ad (upd T (84 + i.toNatClampNeg) x)) (pc + 1) L rest) : J G p l e R s m args below meth c nL Q bc bs (TH G.2.2.1 h ad T) pc L (.int x :: .int i :: .ref (ad 5) :: rest) := by
  have hi := in_lt6 hin
  refine j_iast C hm (f := cut6 fun j => T (84 + j)) (TH_at hg (k := 5) (by decide)) hin hdg (J.heap kk (TH_set hg (T' := upd T (84 + i.toNatClampNeg) x) (by decide) ?_ (fun j hj hn => tcell_congr (fun z => ⟨pk_un (by omega), pk_un (by omega), pk_un (by omega), pk_un (by omega), pk_un (by omega)⟩) (fun z a ha => pk_un (by omega)) (fun z a ha => pk_un (by omega)) (fun z a ha => pk_un (by omega)) (fun z a ha => pk_un (by omega)))))
  rw [cut6_upd (g := fun j => upd T (84 + i.toNatClampNeg) x (84 + j)) hi (fun j hj => by
    by_cases hji : j = i.toNatClampNeg
    · subst hji; rw [pk_us, if_pos rfl]
    · rw [if_neg hji]; exact pk_un (by omega))]
  rfl
theorem jtO1 (C : Cx G p s m args meth c cc RX2 nL ret) (hg : Tg ad) {i : Int32} (hin : vp_in i 6) (hdg : decode cc pc = .ok (.aaload, 1)) (kk : J G p l e R s m args below meth c nL Q bc bs (TH G.2.2.1 h ad T) (pc + 1) L (.ref (ad (6 + i.toNatClampNeg)) :: rest)) : J G p l e R s m args below meth c nL Q bc bs (TH G.2.2.1 h ad T) pc L (.int i :: .ref (ad 1) :: rest) := j_aald (di := 6) C (TH_at hg (k := 1) (by decide)) rfl rfl hin hdg kk
theorem tcell_c {dA : Nat → ClassId} {T : TS} {r : Nat} : tcell dA ad T (6 + r) = .inl (dA 0, 6, .inl (cut6 fun j => T (6 + 6 * r + j))) := by
  unfold tcell
  rw [if_neg (by omega), if_neg (by omega), if_neg (by omega), if_neg (by omega), if_neg (by omega), if_neg (by omega), show 6 + 6 * (6 + r - 6) = 6 + 6 * r by omega]
theorem jtLc (C : Cx G p s m args meth c cc RX2 nL ret) (hg : Tg ad) {r : Nat} (hr : r < 6) {i : Int32} (hin : vp_in i 6) (hdg : decode cc pc = .ok (.iaload, 1)) (kk : J G p l e R s m args below meth c nL Q bc bs (TH G.2.2.1 h ad T) (pc + 1) L (.int (T (6 + 6 * r + i.toNatClampNeg)) :: rest)) : J G p l e R s m args below meth c nL Q bc bs (TH G.2.2.1 h ad T) pc L (.int i :: .ref (ad (6 + r)) :: rest) := j_iald C (f := cut6 fun j => T (6 + 6 * r + j)) ((TH_at hg (k := 6 + r) (by omega)).trans (by rw [tcell_c])) hin hdg (J.stack kk (by rw [cut6_at (in_lt6 hin)]))
theorem jtSc (C : Cx G p s m args meth c cc RX2 nL ret) (hg : Tg ad) (hm : FreeG G) {r : Nat} (hr : r < 6) {i x : Int32} (hin : vp_in i 6) (hdg : decode cc pc = .ok (.iastore, 1)) (kk : J G p l e R s m args below meth c nL Q bc bs (TH G.2.2.1 h ad (upd T (6 + 6 * r + i.toNatClampNeg) x)) (pc + 1) L rest) : J G p l e R s m args below meth c nL Q bc bs (TH G.2.2.1 h ad T) pc L (.int x :: .int i :: .ref (ad (6 + r)) :: rest) := by
  have hi := in_lt6 hin
  refine j_iast C hm (f := cut6 fun j => T (6 + 6 * r + j)) ((TH_at hg (k := 6 + r) (by omega)).trans (by rw [tcell_c])) hin hdg (J.heap kk (TH_set hg (T' := upd T (6 + 6 * r + i.toNatClampNeg) x) (by omega) ?_ (fun j hj hn => tcell_congr (fun z => ⟨pk_un (by omega), pk_un (by omega), pk_un (by omega), pk_un (by omega), pk_un (by omega)⟩) (fun z a ha => pk_un (by omega)) (fun z a ha => pk_un (by omega)) (fun z a ha => pk_un (by omega)) (fun z a ha => pk_un (by omega)))))
  rw [tcell_c, cut6_upd (g := fun j => upd T (6 + 6 * r + i.toNatClampNeg) x (6 + 6 * r + j)) hi (fun j hj => by
    by_cases hji : j = i.toNatClampNeg
    · subst hji; rw [pk_us, if_pos rfl]
    · rw [if_neg hji]; exact pk_un (by omega))]
theorem jtO2 (C : Cx G p s m args meth c cc RX2 nL ret) (hg : Tg ad) {i : Int32} (hin : vp_in i 6) (hdg : decode cc pc = .ok (.aaload, 1)) (kk : J G p l e R s m args below meth c nL Q bc bs (TH G.2.2.1 h ad T) (pc + 1) L (.ref (ad (12 + i.toNatClampNeg)) :: rest)) : J G p l e R s m args below meth c nL Q bc bs (TH G.2.2.1 h ad T) pc L (.int i :: .ref (ad 2) :: rest) := j_aald (di := 6) C (TH_at hg (k := 2) (by decide)) rfl rfl hin hdg kk
theorem tcell_s {dA : Nat → ClassId} {T : TS} {r : Nat} : tcell dA ad T (12 + r) = .inl (dA 0, 6, .inl (cut6 fun j => T (42 + 6 * r + j))) := by
  unfold tcell
  rw [if_neg (by omega), if_neg (by omega), if_neg (by omega), if_neg (by omega), if_neg (by omega), if_neg (by omega), show 6 + 6 * (12 + r - 6) = 42 + 6 * r by omega]
theorem jtLs (C : Cx G p s m args meth c cc RX2 nL ret) (hg : Tg ad) {r : Nat} (hr : r < 6) {i : Int32} (hin : vp_in i 6) (hdg : decode cc pc = .ok (.iaload, 1)) (kk : J G p l e R s m args below meth c nL Q bc bs (TH G.2.2.1 h ad T) (pc + 1) L (.int (T (42 + 6 * r + i.toNatClampNeg)) :: rest)) : J G p l e R s m args below meth c nL Q bc bs (TH G.2.2.1 h ad T) pc L (.int i :: .ref (ad (12 + r)) :: rest) := j_iald C (f := cut6 fun j => T (42 + 6 * r + j)) ((TH_at hg (k := 12 + r) (by omega)).trans (by rw [tcell_s])) hin hdg (J.stack kk (by rw [cut6_at (in_lt6 hin)]))
theorem jtSs (C : Cx G p s m args meth c cc RX2 nL ret) (hg : Tg ad) (hm : FreeG G) {r : Nat} (hr : r < 6) {i x : Int32} (hin : vp_in i 6) (hdg : decode cc pc = .ok (.iastore, 1)) (kk : J G p l e R s m args below meth c nL Q bc bs (TH G.2.2.1 h ad (upd T (42 + 6 * r + i.toNatClampNeg) x)) (pc + 1) L rest) : J G p l e R s m args below meth c nL Q bc bs (TH G.2.2.1 h ad T) pc L (.int x :: .int i :: .ref (ad (12 + r)) :: rest) := by
  have hi := in_lt6 hin
  refine j_iast C hm (f := cut6 fun j => T (42 + 6 * r + j)) ((TH_at hg (k := 12 + r) (by omega)).trans (by rw [tcell_s])) hin hdg (J.heap kk (TH_set hg (T' := upd T (42 + 6 * r + i.toNatClampNeg) x) (by omega) ?_ (fun j hj hn => tcell_congr (fun z => ⟨pk_un (by omega), pk_un (by omega), pk_un (by omega), pk_un (by omega), pk_un (by omega)⟩) (fun z a ha => pk_un (by omega)) (fun z a ha => pk_un (by omega)) (fun z a ha => pk_un (by omega)) (fun z a ha => pk_un (by omega)))))
  rw [tcell_s, cut6_upd (g := fun j => upd T (42 + 6 * r + i.toNatClampNeg) x (42 + 6 * r + j)) hi (fun j hj => by
    by_cases hji : j = i.toNatClampNeg
    · subst hji; rw [pk_us, if_pos rfl]
    · rw [if_neg hji]; exact pk_un (by omega))]
def TMi (G : GT) (l : Launch) (y : MethodName) (cc : ByteArray) (nL : Nat) (ret : FieldType) (fr lo : Nat) (av : List Value) (h : AH) (ad : Nat → Nat) (T : TS) (P : Int32 → TS → Prop) : Prop := MT G l y cc nL (some ret) fr lo 0 0 av (TH G.2.2.1 h ad T) (fun v h' => ∃ (r : Int32) (S' : TS), v = some (.int r) ∧ h' = TH G.2.2.1 h ad S' ∧ P r S')
def TMv (G : GT) (l : Launch) (y : MethodName) (cc : ByteArray) (nL : Nat) (fr lo : Nat) (av : List Value) (h : AH) (ad : Nat → Nat) (T : TS) (P : TS → Prop) : Prop := MT G l y cc nL none fr lo 0 0 av (TH G.2.2.1 h ad T) (fun v h' => ∃ (S' : TS), v = none ∧ h' = TH G.2.2.1 h ad S' ∧ P S')
theorem jt_calli (hg : Tg ad) (C : Cx G p s m args meth c cc RX2 nL ret) {y : MethodName} {cc' : ByteArray} {nL' fr lo n index : Nat} {As st : List Value} {ret' : FieldType} {P : Int32 → TS → Prop} (hM : TMi G l y cc' nL' ret' fr lo (.ref (ad 0) :: As) h ad T P) (hq : Cond.methodLink RX2 index y ∈ lw_all) (hy : CalV y RX2 cc' nL' (some ret') n) (hn : As.length = n) (hst : st = As.reverse ++ .ref (ad 0) :: rest) (hcat : (rest.map fun v => v.category).sum ≤ 8) (hR : fr + 1 ≤ R.frames ∧ 8 + (nL' + 11) + lo ≤ R.locals) (hdg : decode cc pc = .ok (.invokevirtual index, 3)) (kk : ∀ (r : Int32) (S' : TS), P r S' → J G p l e R s m args below meth c nL Q bc bs (TH G.2.2.1 h ad S') (pc + 3) L (.int r :: rest)) : J G p l e R s m args below meth c nL Q bc bs (TH G.2.2.1 h ad T) pc L st :=
  j_callV C hM hq hy (TH_at hg (k := 0) (by decide)) rfl hn hst hcat hR (Nat.zero_le _) (Nat.zero_le _) hdg (fun v h' hv => by obtain ⟨r, S1, rfl, rfl, hP⟩ := hv; exact kk r S1 hP)
theorem jt_callv (hg : Tg ad) (C : Cx G p s m args meth c cc RX2 nL ret) {y : MethodName} {cc' : ByteArray} {nL' fr lo n index : Nat} {As st : List Value} {P : TS → Prop} (hM : TMv G l y cc' nL' fr lo (.ref (ad 0) :: As) h ad T P) (hq : Cond.methodLink RX2 index y ∈ lw_all) (hy : CalV y RX2 cc' nL' none n) (hn : As.length = n) (hst : st = As.reverse ++ .ref (ad 0) :: rest) (hcat : (rest.map fun v => v.category).sum ≤ 8) (hR : fr + 1 ≤ R.frames ∧ 8 + (nL' + 11) + lo ≤ R.locals) (hdg : decode cc pc = .ok (.invokevirtual index, 3)) (kk : ∀ (S' : TS), P S' → J G p l e R s m args below meth c nL Q bc bs (TH G.2.2.1 h ad S') (pc + 3) L rest) : J G p l e R s m args below meth c nL Q bc bs (TH G.2.2.1 h ad T) pc L st :=
  j_callV C hM hq hy (TH_at hg (k := 0) (by decide)) rfl hn hst hcat hR (Nat.zero_le _) (Nat.zero_le _) hdg (fun v h' hv => by obtain ⟨S1, rfl, rfl, hP⟩ := hv; exact kk S1 hP)
theorem t_J {S' : TS} {st : List Value} (e1 : T = S') (k : J G p l e R s m args below meth c nL Q bc bs (TH G.2.2.1 h ad T) pc L st) : J G p l e R s m args below meth c nL Q bc bs (TH G.2.2.1 h ad S') pc L st := e1 ▸ k
end TT
