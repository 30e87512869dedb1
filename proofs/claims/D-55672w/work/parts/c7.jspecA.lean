/-! the JDK's small methods: what their mirrors come to -/
set_option maxRecDepth 100000
/-- what stands below z, of the JDK's -/
def BaseF (G : GT) : Prop := StV G "java/lang/String" "COMPACT_STRINGS" "Z" (.int 1) ∧ StV G "java/lang/StringUTF16" "$assertionsDisabled" "Z" (.int 1) ∧ StV G "java/lang/StringUTF16" "HI_BYTE_SHIFT" "I" (.int 0) ∧ StV G "java/lang/StringUTF16" "LO_BYTE_SHIFT" "I" (.int 8) ∧ StV G "java/lang/Integer$IntegerCache" "high" "I" (.int 127) ∧
  (∃ a : Nat, StV G "java/lang/Integer" "DigitOnes" "[B" (.ref a) ∧ LoT G .byte a 100 (fun j => .int (nI (48 + j % 10)))) ∧ (∃ a : Nat, StV G "java/lang/Integer" "DigitTens" "[B" (.ref a) ∧ LoT G .byte a 100 (fun j => .int (nI (48 + j / 10)))) ∧
  (∃ (a : Nat) (f : Nat → Nat), StV G "java/lang/Integer$IntegerCache" "cache" "[Ljava/lang/Integer;" (.ref a) ∧ LoT G (.object "java/lang/Integer") a 256 (fun j => .ref (f j)) ∧ ∀ j, j < 256 → LoF G (f j) 15 0 (.int (nI j - 128)) ∧ LoC G (f j) 15) ∧
  (∃ a : Nat, StV G "java/util/ArrayList" "DEFAULTCAPACITY_EMPTY_ELEMENTDATA" "[Ljava/lang/Object;" (.ref a) ∧ LoT G (.object "java/lang/Object") a 0 (fun _ => .null)) ∧ (∃ v : Option Nat, StV G "jdk/internal/util/Preconditions" "SIOOBE_FORMATTER" "Ljava/util/function/BiFunction;" (va_rf v)) ∧ ∃ mi : Nat, MiF G mi
/-- every cell of h that is not in W stands in h' as it was -/
def Keep (W : Nat → Prop) (h h' : AH) : Prop := ∀ (x : Nat) (e : va_E), h x = some e → ¬ W x → h' x = some e
theorem Keep.rfl' {W : Nat → Prop} {h : AH} : Keep W h h := fun _ _ a _ => a
theorem Keep.trans {W : Nat → Prop} {h h' h'' : AH} (a : Keep W h h') (b : Keep W h' h'') : Keep W h h'' := fun x e p q => b x e (a x e p q) q
theorem Keep.mono {W W' : Nat → Prop} {h h' : AH} (a : Keep W h h') (s : ∀ (x : Nat) (e : va_E), h x = some e → W x → W' x) : Keep W' h h' := fun x e p q => a x e p (fun z => q (s x e p z))
theorem Keep.up {W : Nat → Prop} {h : AH} {a : Nat} {e : va_E} (hw : W a) : Keep W h (hup h a e) := fun x e' p q => (hup_ne (fun z : x = a => q (z ▸ hw))).trans p
theorem Keep.new {W : Nat → Prop} {h : AH} {a : Nat} {e : va_E} (hn : h a = none) : Keep W h (hup h a e) := fun x e' p q => by rw [hup_ne (fun z => by rw [z, hn] at p; cases p)]; exact p
theorem Keep.at {W : Nat → Prop} {h h' : AH} {a : Nat} {e : va_E} (k : Keep W h h') (ha : h a = some e) (hw : ¬ W a) : h' a = some e := k a e ha hw
theorem Keep.aF {G : GT} {W : Nat → Prop} {h h' : AH} {a ci k : Nat} {v : Value} (kp : Keep W h h') (x : aF G h a ci k v) (hw : ¬ W a) : aF G h' a ci k v := x.elim (fun ⟨fs, p, q⟩ => Or.inl ⟨fs, kp a _ p hw, q⟩) Or.inr
theorem Keep.aC {G : GT} {W : Nat → Prop} {h h' : AH} {a ci : Nat} (kp : Keep W h h') (x : aC G h a ci) (hw : ¬ W a) : aC G h' a ci := x.elim (fun ⟨fs, p⟩ => Or.inl ⟨fs, kp a _ p hw⟩) Or.inr
theorem Keep.aB {G : GT} {W : Nat → Prop} {h h' : AH} {a n : Nat} {f : Nat → Int32} (kp : Keep W h h') (x : aB G h a n f) (hw : ¬ W a) : aB G h' a n f := x.elim (fun p => Or.inl (kp a _ p hw)) Or.inr
section SA
variable {G : GT} {h : AH} {c s : Nat}
theorem s_newLength {P : Int32 → AH → Prop} {a x : Nat} (hm : a + max x (a + 2) < 2147483639) (ha : 0 < a + max x (a + 2)) (hP : P (nI (a + max x (a + 2))) h) : F_gJ21_newLength G (h, c, s) (nI a) (nI x) (nI (a + 2)) P := by
  have e : nI a + (if nI x < nI (a + 2) then nI (a + 2) else nI x) = nI (a + max x (a + 2)) := by
    by_cases q : x < a + 2
    · rw [if_pos (nI_lt q (by omega)), nI_add, show max x (a + 2) = a + 2 by omega]
    · rw [if_neg (nI_nlt (by omega) (by omega)), nI_add, show max x (a + 2) = x by omega]
  unfold F_gJ21_newLength
  refine jn_i (br_f ?_ (br_f ?_ ?_))
  · rw [e]; exact nI_nle ha (by omega)
  · rw [e]; exact nI_nlt (a := 2147483639) (b := a + max x (a + 2)) (by omega) (by omega)
  · rw [e]; exact hP
theorem s_pcheckIndex {P : Int32 → AH → Prop} {i n : Nat} {v : Option Nat} (hi : i < n) (hn : n < 2 ^ 31) (hP : P (nI i) h) : F_gJ23_checkIndex G (h, c, s) (nI i) (nI n) v P :=
  jn_i (br_f (nI_pos (by omega)) (br_t (nI_lt hi hn) hP))
theorem s_ocheckIndex {P : Int32 → AH → Prop} {i n : Nat} (hi : i < n) (hn : n < 2 ^ 31) (hP : P (nI i) h) : F_gJ22_checkIndex G (h, c, s) (nI i) (nI n) P :=
  ⟨0, 0, Nat.zero_le _, Nat.zero_le _, s_pcheckIndex hi hn (nm_i hP)⟩
theorem s_intValue {P : Int32 → AH → Prop} {a : Nat} {v : Int32} (ha : aF G h a 15 0 (.int v)) (hP : P v h) : F_gJ20_intValue G (h, c, s) a P := ⟨v, ha, hP⟩
/-- Integer.valueOf of a small number: an object of the cache -/
theorem s_valueOf (hB : BaseF G) {P : Nat → AH → Prop} {i : Nat} (hi : i < 128) (hP : ∀ a : Nat, LoF G a 15 0 (.int (nI i)) → LoC G a 15 → P a h) : F_gJ20_valueOf G (h, c, s) (nI i) P := by
  obtain ⟨-, -, -, -, b5, -, -, ⟨a, f, b8, b9, b10⟩, -⟩ := hB
  obtain ⟨b11, b12⟩ := b10 (i + 128) (by omega)
  unfold F_gJ20_valueOf
  refine jn_i (br_f (fun q => ?_) ⟨127, b5, br_f (fun q => ?_) ⟨a, b8, 256, fun j => some (f j), f (i + 128), Or.inr ⟨_, b9⟩, ?_, ?_, ?_⟩⟩)
  · rw [Int32.lt_iff_toInt_lt, nI_toInt (by omega)] at q
    have : (-128 : Int32).toInt = -128 := by decide
    omega
  · exact nI_nlt (a := 127) (b := i) (by omega) (by omega) q
  · rw [show nI i + 128 = nI (i + 128) from nI_add i 128]; exact vp_in_nI (by omega) (by omega)
  · rw [show nI i + 128 = nI (i + 128) from nI_add i 128, nI_clamp (by omega)]
  · refine hP _ ?_ b12
    rw [show nI i = nI (i + 128) - 128 from (pk_sub (a := i + 128) (b := 128) (by omega)).symm]
    exact b11
end SA
