/-! a town that stands in the world; Known that stands in it -/
set_option maxRecDepth 100000
def TC (G : GT) (h : AH) (ad : Nat → Nat) (T : TS) : Prop := Tg ad ∧ ∀ k, k < 18 → h (ad k) = some (tcell G.2.2.1 ad T k)
def KC (G : GT) (h : AH) (kd : Nat → Nat) (K : TS) : Prop := Kg kd ∧ ∀ k, k < 5 → h (kd k) = some (kcell G.2.2.1 kd K k)
theorem TC.th {G : GT} {h : AH} {ad : Nat → Nat} {T : TS} (x : TC G h ad T) : TH G.2.2.1 h ad T = h := by
  funext a
  rcases TH_cases ad a with ⟨k, hk, rfl⟩ | hn
  · rw [TH_at x.1 hk, x.2 k hk]
  · exact TH_out hn
theorem TC.of {G : GT} {h : AH} {ad : Nat → Nat} {T : TS} (hg : Tg ad) : TC G (TH G.2.2.1 h ad T) ad T := ⟨hg, fun k hk => TH_at hg hk⟩
theorem TC.keep {G : GT} {W : Nat → Prop} {h h' : AH} {ad : Nat → Nat} {T : TS} (x : TC G h ad T) (kp : Keep W h h') (hw : ∀ k, k < 18 → ¬ W (ad k)) : TC G h' ad T := ⟨x.1, fun k hk => kp _ _ (x.2 k hk) (hw k hk)⟩
theorem TH.keep {dA : Nat → ClassId} {h : AH} {ad : Nat → Nat} {T : TS} {W : Nat → Prop} (hw : ∀ k, k < 18 → W (ad k) ∨ h (ad k) = none) : Keep W h (TH dA h ad T) := fun x e hx hwx => by
  rw [TH_out (fun k hk z => by
    rcases hw k hk with w | w
    · exact hwx (z ▸ w)
    · rw [z, hx] at w; cases w)]
  exact hx
theorem KC.th {G : GT} {h : AH} {kd : Nat → Nat} {K : TS} (x : KC G h kd K) : KH G.2.2.1 h kd K = h := by
  funext a
  rcases KH_cases kd a with ⟨k, hk, rfl⟩ | hn
  · rw [KH_at x.1 hk, x.2 k hk]
  · exact KH_out hn
theorem KC.of {G : GT} {h : AH} {kd : Nat → Nat} {K : TS} (hg : Kg kd) : KC G (KH G.2.2.1 h kd K) kd K := ⟨hg, fun k hk => KH_at hg hk⟩
theorem KC.keep {G : GT} {W : Nat → Prop} {h h' : AH} {kd : Nat → Nat} {K : TS} (x : KC G h kd K) (kp : Keep W h h') (hw : ∀ k, k < 5 → ¬ W (kd k)) : KC G h' kd K := ⟨x.1, fun k hk => kp _ _ (x.2 k hk) (hw k hk)⟩
theorem KH.keep {dA : Nat → ClassId} {h : AH} {kd : Nat → Nat} {K : TS} {W : Nat → Prop} (hw : ∀ k, k < 5 → W (kd k) ∨ h (kd k) = none) : Keep W h (KH dA h kd K) := fun x e hx hwx => by
  rw [KH_out (fun k hk z => by
    rcases hw k hk with w | w
    · exact hwx (z ▸ w)
    · rw [z, hx] at w; cases w)]
  exact hx
