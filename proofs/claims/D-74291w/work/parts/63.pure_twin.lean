/-! PURE: the twin's net, the table that is looked at -/
set_option maxRecDepth 100000
def setA (σ : TS) (k : Nat) (g : Int → Int) : TS := (σ.1, fun j => bif Nat.beq j k then g else σ.2 j)
def TN (σ : TS) (N : KN) : Prop := tA σ 13 0 = kp N ∧ tA σ 14 0 = knT N ∧ tA σ 15 0 = knB N ∧ tA σ 16 0 = knN N ∧ (∀ k : Nat, k < knT N → tA σ 20 k = (kT N k).1 ∧ ∀ i : Nat, i < 2 ^ (kT N k).1 → tA σ 21 (16 * k + i) = (kT N k).2 i) ∧ (∀ k : Nat, k < knB N → ∀ i : Nat, i < 4 → tA σ 22 (4 * k + i) = kB N k i) ∧ ∀ k : Nat, k < knN N → tA σ 23 k = kO N k
theorem sA_set (σ : TS) (k : Nat) (g : Int → Int) (i v : Int) : sA (setA σ k g) k i v = setA σ k (updI g i v) := by
  unfold sA setA
  simp only [Nat.beq_refl, cond_true]
  congr 1
  funext j
  cases Nat.beq j k <;> rfl
theorem updI_pre {g : Int → Int} {f : Nat → Int} {v : Int} {x : Int} (h0 : 0 ≤ v) (h : ∀ j : Nat, (j : Int) < v → g j = f j) (hx : x = f v.toNat) : ∀ j : Nat, (j : Int) < v + 1 → updI g v x j = f j := by
  intro j hj
  by_cases e : (j : Int) = v
  · rw [e, updI_s, hx, ← e]; rfl
  · rw [updI_n _ _ _ e]; exact h j (by omega)
theorem pow_le4 {L : Nat} (h : L ≤ 4) : 2 ^ L ≤ 16 := by
  have : ∀ L, L ≤ 4 → 2 ^ L ≤ 16 := by decide
  exact this L h
theorem bL_1 {L : Nat} (h : L ≤ 4) : bL 1 L = ((2 ^ L : Nat) : Int) := by
  have h1 := pow_le4 h
  have := bL_nat (x := 1) (y := L) (by omega) (by omega)
  rw [Nat.one_mul] at this
  exact this
theorem q_within {a b c : Int} {P : Int → Prop} (ha : rL a) (hb : rL b) (hc : rL c) (h : P (if b ≤ a ∧ a ≤ c then 1 else 0)) : w_within a b c P := by
  unfold w_within
  refine ⟨ha, hb, fun c1 => ?_, fun c1 => ⟨ha, hc, fun c2 => ?_, fun c2 => ?_⟩⟩
  · rw [if_neg (by omega)] at h; exact h
  · rw [if_neg (by omega)] at h; exact h
  · rw [if_pos (by omega)] at h; exact h
theorem q_isTable {σ : TS} {N : KN} {t : Int} {P : Int → Prop} (hN : TN σ N) (hok : KNok N) (ht : rI t) (h : P (if 0 ≤ t ∧ t < knT N then 1 else 0)) : w_isTable σ t P := by
  obtain ⟨-, h2, -⟩ := hN
  obtain ⟨-, k2, -⟩ := hok
  unfold w_isTable
  rw [h2]
  refine ⟨ht, ⟨by omega, by omega⟩, q_within (rI_L ht) (by decide) ⟨by omega, by omega⟩ ?_⟩
  have e : (0 ≤ t ∧ t ≤ (knT N : Int) - 1) ↔ (0 ≤ t ∧ t < knT N) := by omega
  simp only [e]
  exact h
theorem q_laysTable {σ : TS} {N : KN} {t : Nat} {P : TS → Prop} (hN : TN σ N) (hok : KNok N) (ht : t < knT N) (h : ∀ g : Int → Int, (∀ j : Nat, j < 2 ^ (kT N t).1 → g j = (kT N t).2 j) → P (setA (sF σ 36 (kT N t).1) 35 g)) : w_laysTable σ t P := by
  obtain ⟨-, -, -, -, h5, -⟩ := hN
  obtain ⟨-, k2, -, -, k5, -⟩ := hok
  obtain ⟨e1, e2⟩ := h5 t ht
  obtain ⟨l1, l2, -⟩ := k5 t ht
  have hp := pow_le4 l2
  unfold w_laysTable
  rw [e1]
  refine ⟨⟨by omega, by omega⟩, fun n v σ2 => ∃ g, σ2 = setA (sF σ 36 (kT N t).1) 35 g ∧ 0 ≤ v ∧ v ≤ ((2 ^ (kT N t).1 : Nat) : Int) ∧ (n : Int) = ((2 ^ (kT N t).1 : Nat) : Int) - v ∧ ∀ j : Nat, (j : Int) < v → g j = (kT N t).2 j, ?_, 2 ^ (kT N t).1, tA σ 35, ?_, Int.le_refl _, Int.natCast_nonneg _, by omega, fun j hj => by omega⟩
  · rintro n v σ2 ⟨g, rfl, v0, v1, vn, hg⟩
    have eL : bL 1 (tF (setA (sF σ 36 ((kT N t).1 : Nat)) 35 g) 36) = ((2 ^ (kT N t).1 : Nat) : Int) := bL_1 l2
    rw [eL]
    refine ⟨⟨by omega, by omega⟩, fun c => h g (fun j hj => hg j (by omega)), fun c => ⟨⟨by omega, by omega⟩, ⟨by omega, by omega⟩, n - 1, by omega, ?_⟩⟩
    rw [sA_set]
    refine ⟨_, rfl, by omega, by omega, by omega, updI_pre v0 hg ?_⟩
    have := e2 v.toNat (by omega)
    have ev : ((v.toNat : Nat) : Int) = v := by omega
    rw [ev] at this
    exact this
  · unfold setA sF tA
    congr 1
    funext j
    cases hj : Nat.beq j 35
    · rfl
    · rw [Nat.eq_of_beq_eq_true hj]; rfl
