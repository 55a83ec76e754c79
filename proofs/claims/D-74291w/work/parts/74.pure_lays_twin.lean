/-! PURE: changes, as the twin runs it on the table looked at -/
set_option maxRecDepth 100000
theorem setA_self (σ : TS) (k : Nat) : setA σ k (tA σ k) = σ := by
  unfold setA tA
  have : (fun j => bif Nat.beq j k then σ.2 k else σ.2 j) = σ.2 := by
    funext j
    cases hj : Nat.beq j k
    · rfl
    · rw [Nat.eq_of_beq_eq_true hj]; rfl
  rw [this]
theorem q_changes_35 {σ : TS} {L leg : Nat} {N : KN} {f : Nat → Int} {x y z w : Int} {P : TS → Prop} (hN : TN σ N) (hok : KNok N) (hL : L ≤ 4) (hl : leg < L) (hg : ∀ j : Nat, j < 2 ^ L → tA σ 35 j = f j ∧ 0 ≤ f j ∧ f j < 97) (hb : (-10000 ≤ x ∧ x ≤ 10000) ∧ (-10000 ≤ y ∧ y ≤ 10000) ∧ (-10000 ≤ z ∧ z ≤ 10000) ∧ -10000 ≤ w ∧ w ≤ 10000)
    (k : ∀ g : Int → Int, (∀ j : Nat, j < 2 ^ L → g j = chg (kp N) leg x y z w f j) → P (setA σ 35 g)) : w_changes_35 σ 0 L leg x y z w P := by
  have hp := hok.1
  have hL16 := pow_le4 hL
  obtain ⟨bx, by', bz, bw⟩ := hb
  have mm : ∀ u v : Int, -10000 ≤ u ∧ u ≤ 10000 → 0 ≤ v ∧ v < 97 → -970000 ≤ u * v ∧ u * v ≤ 970000 := fun u v hu hv => by
    have h1 : u * v ≤ 10000 * v := Int.mul_le_mul_of_nonneg_right hu.2 hv.1
    have h2 : -10000 * v ≤ u * v := Int.mul_le_mul_of_nonneg_right hu.1 hv.1
    omega
  unfold w_changes_35
  rw [bL_1 hL]
  refine ⟨fun n v σ2 => ∃ (i : Nat) (g : Int → Int), v = i ∧ i ≤ 2 ^ L ∧ n = 2 ^ L - i ∧ σ2 = setA σ 35 g ∧ ∀ j : Nat, j < 2 ^ L → g j = chgK (kp N) leg x y z w f i j, ?_, 2 ^ L, 0, tA σ 35, rfl, Nat.zero_le _, rfl, (setA_self σ 35).symm, fun j hj => by rw [chgK_0]; exact (hg j hj).1⟩
  rintro n v σ2 ⟨i, g, rfl, i1, rfl, rfl, hgi⟩
  refine ⟨⟨by omega, by omega⟩, fun c1 => ?_, fun c1 => ?_⟩
  · have : i = 2 ^ L := by omega
    subst this
    exact k g (fun j hj => by rw [hgi j hj, chgK_end hj])
  · have hi : i < 2 ^ L := by omega
    rw [bit_eq (by omega) (by omega)]
    refine ⟨_, fun _ hh => hh, fun c2 => ?_, fun c2 => ?_⟩
    · have hbit : i.testBit leg = false := by
        cases e : i.testBit leg with
        | true => rw [e] at c2; simp at c2
        | false => rfl
      obtain ⟨b1, b2, b3⟩ := bit_f0 hL hl hi hbit
      have eL : bL 1 (leg : Int) = ((2 ^ leg : Nat) : Int) := bL_1 (by omega)
      have eO : bO (i : Int) (((2 ^ leg : Nat) : Int)) = ((i + 2 ^ leg : Nat) : Int) := by rw [bO_nat (by omega) (by omega), b1]
      rw [eL, eO]
      simp only [Int.zero_add]
      have gi : tA (setA σ 35 g) 35 (i : Int) = f i := (hgi i hi).trans (chgK_lo hbit)
      have gh : tA (setA σ 35 g) 35 ((i + 2 ^ leg : Nat) : Int) = f (i + 2 ^ leg) := (hgi _ b2).trans (chgK_hi hL hl hi hbit)
      rw [gi, gh]
      obtain ⟨-, f1⟩ := hg i hi
      obtain ⟨-, f2⟩ := hg _ b2
      have m1 := mm _ _ bx f1
      have m2 := mm _ _ by' f2
      have m3 := mm _ _ bz f1
      have m4 := mm _ _ bw f2
      have h0 : (0 : Int) ≤ ((i + 2 ^ leg : Nat) : Int) := Int.natCast_nonneg _
      have h9 : ((i + 2 ^ leg : Nat) : Int) < 16 := by omega
      refine ⟨⟨by omega, by omega⟩, ?_⟩
      rintro u rfl
      refine ⟨⟨h0, h9⟩, ?_⟩
      rintro v rfl
      refine ⟨⟨by omega, by omega⟩, ?_⟩
      have q1 : tA (setA σ 35 g) 13 0 = kp N := hN.1
      have q2 : ∀ v, tA (sA (setA σ 35 g) 35 (i : Int) v) 13 0 = kp N := fun _ => hN.1
      unfold w_p
      rw [q1]
      refine q_modulo ⟨by omega, by omega⟩ ⟨by omega, by omega⟩ ⟨⟨by omega, by omega⟩, ⟨by omega, by omega⟩, ?_⟩
      rw [q2]
      refine q_modulo ⟨by omega, by omega⟩ ⟨by omega, by omega⟩ ⟨⟨h0, h9⟩, 2 ^ L - (i + 1), by omega, i + 1, _, by omega, by omega, rfl, by rw [sA_set, sA_set], fun j hj => chgK_step hL hl hi hbit hgi hj⟩
    · have hbit : i.testBit leg = true := by
        cases e : i.testBit leg with
        | false => rw [e] at c2; simp at c2
        | true => rfl
      exact ⟨2 ^ L - (i + 1), by omega, i + 1, g, by omega, by omega, rfl, rfl, fun j hj => by rw [hgi j hj, chgK_skip hL hl hj hbit]⟩
