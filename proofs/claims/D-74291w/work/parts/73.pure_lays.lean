/-! PURE: changes, as the component runs it -/
set_option maxRecDepth 100000
theorem hs_self {μ : HM} {c : Nat} {d : HC} (h : μ c = some d) : hs μ c d = μ := by
  funext a; unfold hs; split
  · rename_i e; subst e; exact h.symm
  · rfl
theorem hs_hs (μ : HM) (c : Nat) (d e : HC) : hs (hs μ c d) c e = hs μ c e := by
  funext a; unfold hs; split <;> rfl
theorem HN.upd {ad : Nat → Nat} {F μ : HM} {b c t n : Nat} {N : KN} {g g2 : Int → Int} (h : HN ad F μ b N) (hF : F c = none) (hc : μ c = some (hA t n g)) : HN ad F (hs μ c (hA t n g2)) b N := by
  obtain ⟨h1, h2, fi, fq, a, tE, bE, nE, h3, h4⟩ := h
  refine ⟨fun q z hz => ?_, h2, fi, fq, a, tE, bE, nE, ?_, h4⟩
  · rw [hs_n _ _ (by intro e; subst e; rw [hF] at hz; cases hz)]; exact h1 _ _ hz
  · rw [hs_n _ _ (by intro e; subst e; rw [h3] at hc; cases hc)]; exact h3
theorem mul_M {x y : Int} (hx : -1000000 ≤ x ∧ x ≤ 1000000) (hy : 0 ≤ y ∧ y < 97) : -97000000 ≤ x * y ∧ x * y ≤ 97000000 := by
  have h1 : x * y ≤ 1000000 * y := Int.mul_le_mul_of_nonneg_right hx.2 hy.1
  have h2 : -1000000 * y ≤ x * y := Int.mul_le_mul_of_nonneg_right hx.1 hy.1
  omega
/-- a row of values at c is changed leg by leg: c isn't of the net, nor the object -/
theorem s_changes {ad : Nat → Nat} {F μ : HM} {b c n0 L leg : Nat} {N : KN} {f : Nat → Int} {g0 : Int → Int} {x y z w : Int} {P : HM → Prop} (h : HN ad F μ b N) (hF : F c = none) (hc : μ c = some (hA 0 n0 g0)) (hn0 : 2 ^ L ≤ n0 ∧ n0 < 2147483648) (hL : L ≤ 4) (hl : leg < L) (hg : ∀ j : Nat, j < 2 ^ L → g0 j = f j ∧ 0 ≤ f j ∧ f j < 97) (hx : rI x ∧ rI y ∧ rI z ∧ rI w) (hb : (-1000000 ≤ x ∧ x ≤ 1000000) ∧ (-1000000 ≤ y ∧ y ≤ 1000000) ∧ (-1000000 ≤ z ∧ z ≤ 1000000) ∧ -1000000 ≤ w ∧ w ≤ 1000000)
    (k : ∀ g : Int → Int, (∀ j : Nat, j < 2 ^ L → g j = chg (kp N) leg x y z w f j) → P (hs μ c (hA 0 n0 g))) : wc_X1_changes ad μ b (some c) ((2 ^ L : Nat) : Int) leg x y z w P := by
  have hp := h.2.1.1
  have hL16 := pow_le4 hL
  obtain ⟨rx, ry, rz, rw'⟩ := hx
  obtain ⟨bx, by', bz, bw⟩ := hb
  refine ⟨fun n v μ2 => ∃ (i : Nat) (g : Int → Int), v = i ∧ i ≤ 2 ^ L ∧ n = 2 ^ L - i ∧ μ2 = hs μ c (hA 0 n0 g) ∧ ∀ j : Nat, j < 2 ^ L → g j = chgK (kp N) leg x y z w f i j, ?_, 2 ^ L, 0, g0, rfl, Nat.zero_le _, rfl, (hs_self hc).symm, fun j hj => by rw [chgK_0]; exact (hg j hj).1⟩
  rintro n v μ2 ⟨i, g, rfl, i1, rfl, rfl, hgi⟩
  have h2 := h.upd (g2 := g) hF hc
  have hcc : hs μ c (hA 0 n0 g) c = some (hA 0 n0 g) := hs_s _ _ _
  refine ⟨⟨by omega, by omega⟩, ⟨by omega, by omega⟩, fun c1 => ?_, fun c1 => ?_⟩
  · have : i = 2 ^ L := by omega
    subst this
    exact k g (fun j hj => by rw [hgi j hj, chgK_end hj])
  · have hi : i < 2 ^ L := by omega
    refine s_has (by omega) (by omega) ⟨_, fun _ hh => hh, fun c2 => ?_, fun c2 => ?_⟩
    · have hbit : i.testBit leg = false := by
        cases e : i.testBit leg with
        | true => rw [e] at c2; simp at c2
        | false => rfl
      obtain ⟨b1, b2, b3⟩ := bit_f0 hL hl hi hbit
      have eL : bL 1 (leg : Int) = ((2 ^ leg : Nat) : Int) := bL_1 (by omega)
      have eO : bO (i : Int) (((2 ^ leg : Nat) : Int)) = ((i + 2 ^ leg : Nat) : Int) := by rw [bO_nat (by omega) (by omega), b1]
      rw [eL, eO]
      have gi : g i = f i := by rw [hgi i hi, chgK_lo hbit]
      have gh : g ((i + 2 ^ leg : Nat) : Int) = f (i + 2 ^ leg) := by rw [hgi _ b2, chgK_hi hL hl hi hbit]
      obtain ⟨-, f1⟩ := hg i hi
      obtain ⟨-, f2⟩ := hg _ b2
      obtain ⟨a, p1, p2, p3⟩ := HN_p h2
      have m1 := mul_M bx f1
      have m2 := mul_M by' f2
      have m3 := mul_M bz f1
      have m4 := mul_M bw f2
      have h0 : (0 : Int) ≤ ((i + 2 ^ leg : Nat) : Int) := Int.natCast_nonneg _
      have h9 : ((i + 2 ^ leg : Nat) : Int) < (n0 : Int) := by exact_mod_cast Nat.lt_of_lt_of_le b2 hn0.1
      refine ⟨c, rfl, _, gA_of hcc ⟨by omega, by omega⟩ hn0.2, _, gA_of hcc ⟨h0, h9⟩ hn0.2, _, p1, rx, ?_⟩
      rw [gi, gh]
      have h3 := h2.upd (g2 := updI g i ((x * f i + y * f (i + 2 ^ leg)) % kp N)) hF hcc
      obtain ⟨a', p1', p2', p3'⟩ := HN_p h3
      refine ⟨⟨by omega, by omega⟩, ry, ⟨by omega, by omega⟩, a, rfl, p3, _, p2, ⟨by omega, by omega⟩, s_floorMod ⟨by omega, by omega⟩ ⟨by omega, by omega⟩ ⟨n0, g, hcc, ⟨by omega, by omega, by omega⟩, _, p1', rz, ⟨by omega, by omega⟩, rw', ⟨by omega, by omega⟩, a', rfl, p3', _, p2', ⟨by omega, by omega⟩, s_floorMod ⟨by omega, by omega⟩ ⟨by omega, by omega⟩ ⟨n0, _, hs_s _ _ _, ⟨h0, h9, by omega⟩, 2 ^ L - (i + 1), by omega, i + 1, _, by omega, by omega, rfl, by rw [hs_hs, hs_hs], fun j hj => chgK_step hL hl hi hbit hgi hj⟩⟩⟩
    · have hbit : i.testBit leg = true := by
        cases e : i.testBit leg with
        | false => rw [e] at c2; simp at c2
        | true => rfl
      exact ⟨2 ^ L - (i + 1), by omega, i + 1, g, by omega, by omega, rfl, rfl, fun j hj => by rw [hgi j hj, chgK_skip hL hl hj hbit]⟩
