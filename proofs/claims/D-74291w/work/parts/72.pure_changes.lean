/-! PURE: a leg is changed -/
set_option maxRecDepth 100000
theorem bit_eq {x k : Nat} (hx : x < 2147483648) (hk : k < 32) : bA (bR x k) 1 = if x.testBit k then 1 else 0 := by
  have hd : x / 2 ^ k ≤ x := Nat.div_le_self _ _
  rw [bR_nat hx hk]
  have e := bA_nat (x := x / 2 ^ k) (y := 1) (by omega) (by decide)
  have e1 : ((1 : Nat) : Int) = 1 := rfl
  rw [e1] at e
  rw [e, Nat.and_one_is_mod, Nat.testBit_eq_decide_div_mod_eq]
  by_cases h : x / 2 ^ k % 2 = 1
  · rw [h, decide_eq_true rfl]; rfl
  · have h0 : x / 2 ^ k % 2 = 0 := by omega
    rw [h0]; rfl
theorem s_has {ad : Nat → Nat} {μ : HM} {x k : Nat} {P : Int → Prop} (hx : x < 2147483648) (hk : k < 32) (h : P (if x.testBit k then 1 else 0)) : wc_X1_has ad μ x k P := by
  unfold wc_X1_has
  rw [bit_eq hx hk]
  cases e : x.testBit k with
  | true => rw [e] at h; exact ⟨fun c => absurd rfl c, fun _ => h⟩
  | false => rw [e] at h; exact ⟨fun _ => h, fun c => by simp at c⟩
/-- one leg of a row of values is changed by four numbers -/
def chg (p : Int) (leg : Nat) (a b c d : Int) (f : Nat → Int) (i : Nat) : Int := if i.testBit leg then (c * f (i - 2 ^ leg) + d * f i) % p else (a * f i + b * f (i + 2 ^ leg)) % p
def chgK (p : Int) (leg : Nat) (a b c d : Int) (f : Nat → Int) (k i : Nat) : Int := if (if i.testBit leg then i - 2 ^ leg else i) < k then chg p leg a b c d f i else f i
def bitF (L leg i : Nat) : Bool := if i.testBit leg then decide (2 ^ leg ≤ i) && !(i - 2 ^ leg).testBit leg else decide (i ||| 2 ^ leg = i + 2 ^ leg) && decide (i + 2 ^ leg < 2 ^ L) && (i + 2 ^ leg).testBit leg
theorem bitF_all : (List.range 5).all (fun L => (List.range L).all fun leg => (List.range (2 ^ L)).all fun i => bitF L leg i) = true := by decide
theorem bitF_at {L leg i : Nat} (hL : L ≤ 4) (hl : leg < L) (hi : i < 2 ^ L) : bitF L leg i = true :=
  List.all_eq_true.mp (List.all_eq_true.mp (List.all_eq_true.mp bitF_all L (List.mem_range.mpr (by omega))) leg (List.mem_range.mpr hl)) i (List.mem_range.mpr hi)
theorem bit_f0 {L leg i : Nat} (hL : L ≤ 4) (hl : leg < L) (hi : i < 2 ^ L) (h : i.testBit leg = false) : i ||| 2 ^ leg = i + 2 ^ leg ∧ i + 2 ^ leg < 2 ^ L ∧ (i + 2 ^ leg).testBit leg = true := by
  have := bitF_at hL hl hi
  unfold bitF at this
  rw [if_neg (by rw [h]; decide)] at this
  simpa [and_assoc] using this
theorem bit_f1 {L leg i : Nat} (hL : L ≤ 4) (hl : leg < L) (hi : i < 2 ^ L) (h : i.testBit leg = true) : 2 ^ leg ≤ i ∧ (i - 2 ^ leg).testBit leg = false := by
  have := bitF_at hL hl hi
  unfold bitF at this
  rw [if_pos h] at this
  simpa using this
section CHG
variable {p a b c d : Int} {f : Nat → Int} {L leg k i : Nat}
theorem chgK_0 : chgK p leg a b c d f 0 i = f i := by unfold chgK; rw [if_neg (by omega)]
theorem chgK_end (hi : i < 2 ^ L) : chgK p leg a b c d f (2 ^ L) i = chg p leg a b c d f i := by
  unfold chgK
  rw [if_pos (by
    split
    · exact Nat.lt_of_le_of_lt (Nat.sub_le _ _) hi
    · exact hi)]
theorem chgK_skip (hL : L ≤ 4) (hl : leg < L) (hi : i < 2 ^ L) (hk : k.testBit leg = true) : chgK p leg a b c d f (k + 1) i = chgK p leg a b c d f k i := by
  have key : ((if i.testBit leg then i - 2 ^ leg else i) < k + 1) ↔ ((if i.testBit leg then i - 2 ^ leg else i) < k) := by
    cases e : i.testBit leg with
    | true =>
      obtain ⟨h1, h2⟩ := bit_f1 hL hl hi e
      rw [if_pos rfl]
      constructor
      · intro h
        by_cases e2 : i - 2 ^ leg = k
        · rw [e2, hk] at h2; cases h2
        · omega
      · intro h; omega
    | false =>
      rw [if_neg (by decide)]
      constructor
      · intro h
        by_cases e2 : i = k
        · rw [e2, hk] at e; cases e
        · omega
      · intro h; omega
  unfold chgK
  simp only [key]
theorem chgK_lo (hk : k.testBit leg = false) : chgK p leg a b c d f k k = f k := by
  unfold chgK
  rw [hk, if_neg (by simp)]
theorem chgK_hi (hL : L ≤ 4) (hl : leg < L) (hi : k < 2 ^ L) (hk : k.testBit leg = false) : chgK p leg a b c d f k (k + 2 ^ leg) = f (k + 2 ^ leg) := by
  obtain ⟨h1, h2, h3⟩ := bit_f0 hL hl hi hk
  unfold chgK
  rw [h3, if_neg (by simp)]
theorem chgK_step (hL : L ≤ 4) (hl : leg < L) (hk : k < 2 ^ L) (hb : k.testBit leg = false) {g : Int → Int} (hg : ∀ j : Nat, j < 2 ^ L → g j = chgK p leg a b c d f k j) (hi : i < 2 ^ L) :
    updI (updI g k ((a * f k + b * f (k + 2 ^ leg)) % p)) ((k + 2 ^ leg : Nat) : Int) ((c * f k + d * f (k + 2 ^ leg)) % p) i = chgK p leg a b c d f (k + 1) i := by
  obtain ⟨h1, h2, h3⟩ := bit_f0 hL hl hk hb
  have hp : 0 < 2 ^ leg := Nat.two_pow_pos leg
  by_cases e1 : i = k + 2 ^ leg
  · subst e1
    rw [updI_s]
    unfold chgK chg
    rw [h3, if_pos rfl, if_pos (by omega), if_pos rfl]
    have : k + 2 ^ leg - 2 ^ leg = k := by omega
    rw [this]
  · rw [updI_n _ _ _ (by omega)]
    by_cases e2 : i = k
    · subst e2
      rw [updI_s]
      unfold chgK chg
      rw [hb, if_pos (by simp)]
      simp
    · rw [updI_n _ _ _ (by omega), hg i hi]
      have key : ((if i.testBit leg then i - 2 ^ leg else i) < k + 1) ↔ ((if i.testBit leg then i - 2 ^ leg else i) < k) := by
        cases e : i.testBit leg with
        | true =>
          obtain ⟨g1, g2⟩ := bit_f1 hL hl hi e
          rw [if_pos rfl]; omega
        | false =>
          rw [if_neg (by decide)]; omega
      unfold chgK
      simp only [key]
end CHG
