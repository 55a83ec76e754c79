/-! PURE: lookups, small members -/
set_option maxRecDepth 100000
theorem gI_of {μ : HM} {a ci : Nat} {fi : Nat → Int} {fq : Nat → Option Nat} (h : μ a = some (hO ci fi fq)) (k : Nat) : gI μ a ci k = some (fi k) := by
  unfold gI; rw [h]; exact if_pos rfl
theorem gQ_of {μ : HM} {a ci : Nat} {fi : Nat → Int} {fq : Nat → Option Nat} (h : μ a = some (hO ci fi fq)) (k : Nat) : gQ μ a ci k = some (fq k) := by
  unfold gQ; rw [h]; exact if_pos rfl
theorem gC_of {μ : HM} {a ci : Nat} {fi : Nat → Int} {fq : Nat → Option Nat} (h : μ a = some (hO ci fi fq)) : gC μ a = some ci := by
  unfold gC; rw [h]; rfl
theorem gL_A {μ : HM} {a t n : Nat} {f : Int → Int} (h : μ a = some (hA t n f)) (ht : t < 4) : gL μ a = some n := by
  unfold gL; rw [h]; exact if_pos ht
theorem gL_Q {μ : HM} {a t n : Nat} {f : Int → Option Nat} (h : μ a = some (hQ t n f)) (ht : 4 ≤ t ∧ t < 7) : gL μ a = some n := by
  unfold gL; rw [h]; exact if_pos ht
theorem gA_of {μ : HM} {a t n : Nat} {f : Int → Int} (h : μ a = some (hA t n f)) {i : Int} (hi : 0 ≤ i ∧ i < n) (hn : n < 2147483648) : gA μ a t i = some (f i) := by
  unfold gA; rw [h]; exact if_pos ⟨rfl, hi.1, hi.2, hn⟩
theorem gR_of {μ : HM} {a t n : Nat} {f : Int → Option Nat} (h : μ a = some (hQ t n f)) {i : Int} (hi : 0 ≤ i ∧ i < n) (hn : n < 2147483648) : gR μ a t i = some (f i) := by
  unfold gR; rw [h]; exact if_pos ⟨rfl, hi.1, hi.2, hn⟩
theorem exJ {α : Prop → Prop} {K : Prop} (h : α K) : ∃ J : Prop, (J → K) ∧ α J := ⟨K, id, h⟩
/-- signs of longs -/
theorem lbX_neg {x y : Int} (hx : rL x) (h0 : 0 ≤ y) (hy : rL y) : lbX x y < 0 ↔ x < 0 := by
  have e1 : decide (lbX x y < 0) = (Int64.ofInt x ^^^ Int64.ofInt y).toBitVec.msb := BitVec.msb_eq_toInt.symm
  have e2 : decide (x < 0) = (Int64.ofInt x).toBitVec.msb := by
    have h := BitVec.msb_eq_toInt (x := (Int64.ofInt x).toBitVec)
    rw [h]
    show _ = decide ((Int64.ofInt x).toInt < 0)
    rw [rL_toInt hx]
  have e3 : (Int64.ofInt y).toBitVec.msb = false := by
    have h := BitVec.msb_eq_toInt (x := (Int64.ofInt y).toBitVec)
    rw [h]
    show decide ((Int64.ofInt y).toInt < 0) = false
    rw [rL_toInt hy]
    exact decide_eq_false (by omega)
  have e4 : decide (lbX x y < 0) = decide (x < 0) := by
    rw [e1, e2, Int64.toBitVec_xor, BitVec.msb_xor, e3, Bool.xor_false]
  exact decide_eq_decide.mp e4
theorem tmod_fix {a p : Int} (hp : 0 < p) : (if a < 0 then (if a.tmod p = 0 then a.tmod p else a.tmod p + p) else a.tmod p) = a % p := by
  have h1 := Int.emod_nonneg a (by omega : p ≠ 0)
  have h2 := Int.emod_lt_of_pos a hp
  by_cases ha : a < 0
  · rw [if_pos ha]
    have e := Int.tmod_eq_emod (a := a) (b := p)
    by_cases hd : p ∣ a
    · have e0 : a.tmod p = 0 := Int.tmod_eq_zero_of_dvd hd
      rw [if_pos e0, e0, Int.emod_eq_zero_of_dvd hd]
    · have e1 : a.tmod p = a % p - p := by
        rw [e]
        have : ¬ (0 ≤ a ∨ p ∣ a) := by rintro (h | h); omega; exact hd h
        rw [if_neg this]
        have : (p.natAbs : Int) = p := by omega
        rw [this]
      rw [e1]
      rw [if_neg (by omega)]
      omega
  · rw [if_neg ha, Int.tmod_eq_emod_of_nonneg (by omega)]
theorem s_floorMod {ad : Nat → Nat} {μ : HM} {a p : Int} {P : Int → Prop} (ha : rL a) (hp : 0 < p ∧ p < 2147483648) (h : P (a % p)) : wc_J10_floorMod ad μ a p P := by
  have hl : rL p := ⟨by omega, by omega⟩
  have e := tmod_fix (a := a) hp.1
  have hx := lbX_neg ha (Int.le_of_lt hp.1) hl
  unfold wc_J10_floorMod
  have hr : rL (lbX a p) := r64 _
  have b1 : -p < a.tmod p := Int.lt_tmod_of_pos a hp.1
  have b2 : a.tmod p < p := Int.tmod_lt_of_pos a hp.1
  refine ⟨⟨ha, hp⟩, hr, fun c => ?_, fun c => ⟨⟨by omega, by omega⟩, fun c2 => ?_, fun c2 => ?_⟩⟩
  · have n : ¬ a < 0 := fun q => by have := hx.mpr q; omega
    rw [if_neg n] at e
    rw [e]; exact h
  · rw [if_pos (hx.mp c), if_pos c2] at e
    rw [e]; exact h
  · rw [if_pos (hx.mp c), if_neg c2] at e
    rw [e]; exact h
theorem s_within {ad : Nat → Nat} {μ : HM} {a b c : Int} {P : Int → Prop} (ha : rL a) (hb : rL b) (hc : rL c) (h : P (if b ≤ a ∧ a ≤ c then 1 else 0)) : wc_X1_within ad μ a b c P := by
  unfold wc_X1_within
  refine ⟨ha, hb, fun c1 => ?_, fun c1 => ⟨ha, hc, fun c2 => ?_, fun c2 => ?_⟩⟩
  · rw [if_neg (by omega)] at h; exact h
  · rw [if_neg (by omega)] at h; exact h
  · rw [if_pos (by omega)] at h; exact h
