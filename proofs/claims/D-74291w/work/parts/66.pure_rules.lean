/-! PURE: parity of the twin, rules, what can be made -/
set_option maxRecDepth 100000
def LK (σ : TS) (L : Nat) (f : Nat → Int) : Prop := tF σ 36 = L ∧ L ≤ 4 ∧ ∀ j : Nat, j < 2 ^ L → tA σ 35 j = f j ∧ 0 ≤ f j ∧ f j < 97
theorem q_parityHere {σ : TS} {L : Nat} {f : Nat → Int} {P : Int → Prop} (hl : LK σ L f) (h : P (r_par f (2 ^ L))) : w_parityHere σ P := by
  obtain ⟨h1, h2, h3⟩ := hl
  have hp := pow_le4 h2
  unfold w_parityHere
  rw [h1, bL_1 h2]
  refine ⟨fun n v1 v2 v3 => ∃ k : Nat, v3 = k ∧ k ≤ 2 ^ L ∧ n = 2 ^ L - k ∧ v1 = b01 (!hasP f k 1) ∧ v2 = b01 (!hasP f k 0), ?_, 2 ^ L, 0, rfl, Nat.zero_le _, rfl, rfl, rfl⟩
  rintro n v1 v2 v3 ⟨k, rfl, k1, rfl, rfl, rfl⟩
  have z1 := r_z (b01_01 (!hasP f k 1))
  have z2 := r_z (b01_01 (!hasP f k 0))
  refine ⟨⟨by omega, by omega⟩, fun e => ⟨z1, ?_⟩, fun e => ?_⟩
  · have : k = 2 ^ L := by omega
    rw [this] at z1 z2 ⊢
    unfold r_par at h
    cases e1 : hasP f (2 ^ L) 1 <;> cases e0 : hasP f (2 ^ L) 0 <;> rw [e1, e0] at h <;>
      (refine ⟨_, fun hh => hh, ?_⟩; simp only [e1, e0, b01, Bool.not_true, Bool.not_false] at z1 z2 ⊢; simp (config := { decide := true }) at h ⊢; first | exact h | exact ⟨z1, z2, h⟩ | exact ⟨z2, h⟩ | exact ⟨z1, h⟩)
  · have hk : k < 2 ^ L := by omega
    obtain ⟨f1, f2, f3⟩ := h3 k hk
    rw [f1]
    have hp4 := pcn_2 k (by omega)
    refine ⟨⟨by omega, by omega⟩, ⟨by omega, by omega⟩, _, fun _ _ hh => hh, fun c => q_bits (by omega) ⟨⟨by omega, by omega, by decide, by decide⟩, ⟨by omega, by omega⟩, fun c2 => ?_, fun c2 => ?_⟩, fun c => ?_⟩
    · refine ⟨2 ^ L - (k + 1), by omega, k + 1, by omega, by omega, rfl, ?_, ?_⟩
      · have e2 : pcn k % 2 = 1 := by omega
        rw [hasP_succ, e2]; simp [c, b01]
      · have e2 : pcn k % 2 = 1 := by omega
        rw [hasP_succ, e2]; simp
    · refine ⟨2 ^ L - (k + 1), by omega, k + 1, by omega, by omega, rfl, ?_, ?_⟩
      · have e2 : pcn k % 2 = 0 := by omega
        rw [hasP_succ, e2]; simp
      · have e2 : pcn k % 2 = 0 := by omega
        rw [hasP_succ, e2]; simp [c, b01]
    · refine ⟨2 ^ L - (k + 1), by omega, k + 1, by omega, by omega, rfl, ?_, ?_⟩
      · rw [hasP_succ]; simp [c]
      · rw [hasP_succ]; simp [c]
theorem q_modulo {a p : Int} {P : Int → Prop} (ha : rL a) (hp : 0 < p ∧ p < 2147483648) (h : P (a % p)) : w_modulo a p P := by
  have e := tmod_fix (a := a) hp.1
  have b1 : -p < a.tmod p := Int.lt_tmod_of_pos a hp.1
  have b2 : a.tmod p < p := Int.tmod_lt_of_pos a hp.1
  unfold w_modulo
  refine ⟨⟨by omega, by omega⟩, ⟨ha, hp⟩, ⟨by omega, by omega⟩, fun c => ?_, fun c => ?_⟩
  · by_cases n : a < 0
    · by_cases z : a.tmod p = 0
      · rw [if_pos n, if_pos z] at e
        rw [e]; exact h
      · rw [if_pos n, if_neg z] at e
        have := Int.emod_lt_of_pos a hp.1
        omega
    · rw [if_neg n] at e
      rw [e]; exact h
  · by_cases n : a < 0
    · rw [if_pos n, if_neg (by omega)] at e
      rw [e]; exact h
    · have h0 : 0 ≤ a.tmod p := Int.tmod_nonneg p (by omega)
      omega
theorem mul_97 {x y : Int} (hx : 0 ≤ x ∧ x < 97) (hy : 0 ≤ y ∧ y < 97) : 0 ≤ x * y ∧ x * y ≤ 9216 :=
  ⟨Int.mul_nonneg hx.1 hy.1, by
    have h1 : x * y ≤ 96 * y := Int.mul_le_mul_of_nonneg_right (by omega) hy.1
    omega⟩
def r_ruleN (f : Nat → Int) (odd : Int) : Int := if odd = 0 then f 0 * f 15 - f 3 * f 12 + f 5 * f 10 - f 6 * f 9 else f 1 * f 14 - f 2 * f 13 + f 4 * f 11 - f 8 * f 7
theorem s_mod {ad : Nat → Nat} {μ : HM} {a : Nat} {x p : Int} {fi : Nat → Int} {fq : Nat → Option Nat} {P : Int → Prop} (h : μ a = some (hO 2 fi fq)) (h0 : fi 0 = p) (hx : rL x) (hp : 0 < p ∧ p < 2147483648) (k : P (x % p)) : wc_X2_mod ad μ a x P := by
  refine ⟨_, gI_of h 0, ?_⟩
  rw [h0]
  exact ⟨⟨by omega, by omega⟩, s_floorMod hx hp k⟩
theorem rule_b {f : Nat → Int} {odd : Int} (hf : ∀ j : Nat, j < 16 → 0 ≤ f j ∧ f j < 97) : -40000 ≤ r_ruleN f odd ∧ r_ruleN f odd ≤ 40000 := by
  unfold r_ruleN
  split
  · have a := mul_97 (hf 0 (by decide)) (hf 15 (by decide))
    have b := mul_97 (hf 3 (by decide)) (hf 12 (by decide))
    have c := mul_97 (hf 5 (by decide)) (hf 10 (by decide))
    have d := mul_97 (hf 6 (by decide)) (hf 9 (by decide))
    omega
  · have a := mul_97 (hf 1 (by decide)) (hf 14 (by decide))
    have b := mul_97 (hf 2 (by decide)) (hf 13 (by decide))
    have c := mul_97 (hf 4 (by decide)) (hf 11 (by decide))
    have d := mul_97 (hf 8 (by decide)) (hf 7 (by decide))
    omega
theorem q_ruleHere {σ : TS} {N : KN} {f : Nat → Int} {odd : Int} {P : Int → Prop} (hN : TN σ N) (hok : KNok N) (hl : LK σ 4 f) (ho : odd = 0 ∨ odd = 1) (h : P (r_ruleN f odd % kp N)) : w_ruleHere σ odd P := by
  obtain ⟨-, -, h3⟩ := hl
  have hf : ∀ j : Nat, j < 16 → 0 ≤ f j ∧ f j < 97 := fun j hj => (h3 j hj).2
  have hb := rule_b (f := f) (odd := odd) hf
  have hp := hok.1
  have e : ∀ j : Nat, j < 16 → tA σ 35 j = f j := fun j hj => (h3 j hj).1
  unfold w_ruleHere
  refine ⟨r_z ho, fun s => s = r_ruleN f odd, ?_, fun c => ?_, fun c => ?_⟩
  · rintro s rfl
    refine ⟨⟨by omega, by omega⟩, ?_⟩
    show w_modulo _ (tA σ 13 0) _
    rw [hN.1]
    exact q_modulo ⟨by omega, by omega⟩ ⟨by omega, by omega⟩ h
  · unfold r_ruleN
    rw [if_pos c, ← e 0 (by decide), ← e 15 (by decide), ← e 3 (by decide), ← e 12 (by decide), ← e 5 (by decide), ← e 10 (by decide), ← e 6 (by decide), ← e 9 (by decide)]
    rfl
  · unfold r_ruleN
    rw [if_neg c, ← e 1 (by decide), ← e 14 (by decide), ← e 2 (by decide), ← e 13 (by decide), ← e 4 (by decide), ← e 11 (by decide), ← e 8 (by decide), ← e 7 (by decide)]
    rfl
theorem s_rule {ad : Nat → Nat} {F μ : HM} {b c n0 : Nat} {N : KN} {f : Nat → Int} {g : Int → Int} {odd : Int} {P : Int → Prop} (h : HN ad F μ b N) (hc : μ c = some (hA 0 n0 g)) (hn0 : 16 ≤ n0 ∧ n0 < 2147483648) (hg : ∀ j : Nat, j < 16 → g j = f j ∧ 0 ≤ f j ∧ f j < 97) (ho : odd = 0 ∨ odd = 1) (k : P (r_ruleN f odd % kp N)) : wc_X1_rule ad μ b (some c) odd P := by
  obtain ⟨hs, hok, fi, fq, a, tE, bE, nE, h1, h2, fi2, fq2, tS, bS, nS, h3, h4, -⟩ := h
  have hf : ∀ j : Nat, j < 16 → 0 ≤ f j ∧ f j < 97 := fun j hj => (hg j hj).2
  have hb := rule_b (f := f) (odd := odd) hf
  have hp := hok.1
  have e : ∀ j : Nat, j < 16 → gA μ c 0 j = some (f j) := fun j hj => by rw [gA_of hc (by omega) hn0.2, (hg j hj).1]
  have fin : ∀ x, x = r_ruleN f odd → rI x ∧ ∃ a2 : Nat, fq 2 = some a2 ∧ gC μ a2 = some 2 ∧ wc_X2_mod ad μ a2 x P := by
    rintro x rfl
    exact ⟨⟨by omega, by omega⟩, a, h2, gC_of (hs _ _ h3), s_mod (hs _ _ h3) h4 ⟨by omega, by omega⟩ ⟨by omega, by omega⟩ k⟩
  refine ⟨r_z ho, fun c0 => ?_, fun c0 => ?_⟩
  · refine ⟨_, gQ_of h1 2, c, rfl, _, e 0 (by decide), _, e 15 (by decide), _, e 3 (by decide), _, e 12 (by decide), _, e 5 (by decide), _, e 10 (by decide), _, e 6 (by decide), _, e 9 (by decide), fin _ ?_⟩
    unfold r_ruleN; rw [if_pos c0]
  · refine ⟨_, gQ_of h1 2, c, rfl, _, e 1 (by decide), _, e 14 (by decide), _, e 2 (by decide), _, e 13 (by decide), _, e 4 (by decide), _, e 11 (by decide), _, e 8 (by decide), _, e 7 (by decide), fin _ ?_⟩
    unfold r_ruleN; rw [if_neg c0]
