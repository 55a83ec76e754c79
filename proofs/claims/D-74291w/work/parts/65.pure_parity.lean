/-! PURE: parities -/
set_option maxRecDepth 100000
def pcn (j : Nat) : Nat := [0, 1, 1, 2, 1, 2, 2, 3, 1, 2, 2, 3, 2, 3, 3, 4].getD j 0
theorem pcn_ones : ∀ j : Nat, j < 16 → (g_ones j).toInt = pcn j := by decide
theorem pcn_and : ∀ l : Nat, l < 16 → 0 < l → pcn (l &&& (l - 1)) + 1 = pcn l ∧ l &&& (l - 1) < l := by decide
def hasP (f : Nat → Int) (m q : Nat) : Bool := (List.range m).any fun j => decide (pcn j % 2 = q ∧ f j ≠ 0)
theorem hasP_succ (f : Nat → Int) (m q : Nat) : hasP f (m + 1) q = (hasP f m q || decide (pcn m % 2 = q ∧ f m ≠ 0)) := by
  unfold hasP
  rw [List.range_succ, List.any_append]
  simp
theorem hasP_0 (f : Nat → Int) (q : Nat) : hasP f 0 q = false := rfl
def b01 (b : Bool) : Int := if b then 1 else 0
def r_par (f : Nat → Int) (m : Nat) : Int := if hasP f m 0 then (if hasP f m 1 then 3 else 0) else if hasP f m 1 then 1 else 2
theorem hs_some {μ : HM} {q a : Nat} {c d : HC} (hq : μ q = none) (ha : μ a = some c) : hs μ q d a = some c := by
  rw [hs_n _ _ (by intro e; subst e; rw [hq] at ha; cases ha)]; exact ha
theorem ones_at {ad : Nat → Nat} {μ : HM} {x : Nat} (h : μ (ad 1) = some (hC 1 x)) {i : Int} (hi : 0 ≤ i ∧ i < 16) : gA μ (ad 1) 0 i = some ((pcn i.toNat : Nat) : Int) := by
  unfold gA
  rw [h]
  show (if 1 = 1 ∧ 0 = 0 ∧ 0 ≤ i ∧ i < 16 then some (g_ones i.toNat).toInt else _) = _
  rw [if_pos ⟨rfl, rfl, hi.1, hi.2⟩, pcn_ones _ (by omega)]
theorem pcn_2 : ∀ j : Nat, j < 16 → pcn j ≤ 4 := by decide
theorem q_bits {v : Nat} {P : Int → Prop} (hv : v < 16) (h : P (pcn v)) : w_bits v P := by
  unfold w_bits
  refine ⟨fun n c l => ∃ k : Nat, l = k ∧ k < 16 ∧ n = k ∧ c + pcn k = pcn v, ?_, v, v, rfl, hv, rfl, by omega⟩
  rintro n c l ⟨k, rfl, k1, rfl, k2⟩
  refine ⟨⟨by omega, by omega⟩, fun e => ?_, fun e => ?_⟩
  · have : n = 0 := by omega
    subst this
    have e2 : c = pcn v := by have : pcn 0 = 0 := rfl; omega
    rw [e2]; exact h
  · intro x hx
    obtain ⟨p1, p2⟩ := pcn_and n k1 (by omega)
    have e1 : (n : Int) - 1 = ((n - 1 : Nat) : Int) := by omega
    rw [e1, bA_nat (by omega) (by omega)] at hx
    exact ⟨n &&& (n - 1), p2, n &&& (n - 1), hx, by omega, rfl, by omega⟩
theorem bO_01 : ∀ x y : Bool, bO (b01 x) (b01 y) = b01 (x || y) := by decide
theorem b01_01 (b : Bool) : b01 b = 0 ∨ b01 b = 1 := by cases b <;> decide
theorem b01_0 {b : Bool} : b01 b = 0 ↔ b = false := by cases b <;> decide
/-- how the component tells it -/
theorem s_parityOf {ad : Nat → Nat} {μ : HM} {c x m : Nat} {mc ms : Nat} {f : Nat → Int} {P : Int → HM → Prop} (h1 : μ (ad 1) = some (hC 1 x)) (hm : m ≤ 16) {g0 : Int → Int} {n0 : Nat} (hc : μ c = some (hA 0 n0 g0)) (hn0 : m ≤ n0 ∧ n0 < 2147483648) (hf : ∀ j : Nat, j < m → g0 j = f j ∧ rI (f j)) (hmc : 1 ≤ mc) (hms : 2 ≤ ms) (h : ∀ (q : Nat) (g : Int → Int), μ q = none → P (r_par f m) (hs μ q (hA 3 2 g))) : wc_X1_parityOf ad mc ms μ (some c) m P := by
  unfold wc_X1_parityOf
  refine ⟨⟨by decide, by decide, by omega, by show 0 + 2 ≤ ms; omega⟩, fun q hq => ?_⟩
  refine ⟨fun n v μ2 => ∃ (k : Nat) (g : Int → Int), v = k ∧ k ≤ m ∧ n = m - k ∧ μ2 = hs μ q (hA 3 2 g) ∧ g 0 = b01 (hasP f k 0) ∧ g 1 = b01 (hasP f k 1), ?_, m, 0, fun _ => 0, rfl, Nat.zero_le _, rfl, rfl, rfl, rfl⟩
  rintro n v μ2 ⟨k, g, rfl, k1, rfl, rfl, g1, g2⟩
  have hqq : hs μ q (hA 3 2 g) q = some (hA 3 2 g) := hs_s _ _ _
  refine ⟨⟨by omega, by omega⟩, ⟨by omega, by omega⟩, fun e => ?_, fun e => ?_⟩
  · have : k = m := by omega
    subst this
    have hP := h q g hq
    unfold r_par at hP
    refine ⟨_, gA_of hqq (by decide) (by decide), ?_⟩
    rw [g1]
    refine ⟨r_z (b01_01 _), fun c1 => ?_, fun c1 => ?_⟩
    · rw [b01_0] at c1
      rw [c1] at hP
      refine ⟨_, gA_of hqq (by decide) (by decide), ?_⟩
      rw [g2]
      refine ⟨r_z (b01_01 _), fun c2 => ?_, fun c2 => ?_⟩
      · rw [b01_0] at c2; rw [c2] at hP; exact hP
      · rw [b01_0, Bool.not_eq_false] at c2; rw [c2] at hP; exact hP
    · rw [b01_0, Bool.not_eq_false] at c1
      rw [c1] at hP
      refine ⟨_, gA_of hqq (by decide) (by decide), ?_⟩
      rw [g2]
      refine ⟨r_z (b01_01 _), fun c2 => ?_, fun c2 => ?_⟩
      · rw [b01_0] at c2; rw [c2] at hP; exact hP
      · rw [b01_0, Bool.not_eq_false] at c2; rw [c2] at hP; exact hP
  · have hk : k < m := by omega
    obtain ⟨f1, f2⟩ := hf k hk
    have hp4 := pcn_2 k (by omega)
    have et : ((k : Int)).toNat = k := by omega
    have hp5 : pcn ((k : Int)).toNat ≤ 4 := by rw [et]; exact hp4
    refine ⟨_, ones_at (hs_some hq h1) ⟨by omega, by omega⟩, ⟨by omega, by omega, by decide, by decide⟩, ?_⟩
    rw [et]
    refine ⟨_, gA_of hqq (by omega) (by decide), c, rfl, _, gA_of (hs_some hq hc) (by omega) hn0.2, ?_⟩
    rw [f1]
    have key : ∀ b : Bool, b = decide (f k ≠ 0) → ∃ (n_17 : Nat) (f_18 : Int → Int), hs μ q (hA 3 2 g) q = some (hA 3 n_17 f_18) ∧ ((0 : Int) ≤ ((pcn k : Nat) : Int) % 2 ∧ ((pcn k : Nat) : Int) % 2 < (n_17 : Int) ∧ (n_17 : Int) < 2147483648) ∧ (bO (g (((pcn k : Nat) : Int) % 2)) (b01 b) = 0 ∨ bO (g (((pcn k : Nat) : Int) % 2)) (b01 b) = 1) ∧
        ∃ z : Nat, z < m - k ∧ ∃ (k' : Nat) (g' : Int → Int), (k : Int) + 1 = k' ∧ k' ≤ m ∧ z = m - k' ∧ hs (hs μ q (hA 3 2 g)) q (hA 3 n_17 (updI f_18 (((pcn k : Nat) : Int) % 2) (bO (g (((pcn k : Nat) : Int) % 2)) (b01 b)))) = hs μ q (hA 3 2 g') ∧ g' 0 = b01 (hasP f k' 0) ∧ g' 1 = b01 (hasP f k' 1) := by
      intro b hb
      refine ⟨2, g, hqq, by omega, ?_, m - (k + 1), by omega, k + 1, updI g (((pcn k : Nat) : Int) % 2) (bO (g (((pcn k : Nat) : Int) % 2)) (b01 b)), by omega, by omega, rfl, ?_, ?_⟩
      · rcases Nat.mod_two_eq_zero_or_one (pcn k) with e2 | e2
        · have e3 : ((pcn k : Nat) : Int) % 2 = 0 := by omega
          rw [e3, g1, bO_01]; exact b01_01 _
        · have e3 : ((pcn k : Nat) : Int) % 2 = 1 := by omega
          rw [e3, g2, bO_01]; exact b01_01 _
      · funext y; unfold hs; split <;> rfl
      · rcases Nat.mod_two_eq_zero_or_one (pcn k) with e2 | e2
        · have e3 : ((pcn k : Nat) : Int) % 2 = 0 := by omega
          rw [e3]
          rw [updI_s, updI_n _ _ _ (by decide), g1, g2, bO_01, hasP_succ, hasP_succ, e2, hb]
          simp
        · have e3 : ((pcn k : Nat) : Int) % 2 = 1 := by omega
          rw [e3]
          rw [updI_s, updI_n _ _ _ (by decide), g1, g2, bO_01, hasP_succ, hasP_succ, e2, hb]
          simp
    refine ⟨f2, fun s => s = b01 (decide (f k ≠ 0)), ?_, fun c1 => ?_, fun c1 => ?_⟩
    · rintro s rfl
      exact key _ rfl
    · simp [c1, b01]
    · simp [c1, b01]
