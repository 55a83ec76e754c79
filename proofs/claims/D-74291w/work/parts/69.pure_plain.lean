/-! PURE: ops made (twin), plain -/
set_option maxRecDepth 100000
theorem q_made {σ : TS} {N : KN} {t : Int} {P : Int → TS → Prop} (hN : TN σ N) (hok : KNok N) (ht : rI t) (k : ∀ g, P (r_madeO N t) (setA (sF (sF σ 0 0) 36 (kl N t)) 35 g)) (k2 : P (r_madeO N t) (sF σ 0 0)) : w_made σ t P := by
  have hN0 : TN (sF σ 0 0) N := hN
  unfold r_madeO at k k2
  refine q_isTable hN0 hok ht ?_
  by_cases hc : 0 ≤ t ∧ t < knT N
  · rw [if_pos hc] at k
    rw [if_pos hc]
    refine ⟨fun _ => q_look hN0 hok hc (fun g hl => q_isMadeHere (N := N) hN hok hl ?_), fun c => by omega⟩
    have hk := k g
    have h01 : r_made (kp N) (kv N t) (2 ^ kl N t) = 0 ∨ r_made (kp N) (kv N t) (2 ^ kl N t) = 1 := by
      unfold r_made; split; exact Or.inl rfl; split; exact Or.inr rfl; split; exact Or.inr rfl; exact Or.inl rfl
    rcases h01 with e | e
    · rw [e] at hk
      exact ⟨fun _ => hk, fun c => absurd e c⟩
    · rw [e] at hk
      exact ⟨fun c => by have := e.symm.trans c; omega, fun _ => hk⟩
  · rw [if_neg hc] at k2
    rw [if_neg hc]
    exact ⟨fun c => by omega, fun _ => k2⟩
def plainF (f : Nat → Int) (m : Nat) : Prop := ∀ j : Nat, j < m → f j = f (2 ^ pcn j - 1)
theorem plainF_dec (f : Nat → Int) (m : Nat) : plainF f m ∨ ¬ plainF f m := Classical.em _
noncomputable def r_plain (N : KN) (t : Int) : Int := if 0 ≤ t ∧ t < knT N then (if (List.range (2 ^ kl N t)).all (fun j => decide (kv N t j = kv N t (2 ^ pcn j - 1))) then 1 else 0) else -1
theorem all_no {m j : Nat} {q : Nat → Bool} (hj : j < m) (h : q j = false) : (List.range m).all q = false := by
  rw [List.all_eq_false]
  exact ⟨j, List.mem_range.mpr hj, by rw [h]; decide⟩
theorem all_yes {m : Nat} {q : Nat → Bool} (h : ∀ j, j < m → q j = true) : (List.range m).all q = true := by
  rw [List.all_eq_true]
  exact fun j hj => h j (List.mem_range.mp hj)
theorem pcn_lt : ∀ L : Nat, L ≤ 4 → ∀ j : Nat, j < 2 ^ L → 2 ^ pcn j - 1 < 2 ^ L ∧ 1 ≤ 2 ^ pcn j := by decide
theorem s_plain {ad : Nat → Nat} {F μ : HM} {b x : Nat} {N : KN} {t : Int} {P : Int → Prop} (h : HN ad F μ b N) (h1 : μ (ad 1) = some (hC 1 x)) (ht : rI t) (k : P (r_plain N t)) : wc_X1_plain ad μ b t P := by
  have hs := h.1
  unfold r_plain at k
  refine ⟨h.gC, s_isTable h ht ?_⟩
  by_cases hc : 0 ≤ t ∧ t < knT N
  · rw [if_pos hc] at k
    rw [if_pos hc]
    obtain ⟨l1, l2, l3, l4⟩ := h.2.1.tab hc
    refine ⟨fun _ => ⟨h.gC, s_at h hc (fun y hy => ?_)⟩, fun c => by omega⟩
    obtain ⟨c, g, e1, e2, e3, e4⟩ := TR.cellN hs hy
    refine ⟨y, rfl, _, e1, fun n v => ∃ j : Nat, v = j ∧ j ≤ 2 ^ kl N t ∧ n = 2 ^ kl N t - j ∧ ∀ i, i < j → kv N t i = kv N t (2 ^ pcn i - 1), ?_, 2 ^ kl N t, 0, rfl, Nat.zero_le _, rfl, fun i hi => by omega⟩
    rintro n v ⟨j, rfl, j1, rfl, j2⟩
    refine ⟨c, rfl, _, gL_A e3 (by decide), ⟨by omega, by omega⟩, ⟨by omega, by omega⟩, fun c1 => ?_, fun c1 => ?_⟩
    · have : j = 2 ^ kl N t := by omega
      subst this
      rw [if_pos (all_yes (fun i hi => decide_eq_true (j2 i hi)))] at k
      exact k
    · have hj : j < 2 ^ kl N t := by omega
      obtain ⟨p1, p2⟩ := pcn_lt _ l1 j hj
      have hp4 := pcn_2 j (by omega)
      have et : ((j : Int)).toNat = j := by omega
      refine ⟨_, gA_of e3 (by omega) (by omega), _, ones_at h1 ⟨by omega, by omega⟩, ?_⟩
      rw [et, bL_1 hp4]
      have ej : (((2 ^ pcn j : Nat) : Int) - 1) = ((2 ^ pcn j - 1 : Nat) : Int) := by omega
      rw [ej]
      refine ⟨_, gA_of e3 (by omega) (by omega), ?_⟩
      rw [e4 j hj, e4 _ p1]
      have b1 := l4 j hj
      have b2 := l4 _ p1
      refine ⟨⟨by omega, by omega⟩, ⟨by omega, by omega⟩, fun c2 => ⟨2 ^ kl N t - (j + 1), by omega, j + 1, by omega, by omega, rfl, fun i hi => ?_⟩, fun c2 => ?_⟩
      · by_cases e : i = j
        · subst e; exact c2
        · exact j2 i (by omega)
      · rw [if_neg (by rw [all_no hj (decide_eq_false c2)]; decide)] at k
        exact k
  · rw [if_neg hc] at k
    rw [if_neg hc]
    exact ⟨fun c => by omega, fun _ => k⟩
theorem q_plain {σ : TS} {N : KN} {t : Int} {P : Int → TS → Prop} (hN : TN σ N) (hok : KNok N) (ht : rI t) (k : ∀ g, P (r_plain N t) (setA (sF (sF σ 0 0) 36 (kl N t)) 35 g)) (k2 : P (r_plain N t) (sF σ 0 0)) : w_plain σ t P := by
  have hN0 : TN (sF σ 0 0) N := hN
  unfold r_plain at k k2
  refine q_isTable hN0 hok ht ?_
  by_cases hc : 0 ≤ t ∧ t < knT N
  · rw [if_pos hc] at k
    rw [if_pos hc]
    obtain ⟨l1, l2, l3, l4⟩ := hok.tab hc
    refine ⟨fun _ => q_look hN0 hok hc (fun g hl => ?_), fun c => by omega⟩
    have k := k g
    have e36 : tF (setA (sF (sF σ 0 0) 36 (kl N t)) 35 g) 36 = kl N t := rfl
    rw [e36, bL_1 l1]
    have e4 := hl.2.2
    refine ⟨fun n v => ∃ j : Nat, v = j ∧ j ≤ 2 ^ kl N t ∧ n = 2 ^ kl N t - j ∧ ∀ i, i < j → kv N t i = kv N t (2 ^ pcn i - 1), ?_, 2 ^ kl N t, 0, rfl, Nat.zero_le _, rfl, fun i hi => by omega⟩
    rintro n v ⟨j, rfl, j1, rfl, j2⟩
    refine ⟨⟨by omega, by omega⟩, fun c1 => ?_, fun c1 => ?_⟩
    · have : j = 2 ^ kl N t := by omega
      subst this
      rw [if_pos (all_yes (fun i hi => decide_eq_true (j2 i hi)))] at k
      exact k
    · have hj : j < 2 ^ kl N t := by omega
      obtain ⟨p1, p2⟩ := pcn_lt _ l1 j hj
      have hp4 := pcn_2 j (by omega)
      have b1 := l4 j hj
      have b2 := l4 _ p1
      refine ⟨⟨by omega, by omega⟩, q_bits (by omega) ?_⟩
      rw [bL_1 hp4]
      have ej : (((2 ^ pcn j : Nat) : Int) - 1) = ((2 ^ pcn j - 1 : Nat) : Int) := by omega
      rw [ej, (e4 j hj).1, (e4 _ p1).1]
      refine ⟨⟨by omega, by omega⟩, ⟨by omega, by omega⟩, ⟨by omega, by omega⟩, fun c2 => ⟨2 ^ kl N t - (j + 1), by omega, j + 1, by omega, by omega, rfl, fun i hi => ?_⟩, fun c2 => ?_⟩
      · by_cases e : i = j
        · subst e; exact c2
        · exact j2 i (by omega)
      · rw [if_neg (by rw [all_no hj (decide_eq_false c2)]; decide)] at k
        exact k
  · rw [if_neg hc] at k2
    rw [if_neg hc]
    exact ⟨fun c => by omega, fun _ => k2⟩
