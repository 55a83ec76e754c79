/-! PURE: ops parity, identity, made, on both sides -/
set_option maxRecDepth 100000
abbrev kv (N : KN) (t : Int) : Nat → Int := (kT N t.toNat).2
abbrev kl (N : KN) (t : Int) : Nat := (kT N t.toNat).1
def r_parity (N : KN) (t : Int) : Int := if 0 ≤ t ∧ t < knT N then r_par (kv N t) (2 ^ kl N t) else -1
def r_madeO (N : KN) (t : Int) : Int := if 0 ≤ t ∧ t < knT N then r_made (kp N) (kv N t) (2 ^ kl N t) else -1
def r_identity (N : KN) (t odd : Int) : Int := if 0 ≤ t ∧ t < knT N then (if kl N t < 4 then -2 else r_ruleN (kv N t) odd % kp N) else -1
/-- a table's cell, with all that is asked of it -/
theorem TR.cell {F μ : HM} {a : Nat} {t : KT} (hs : hle F μ) (h : TR F a t) : ∃ c g, gQ μ a 7 3 = some (some c) ∧ gI μ a 7 2 = some (t.1 : Int) ∧ μ c = some (hA 0 (2 ^ t.1) g) ∧ ∀ j : Nat, j < 2 ^ t.1 → g j = t.2 j := by
  obtain ⟨fi, fq, c, h1, h2, h3, g, h4, h5⟩ := h
  exact ⟨c, g, by rw [← h3]; exact gQ_of (hs _ _ h1) 3, by rw [← h2]; exact gI_of (hs _ _ h1) 2, hs _ _ h4, h5⟩
theorem TR.cellN {F μ : HM} {a : Nat} {N : KN} {t : Int} (hs : hle F μ) (h : TR F a (kT N t.toNat)) : ∃ c g, gQ μ a 7 3 = some (some c) ∧ gI μ a 7 2 = some (kl N t : Int) ∧ μ c = some (hA 0 (2 ^ kl N t) g) ∧ ∀ j : Nat, j < 2 ^ kl N t → g j = kv N t j := h.cell hs
theorem KNok.tab {N : KN} (h : KNok N) {t : Int} (ht : 0 ≤ t ∧ t < knT N) : kl N t ≤ 4 ∧ 1 ≤ kl N t ∧ 2 ^ kl N t ≤ 16 ∧ ∀ j : Nat, j < 2 ^ kl N t → 0 ≤ kv N t j ∧ kv N t j < 97 := by
  obtain ⟨a, b, c⟩ := h.2.2.2.2.1 t.toNat (by omega)
  have hp := h.1
  exact ⟨b, a, pow_le4 b, fun j hj => by
    have h1 : 0 ≤ kv N t j := (c j hj).1
    have h2 : kv N t j < kp N := (c j hj).2
    omega⟩
section POPS
variable {ad : Nat → Nat} {F μ : HM} {b x mc ms : Nat} {N : KN} {t : Int} {P : Int → HM → Prop}
theorem s_parity (h : HN ad F μ b N) (h1 : μ (ad 1) = some (hC 1 x)) (ht : rI t) (hmc : 1 ≤ mc) (hms : 2 ≤ ms) (k : ∀ μ2, hle μ μ2 → P (r_parity N t) μ2) : wc_X1_parity ad mc ms μ b t P := by
  have hs := h.1
  unfold r_parity at k
  refine ⟨h.gC, s_isTable h ht ?_⟩
  by_cases hc : 0 ≤ t ∧ t < knT N
  · rw [if_pos hc] at k
    rw [if_pos hc]
    obtain ⟨l1, l2, l3, l4⟩ := h.2.1.tab hc
    refine ⟨fun c => by omega, fun _ => ⟨h.gC, s_at h hc (fun y hy => ?_)⟩⟩
    obtain ⟨c, g, e1, e2, e3, e4⟩ := TR.cellN hs hy
    refine ⟨y, rfl, _, e1, h.gC, s_at h hc (fun z hz => ?_)⟩
    obtain ⟨c', g', d1, d2, d3, d4⟩ := TR.cellN hs hz
    refine ⟨z, rfl, _, d1, c', rfl, _, gL_A d3 (by decide), 1, 2, ⟨by omega, by omega⟩, s_parityOf h1 l3 e3 ⟨Nat.le_refl _, by omega⟩ (fun j hj => ⟨e4 j hj, by have := l4 j hj; exact ⟨by omega, by omega⟩⟩) (Nat.le_refl _) (Nat.le_refl _) (fun q g2 hq => k _ (hle_new hq _))⟩
  · rw [if_neg hc] at k
    rw [if_neg hc]
    exact ⟨fun _ => k _ (hle.refl _), fun c => by omega⟩
theorem s_made (h : HN ad F μ b N) (h1 : μ (ad 1) = some (hC 1 x)) (ht : rI t) (hmc : 1 ≤ mc) (hms : 2 ≤ ms) (k : ∀ μ2, hle μ μ2 → P (r_madeO N t) μ2) : wc_X1_made ad mc ms μ b t P := by
  have hs := h.1
  unfold r_madeO at k
  refine ⟨h.gC, s_isTable h ht ?_⟩
  by_cases hc : 0 ≤ t ∧ t < knT N
  · rw [if_pos hc] at k
    rw [if_pos hc]
    obtain ⟨l1, l2, l3, l4⟩ := h.2.1.tab hc
    refine ⟨fun c => by omega, fun _ => ⟨h.gC, s_at h hc (fun y hy => ?_)⟩⟩
    obtain ⟨c, g, e1, e2, e3, e4⟩ := TR.cellN hs hy
    refine ⟨y, rfl, _, e1, h.gC, s_at h hc (fun z hz => ?_)⟩
    obtain ⟨c', g', d1, d2, d3, d4⟩ := TR.cellN hs hz
    refine ⟨z, rfl, _, d1, c', rfl, _, gL_A d3 (by decide), h.gC, 1, 2, ⟨by omega, by omega⟩, s_isMade h h1 e3 l3 ⟨Nat.le_refl _, by omega⟩ (fun j hj => ⟨e4 j hj, l4 j hj⟩) (Nat.le_refl _) (Nat.le_refl _) (fun μ2 hl _ => ?_)⟩
    have hk := k _ hl
    have h01 : r_made (kp N) (kv N t) (2 ^ kl N t) = 0 ∨ r_made (kp N) (kv N t) (2 ^ kl N t) = 1 := by
      unfold r_made; split; exact Or.inl rfl; split; exact Or.inr rfl; split; exact Or.inr rfl; exact Or.inl rfl
    rcases h01 with e | e
    · rw [e] at hk
      exact ⟨fun _ => hk, fun c => absurd e c⟩
    · rw [e] at hk
      exact ⟨fun c => by have := e.symm.trans c; omega, fun _ => hk⟩
  · rw [if_neg hc] at k
    rw [if_neg hc]
    exact ⟨fun _ => k _ (hle.refl _), fun c => by omega⟩
theorem s_identity {odd : Int} {P : Int → Prop} (h : HN ad F μ b N) (ht : rI t) (ho : odd = 0 ∨ odd = 1) (k : P (r_identity N t odd)) : wc_X1_identity ad μ b t odd P := by
  have hs := h.1
  unfold r_identity at k
  refine ⟨h.gC, s_isTable h ht ?_⟩
  by_cases hc : 0 ≤ t ∧ t < knT N
  · rw [if_pos hc] at k
    rw [if_pos hc]
    obtain ⟨l1, l2, l3, l4⟩ := h.2.1.tab hc
    refine ⟨fun _ => ⟨h.gC, s_at h hc (fun y hy => ?_)⟩, fun c => by omega⟩
    obtain ⟨c, g, e1, e2, e3, e4⟩ := TR.cellN hs hy
    refine ⟨y, rfl, _, e2, ⟨by omega, by omega⟩, fun c1 => ⟨h.gC, s_at h hc (fun z hz => ?_)⟩, fun c1 => ?_⟩
    · rw [if_neg (by omega)] at k
      obtain ⟨c', g', d1, d2, d3, d4⟩ := TR.cellN hs hz
      have h16 : 2 ^ kl N t = 16 := by
        have : kl N t = 4 := by omega
        rw [this]
      refine ⟨z, rfl, _, d1, h.gC, s_rule h d3 ⟨by omega, by omega⟩ (fun j hj => ⟨d4 j (by omega), l4 j (by omega)⟩) ho k⟩
    · rw [if_pos (by omega)] at k; exact k
  · rw [if_neg hc] at k
    rw [if_neg hc]
    exact ⟨fun c => by omega, fun _ => k⟩
end POPS
section QOPS
variable {σ : TS} {N : KN} {t : Int} {P : Int → TS → Prop}
/-- the table that is looked at -/
theorem LK.of {g : Int → Int} (hok : KNok N) (ht : 0 ≤ t ∧ t < knT N) (hg : ∀ j : Nat, j < 2 ^ kl N t → g j = kv N t j) : LK (setA (sF σ 36 (kl N t)) 35 g) (kl N t) (kv N t) := by
  obtain ⟨l1, l2, l3, l4⟩ := hok.tab ht
  exact ⟨rfl, l1, fun j hj => ⟨hg j hj, l4 j hj⟩⟩
theorem q_look {σ : TS} {P : TS → Prop} (hN : TN σ N) (hok : KNok N) (ht : 0 ≤ t ∧ t < knT N) (h : ∀ g : Int → Int, LK (setA (sF σ 36 (kl N t)) 35 g) (kl N t) (kv N t) → P (setA (sF σ 36 (kl N t)) 35 g)) : w_laysTable σ t P := by
  have e : ((t.toNat : Nat) : Int) = t := by omega
  rw [← e]
  exact q_laysTable hN hok (by omega) (fun g hg => h g (LK.of hok ht hg))
theorem q_parity (hN : TN σ N) (hok : KNok N) (ht : rI t) (k : ∀ g, P (r_parity N t) (setA (sF (sF σ 0 0) 36 (kl N t)) 35 g)) (k2 : P (r_parity N t) (sF σ 0 0)) : w_parity σ t P := by
  have hN0 : TN (sF σ 0 0) N := hN
  unfold r_parity at k k2
  refine q_isTable hN0 hok ht ?_
  by_cases hc : 0 ≤ t ∧ t < knT N
  · rw [if_pos hc] at k
    rw [if_pos hc]
    exact ⟨fun _ => q_look hN0 hok hc (fun g hl => q_parityHere hl (k g)), fun c => by omega⟩
  · rw [if_neg hc] at k2
    rw [if_neg hc]
    exact ⟨fun c => by omega, fun _ => k2⟩
theorem q_identity {odd : Int} (hN : TN σ N) (hok : KNok N) (ht : rI t) (ho : odd = 0 ∨ odd = 1) (k : ∀ g, P (r_identity N t odd) (setA (sF (sF σ 0 0) 36 (kl N t)) 35 g)) (k2 : P (r_identity N t odd) (sF σ 0 0)) : w_identity σ t odd P := by
  have hN0 : TN (sF σ 0 0) N := hN
  unfold r_identity at k k2
  refine q_isTable hN0 hok ht ?_
  by_cases hc : 0 ≤ t ∧ t < knT N
  · rw [if_pos hc] at k
    rw [if_pos hc]
    obtain ⟨l1, l2, l3, l4⟩ := hok.tab hc
    refine ⟨fun _ => q_look hN0 hok hc (fun g hl => ?_), fun c => by omega⟩
    have k := k g
    have e36 : tF (setA (sF (sF σ 0 0) 36 (kl N t)) 35 g) 36 = kl N t := rfl
    rw [e36]
    refine ⟨⟨by omega, by omega⟩, fun c1 => ?_, fun c1 => ?_⟩
    · rw [if_neg (by omega)] at k
      have h4 : kl N t = 4 := by omega
      rw [h4] at hl k ⊢
      exact q_ruleHere (N := N) hN hok hl ho k
    · rw [if_pos (by omega)] at k; exact k
  · rw [if_neg hc] at k2
    rw [if_neg hc]
    exact ⟨fun c => by omega, fun _ => k2⟩
end QOPS
