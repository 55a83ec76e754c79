/-! PURE: tables, bases, nodes, as they are asked of the component -/
set_option maxRecDepth 100000
/-- the object of the class, its net (frozen in F) -/
def HN (ad : Nat → Nat) (F μ : HM) (b : Nat) (N : KN) : Prop := hle F μ ∧ KNok N ∧ ∃ fi fq a tE bE nE, μ b = some (hO 1 fi fq) ∧ fq 2 = some a ∧ NR ad F a N tE bE nE
section PASK
variable {ad : Nat → Nat} {F μ : HM} {b : Nat} {N : KN}
theorem HN.gC (h : HN ad F μ b N) : gC μ b = some 1 := by
  obtain ⟨-, -, fi, fq, a, tE, bE, nE, h1, -⟩ := h
  exact gC_of h1
theorem TR.gC {a : Nat} {t : KT} (hs : hle F μ) (h : TR F a t) : gC μ a = some 7 := by
  obtain ⟨fi, fq, c, h1, -⟩ := h
  exact gC_of (hs _ _ h1)
theorem s_isTable {t : Int} {P : Int → Prop} (h : HN ad F μ b N) (ht : rI t) (k : P (if 0 ≤ t ∧ t < knT N then 1 else 0)) : wc_X1_isTable ad μ b t P := by
  obtain ⟨hs, -, fi, fq, a, tE, bE, nE, h1, h2, fi2, fq2, tS, bS, nS, h3, -, h4, -, -, h5, -⟩ := h
  exact ⟨_, gQ_of h1 2, a, h2, _, gQ_of (hs _ _ h3) 1, by rw [h4]; exact s_isPlace hs h5 ht ⟨by split <;> simp, k⟩⟩
theorem s_isBase {t : Int} {P : Int → Prop} (h : HN ad F μ b N) (ht : rI t) (k : P (if 0 ≤ t ∧ t < knB N then 1 else 0)) : wc_X1_isBase ad μ b t P := by
  obtain ⟨hs, -, fi, fq, a, tE, bE, nE, h1, h2, fi2, fq2, tS, bS, nS, h3, -, -, h4, -, -, h5, -⟩ := h
  exact ⟨_, gQ_of h1 2, a, h2, _, gQ_of (hs _ _ h3) 2, by rw [h4]; exact s_isPlace hs h5 ht ⟨by split <;> simp, k⟩⟩
theorem s_isNode {t : Int} {P : Int → Prop} (h : HN ad F μ b N) (ht : rI t) (k : P (if 0 ≤ t ∧ t < knN N then 1 else 0)) : wc_X1_isNode ad μ b t P := by
  obtain ⟨hs, -, fi, fq, a, tE, bE, nE, h1, h2, fi2, fq2, tS, bS, nS, h3, -, -, -, h4, -, -, h5, -⟩ := h
  exact ⟨_, gQ_of h1 2, a, h2, _, gQ_of (hs _ _ h3) 3, by rw [h4]; exact s_isPlace hs h5 ht ⟨by split <;> simp, k⟩⟩
theorem s_at {t : Int} {P : Option Nat → Prop} (h : HN ad F μ b N) (ht : 0 ≤ t ∧ t < knT N) (k : ∀ x, TR F x (kT N t.toNat) → P (some x)) : wc_X1_at ad μ b t P := by
  obtain ⟨hs, -, fi, fq, a, tE, bE, nE, h1, h2, fi2, fq2, tS, bS, nS, h3, -, h4, -, -, h5, -, -, h6, -⟩ := h
  have hT := h6 t.toNat (by omega)
  have hg := hT.gC hs
  refine ⟨_, gQ_of h1 2, a, h2, _, gQ_of (hs _ _ h3) 1, tS, h4, h5.gC hs, s_sget hs h5 ht ⟨7, hg, Or.inl rfl⟩ ⟨fun z hz => ?_, k _ hT⟩⟩
  cases hz
  exact ⟨7, hg, rfl⟩
theorem s_legs {n : Int} {P : Int → Prop} (h : HN ad F μ b N) (hn : 0 ≤ n ∧ n < knN N) (k : P (klegs N n.toNat)) : wc_X1_legs ad μ b n P := by
  obtain ⟨hs, hok, fi, fq, a, tE, bE, nE, h1, h2, fi2, fq2, tS, bS, nS, h3, -, -, -, h4, -, -, h5, h6, -, h7⟩ := h
  obtain ⟨f9, q9, e1, e2⟩ := h7 n.toNat (by omega)
  have hg := gC_of (hs _ _ e1)
  obtain ⟨f7, q7, c7, g1, g2, -⟩ := h6 _ (hok.2.2.2.2.2.2 n.toNat (by omega))
  refine ⟨_, gQ_of h1 2, a, h2, _, gQ_of (hs _ _ h3) 3, nS, h4, h5.gC hs, s_sget hs h5 hn ⟨9, hg, Or.inr (Or.inr rfl)⟩ ⟨fun z hz => ?_, ?_⟩⟩
  · cases hz; exact ⟨9, hg, rfl⟩
  · refine ⟨_, rfl, _, gQ_of (hs _ _ e1) 2, _, e2, _, gI_of (hs _ _ g1) 2, ?_⟩
    rw [g2]; exact k
/-- the values of a table -/
theorem TR.vals {a : Nat} {t : KT} (hs : hle F μ) (h : TR F a t) (hl : t.1 ≤ 4) : ∃ c, gQ μ a 7 3 = some (some c) ∧ gI μ a 7 2 = some (t.1 : Int) ∧ gL μ c = some (2 ^ t.1) ∧ ∀ i : Int, 0 ≤ i → i < ((2 ^ t.1 : Nat) : Int) → gA μ c 0 i = some (t.2 i.toNat) := by
  obtain ⟨fi, fq, c, h1, h2, h3, g, h4, h5⟩ := h
  have hp := pow_le4 hl
  refine ⟨c, by rw [← h3]; exact gQ_of (hs _ _ h1) 3, by rw [← h2]; exact gI_of (hs _ _ h1) 2, gL_A (hs _ _ h4) (by decide), fun i i0 i1 => ?_⟩
  rw [gA_of (hs _ _ h4) ⟨i0, i1⟩ (by omega)]
  have := h5 i.toNat (by omega)
  have e : ((i.toNat : Nat) : Int) = i := by omega
  rw [e] at this
  rw [this]
/-- op 2: table -/
def r_table (N : KN) (t i : Int) : Int := if 0 ≤ t ∧ t < knT N then (if i = -1 then ((kT N t.toNat).1 : Int) else if 0 ≤ i ∧ i < ((2 ^ (kT N t.toNat).1 : Nat) : Int) then (kT N t.toNat).2 i.toNat else -2) else -2
theorem s_table {t i : Int} {P : Int → Prop} (h : HN ad F μ b N) (ht : rI t) (hi : rI i) (k : P (r_table N t i)) : wc_X1_table ad μ b t i P := by
  have hs := h.1
  have hok := h.2.1
  unfold r_table at k
  refine ⟨h.gC, s_isTable h ht ?_⟩
  by_cases hc : 0 ≤ t ∧ t < knT N
  · rw [if_pos hc] at k
    rw [if_pos hc]
    refine ⟨fun _ => ⟨h.gC, s_at h hc (fun x hx => ⟨hi, fun c => ?_, fun c => ?_⟩)⟩, fun c => by omega⟩
    · have hl := (hok.2.2.2.2.1 t.toNat (by omega)).2.1
      have hp := pow_le4 hl
      have h0 := Int.natCast_nonneg (2 ^ (kT N t.toNat).1)
      obtain ⟨c1, e1, e2, e3, e4⟩ := hx.vals hs hl
      rw [if_neg c] at k
      refine ⟨hi, x, rfl, _, e1, _, rfl, _, e3, ⟨by omega, by omega⟩, s_within (rI_L hi) (by decide) ⟨by omega, by omega⟩ ?_⟩
      by_cases hc2 : 0 ≤ i ∧ i < ((2 ^ (kT N t.toNat).1 : Nat) : Int)
      · rw [if_pos hc2] at k
        rw [if_pos (by omega)]
        exact ⟨fun c => by omega, fun _ => ⟨_, e1, _, rfl, _, e4 i hc2.1 hc2.2, k⟩⟩
      · rw [if_neg hc2] at k
        rw [if_neg (by omega)]
        exact ⟨fun _ => k, fun c => by omega⟩
    · have hl := (hok.2.2.2.2.1 t.toNat (by omega)).2.1
      obtain ⟨c1, e1, e2, e3, e4⟩ := hx.vals hs hl
      rw [if_pos c] at k
      exact ⟨x, rfl, _, e2, k⟩
  · rw [if_neg hc] at k
    rw [if_neg hc]
    exact ⟨fun c => by omega, fun _ => k⟩
end PASK
theorem q_table {σ : TS} {N : KN} {t i : Int} {P : Int → TS → Prop} (hN : TN σ N) (hok : KNok N) (ht : rI t) (hi : rI i) (k : P (r_table N t i) (sF σ 0 0)) : w_table σ t i P := by
  have hN0 : TN (sF σ 0 0) N := hN
  unfold r_table at k
  refine q_isTable hN0 hok ht ?_
  obtain ⟨-, -, -, -, h5, -⟩ := hN
  by_cases hc : 0 ≤ t ∧ t < knT N
  · rw [if_pos hc] at k
    rw [if_pos hc]
    have k2 := hok.2.1
    have hl := (hok.2.2.2.2.1 t.toNat (by omega)).2.1
    have hp := pow_le4 hl
    have h0 := Int.natCast_nonneg (2 ^ (kT N t.toNat).1)
    obtain ⟨e1, e2⟩ := h5 t.toNat (by omega)
    have et : ((t.toNat : Nat) : Int) = t := by omega
    rw [et] at e1 e2
    refine ⟨fun _ => ⟨hi, fun c => ⟨hi, ⟨by omega, by omega⟩, ?_⟩, fun c => ⟨⟨by omega, by omega⟩, ?_⟩⟩, fun c => by omega⟩
    · rw [e1, bL_1 hl]
      rw [if_neg c] at k
      refine ⟨⟨by omega, by omega⟩, q_within (rI_L hi) (by decide) ⟨by omega, by omega⟩ ?_⟩
      by_cases hc2 : 0 ≤ i ∧ i < ((2 ^ (kT N t.toNat).1 : Nat) : Int)
      · rw [if_pos hc2] at k
        rw [if_pos (by omega)]
        refine ⟨fun c => by omega, fun _ => ⟨⟨by omega, by omega⟩, ?_⟩⟩
        have := e2 i.toNat (by omega)
        have ei : ((i.toNat : Nat) : Int) = i := by omega
        rw [ei] at this
        rw [this]; exact k
      · rw [if_neg hc2] at k
        rw [if_neg (by omega)]
        exact ⟨fun _ => k, fun c => by omega⟩
    · rw [if_pos c] at k
      rw [e1]; exact k
  · rw [if_neg hc] at k
    rw [if_neg hc]
    exact ⟨fun c => by omega, fun _ => k⟩
