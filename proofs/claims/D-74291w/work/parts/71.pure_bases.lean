/-! PURE: op base -/
set_option maxRecDepth 100000
def okB (N : KN) (t w : Int) : Prop := (0 ≤ t ∧ t < knB N) ∧ 0 ≤ w ∧ w ≤ 4
abbrev kb (N : KN) (t : Int) : Nat → Int := kB N t.toNat
def r_det (N : KN) (t : Int) : Int := (kb N t 0 * kb N t 3 - kb N t 1 * kb N t 2) % kp N
def r_base (N : KN) (t w : Int) : Int := if w < 4 then kb N t w.toNat else r_det N t
theorem KNok.bas {N : KN} (h : KNok N) {t : Int} (ht : 0 ≤ t ∧ t < knB N) : ∀ j : Nat, j < 4 → 0 ≤ kb N t j ∧ kb N t j < 97 := fun j hj => by
  have a := h.2.2.2.2.2.1 t.toNat (by omega) j hj
  have hp := h.1
  have h1 : 0 ≤ kb N t j := a.1
  have h2 : kb N t j < kp N := a.2
  omega
theorem det_b {f : Nat → Int} (h : ∀ j : Nat, j < 4 → 0 ≤ f j ∧ f j < 97) : -10000 ≤ f 0 * f 3 - f 1 * f 2 ∧ f 0 * f 3 - f 1 * f 2 ≤ 10000 := by
  have a := mul_97 (h 0 (by decide)) (h 3 (by decide))
  have b := mul_97 (h 1 (by decide)) (h 2 (by decide))
  omega
theorem s_baseAt {ad : Nat → Nat} {F μ : HM} {b : Nat} {N : KN} {t : Int} (h : HN ad F μ b N) (ht : 0 ≤ t ∧ t < knB N) : ∃ a s y c, gQ μ b 1 2 = some (some a) ∧ gQ μ a 2 2 = some (some s) ∧ gC μ s = some 3 ∧ gC μ a = some 2 ∧ gQ μ y 8 2 = some (some c) ∧ (∀ j : Int, 0 ≤ j → j < 4 → gA μ c 0 j = some (kb N t j.toNat)) ∧ gC μ y = some 8 ∧ (∀ P : Option Nat → Prop, P (some y) → wc_X3_get ad μ s t P) ∧ ∀ (x : Int) (P : Int → Prop), rL x → P (x % kp N) → wc_X2_mod ad μ a x P := by
  obtain ⟨hs, hok, fi, fq, a, tE, bE, nE, h1, h2, fi2, fq2, tS, bS, nS, h3, h30, -, h4, -, -, h5, -, -, h6, -⟩ := h
  obtain ⟨f8, q8, c, g1, g2, g, g3, g4⟩ := h6 t.toNat (by omega)
  have hg := gC_of (hs _ _ g1)
  have hp := hok.1
  refine ⟨a, bS, bE t.toNat, c, by rw [← h2]; exact gQ_of h1 2, by rw [← h4]; exact gQ_of (hs _ _ h3) 2, h5.gC hs, gC_of (hs _ _ h3), by rw [← g2]; exact gQ_of (hs _ _ g1) 2, fun j j0 j1 => ?_, hg, fun P k => s_sget hs h5 ht ⟨8, hg, Or.inr (Or.inl rfl)⟩ k, fun x P hx k => s_mod (hs _ _ h3) h30 hx ⟨by omega, by omega⟩ k⟩
  rw [gA_of (hs _ _ g3) (by omega) (by decide)]
  have := g4 j.toNat (by omega)
  have e : ((j.toNat : Nat) : Int) = j := by omega
  rw [e] at this
  rw [this]
theorem s_base {ad : Nat → Nat} {F μ : HM} {b mc ms : Nat} {N : KN} {t w : Int} {P : Int → HM → Prop} {X : Nat → String → HM → Prop} (h : HN ad F μ b N) (ht : rI t) (hw : rI w) (hmc : 1 ≤ mc) (hms : 6 ≤ ms) (k : okB N t w → P (r_base N t w) μ) (kx : ¬ okB N t w → ∀ q, μ q = none → X q "java/util/NoSuchElementException" (hs μ q (hO 27 (fun _ => 0) (fun _ => none)))) : wc_X1_base ad mc ms μ b t w P X := by
  refine ⟨h.gC, s_isBase h ht ⟨¬ okB N t w, fun n => ⟨⟨by omega, by omega⟩, fun q hq => ⟨_, _, hs_s _ _ _, kx n q hq⟩⟩, ?_⟩⟩
  by_cases hc : 0 ≤ t ∧ t < knB N
  · rw [if_pos hc]
    refine ⟨fun c => by omega, fun _ => ⟨hw, s_within (rI_L hw) (by decide) (by decide) ?_⟩⟩
    by_cases hc2 : 0 ≤ w ∧ w ≤ 4
    · rw [if_pos hc2]
      have k := k ⟨hc, hc2⟩
      unfold r_base at k
      obtain ⟨a, s, y, c, e1, e2, e3, e4, e5, e6, e7, e8, e9⟩ := s_baseAt h hc
      have hb := det_b (h.2.1.bas hc)
      refine ⟨fun _ => ⟨_, e1, a, rfl, _, e2, s, rfl, e3, e8 _ ⟨fun z hz => ?_, y, rfl, _, e5, hw, fun c1 => ?_, fun c1 => ?_⟩⟩, fun c => by omega⟩
      · cases hz; exact ⟨8, e7, rfl⟩
      · rw [if_neg (by omega)] at k
        exact ⟨_, e1, c, rfl, _, e6 0 (by decide) (by decide), _, e6 3 (by decide) (by decide), _, e6 1 (by decide) (by decide), _, e6 2 (by decide) (by decide), ⟨by have := hb.1; exact Int.le_trans (by decide) this, by have := hb.2; exact Int.lt_of_le_of_lt this (by decide)⟩, a, rfl, e4, e9 _ _ ⟨by have := hb.1; exact Int.le_trans (by decide) this, by have := hb.2; exact Int.lt_of_le_of_lt this (by decide)⟩ k⟩
      · rw [if_pos c1] at k
        exact ⟨c, rfl, _, e6 w hc2.1 c1, k⟩
    · rw [if_neg hc2]
      exact ⟨fun c => by omega, fun _ z => hc2 z.2⟩
  · rw [if_neg hc]
    exact ⟨fun _ z => hc z.1, fun c => by omega⟩
theorem q_isBase {σ : TS} {N : KN} {t : Int} {P : Int → Prop} (hN : TN σ N) (hok : KNok N) (ht : rI t) (h : P (if 0 ≤ t ∧ t < knB N then 1 else 0)) : w_isBase σ t P := by
  obtain ⟨-, -, h2, -⟩ := hN
  obtain ⟨-, -, k2, -⟩ := hok
  unfold w_isBase
  rw [h2]
  refine ⟨ht, ⟨by omega, by omega⟩, q_within (rI_L ht) (by decide) ⟨by omega, by omega⟩ ?_⟩
  have e : (0 ≤ t ∧ t ≤ (knB N : Int) - 1) ↔ (0 ≤ t ∧ t < knB N) := by omega
  simp only [e]
  exact h
theorem q_isNode {σ : TS} {N : KN} {t : Int} {P : Int → Prop} (hN : TN σ N) (hok : KNok N) (ht : rI t) (h : P (if 0 ≤ t ∧ t < knN N then 1 else 0)) : w_isNode σ t P := by
  obtain ⟨-, -, -, h2, -⟩ := hN
  obtain ⟨-, -, -, k2, -⟩ := hok
  unfold w_isNode
  rw [h2]
  refine ⟨ht, ⟨by omega, by omega⟩, q_within (rI_L ht) (by decide) ⟨by omega, by omega⟩ ?_⟩
  have e : (0 ≤ t ∧ t ≤ (knN N : Int) - 1) ↔ (0 ≤ t ∧ t < knN N) := by omega
  simp only [e]
  exact h
theorem TN.bas {σ : TS} {N : KN} (hN : TN σ N) {t : Int} (ht : 0 ≤ t ∧ t < knB N) : tA σ 22 (4 * t) = kb N t 0 ∧ ∀ j : Int, 0 ≤ j → j < 4 → tA σ 22 (4 * t + j) = kb N t j.toNat := by
  obtain ⟨-, -, -, -, -, h, -⟩ := hN
  have e : ((t.toNat : Nat) : Int) = t := by omega
  have h1 : ∀ j : Int, 0 ≤ j → j < 4 → tA σ 22 (4 * t + j) = kb N t j.toNat := fun j j0 j1 => by
    have := h t.toNat (by omega) j.toNat (by omega)
    have e2 : ((j.toNat : Nat) : Int) = j := by omega
    rw [e, e2] at this
    exact this
  exact ⟨by have := h1 0 (by decide) (by decide); rw [Int.add_zero] at this; exact this, h1⟩
theorem q_det {σ : TS} {N : KN} {t : Int} {P : Int → Prop} (hN : TN σ N) (hok : KNok N) (ht : 0 ≤ t ∧ t < knB N) (h : P (r_det N t)) : w_det σ t P := by
  obtain ⟨b0, b1⟩ := TN.bas hN ht
  have hb := det_b (hok.bas ht)
  have hp := hok.1
  have k2 := hok.2.2.1
  unfold w_det
  rw [b0, b1 3 (by decide) (by decide), b1 1 (by decide) (by decide), b1 2 (by decide) (by decide)]
  have r : -10000 ≤ kb N t 0 * kb N t (Int.toNat 3) - kb N t (Int.toNat 1) * kb N t (Int.toNat 2) ∧ kb N t 0 * kb N t (Int.toNat 3) - kb N t (Int.toNat 1) * kb N t (Int.toNat 2) ≤ 10000 := hb
  refine ⟨⟨by omega, by omega⟩, ⟨by omega, by omega⟩, ⟨by omega, by omega⟩, ⟨by omega, by omega⟩, ⟨Int.le_trans (by decide) r.1, Int.lt_of_le_of_lt r.2 (by decide)⟩, ?_⟩
  unfold w_p
  rw [hN.1]
  exact q_modulo ⟨Int.le_trans (by decide) r.1, Int.lt_of_le_of_lt r.2 (by decide)⟩ ⟨by omega, by omega⟩ h
theorem q_base {σ : TS} {N : KN} {t w : Int} {P : Int → TS → Prop} (hN : TN σ N) (hok : KNok N) (ht : rI t) (hw : rI w) (k : okB N t w → P (r_base N t w) (sF σ 0 0)) (kx : ¬ okB N t w → P 0 (sF σ 0 1)) : w_base σ t w P := by
  have k2 := hok.2.2.1
  refine q_isBase hN hok ht ⟨fun s => (s = 0 ∧ okB N t w) ∨ (s = 1 ∧ ¬ okB N t w), ?_, ¬ okB N t w, fun n => Or.inr ⟨rfl, n⟩, ?_⟩
  · rintro s (⟨rfl, ho⟩ | ⟨rfl, ho⟩)
    · refine ⟨by decide, fun _ => ⟨hw, fun c1 => ?_, fun c1 => ?_⟩, fun c => by omega⟩
      · have k := k ho
        unfold r_base at k
        rw [if_neg (by omega)] at k
        exact q_det (N := N) hN hok ho.1 k
      · have k := k ho
        unfold r_base at k
        rw [if_pos c1] at k
        have h0 := ho.1
        have h1 := ho.2
        refine ⟨⟨by omega, by omega⟩, ?_⟩
        rw [(TN.bas hN ho.1).2 w h1.1 c1]
        exact k
    · exact ⟨by decide, fun c => absurd rfl c, fun _ => kx ho⟩
  · by_cases hc : 0 ≤ t ∧ t < knB N
    · rw [if_pos hc]
      refine ⟨fun c => by omega, fun _ => ⟨hw, q_within (rI_L hw) (by decide) (by decide) ?_⟩⟩
      by_cases hc2 : 0 ≤ w ∧ w ≤ 4
      · rw [if_pos hc2]
        exact ⟨fun c => by omega, fun _ => Or.inl ⟨rfl, hc, hc2⟩⟩
      · rw [if_neg hc2]
        exact ⟨fun _ z => hc2 z.2, fun c => by omega⟩
    · rw [if_neg hc]
      exact ⟨fun _ z => hc z.1, fun c => by omega⟩
