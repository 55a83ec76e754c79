/-! PURE: ops parity, identity, made -/
set_option maxRecDepth 100000
theorem hle.refl (μ : HM) : hle μ μ := fun _ _ h => h
theorem hle.trans {a b c : HM} (h : hle a b) (g : hle b c) : hle a c := fun x y z => g _ _ (h _ _ z)
theorem hle_new {μ : HM} {q : Nat} (hq : μ q = none) (d : HC) : hle μ (hs μ q d) := fun _ _ h => hs_some hq h
theorem HN.mono {ad : Nat → Nat} {F μ μ2 : HM} {b : Nat} {N : KN} (h : HN ad F μ b N) (hm : hle μ μ2) : HN ad F μ2 b N := by
  obtain ⟨h1, h2, fi, fq, a, tE, bE, nE, h3, h4⟩ := h
  exact ⟨h1.trans hm, h2, fi, fq, a, tE, bE, nE, hm _ _ h3, h4⟩
def r_made (p : Int) (f : Nat → Int) (m : Nat) : Int := if r_par f m = 3 then 0 else if m < 16 then 1 else if r_ruleN f 0 % p = 0 ∧ r_ruleN f 1 % p = 0 then 1 else 0
theorem r_par_b (f : Nat → Int) (m : Nat) : 0 ≤ r_par f m ∧ r_par f m < 4 := by
  unfold r_par
  split <;> split <;> decide
theorem s_isMade {ad : Nat → Nat} {F μ : HM} {b c x m n0 mc ms : Nat} {N : KN} {f : Nat → Int} {g : Int → Int} {P : Int → HM → Prop} (h : HN ad F μ b N) (h1 : μ (ad 1) = some (hC 1 x)) (hc : μ c = some (hA 0 n0 g)) (hm : m ≤ 16) (hn0 : m ≤ n0 ∧ n0 < 2147483648) (hg : ∀ j : Nat, j < m → g j = f j ∧ 0 ≤ f j ∧ f j < 97) (hmc : 1 ≤ mc) (hms : 2 ≤ ms) (k : ∀ μ2, hle μ μ2 → (∀ a, μ a ≠ none ∨ μ2 a = none ∨ ∃ z, μ2 a = some (hA 3 2 z)) → P (r_made (kp N) f m) μ2) : wc_X1_isMade ad mc ms μ b (some c) m P := by
  refine ⟨1, 2, ⟨by omega, by omega⟩, s_parityOf h1 hm hc hn0 (fun j hj => ⟨(hg j hj).1, by have := (hg j hj).2; exact ⟨by omega, by omega⟩⟩) (Nat.le_refl _) (Nat.le_refl _) (fun q g2 hq => ?_)⟩
  have hl := hle_new hq (hA 3 2 g2)
  have hk := k _ hl (fun a => by
    by_cases e : a = q
    · subst e; exact Or.inr (Or.inr ⟨g2, hs_s _ _ _⟩)
    · rw [hs_n _ _ e]
      cases h9 : μ a with
      | none => exact Or.inr (Or.inl rfl)
      | some z => exact Or.inl (by simp))
  unfold r_made at hk
  have hb := r_par_b f m
  have hp := h.2.1.1
  refine ⟨⟨by omega, by omega⟩, fun c1 => ?_, fun c1 => ⟨⟨by omega, by omega⟩, fun c2 => ?_, fun c2 => ?_⟩⟩
  · rw [if_pos c1] at hk; exact hk
  · rw [if_neg c1, if_pos (by omega)] at hk; exact hk
  · have hm16 : m = 16 := by omega
    subst hm16
    rw [if_neg c1, if_neg (by decide)] at hk
    have h2 := h.mono hl
    have bd : ∀ o : Int, rI (r_ruleN f o % (kp N : Int)) := fun o => by
      have a1 := Int.emod_nonneg (r_ruleN f o) (b := (kp N : Int)) (by omega)
      have a2 := Int.emod_lt_of_pos (r_ruleN f o) (b := (kp N : Int)) (by omega)
      exact ⟨by omega, by omega⟩
    refine ⟨h2.gC, s_rule h2 (hl _ _ hc) hn0 hg (Or.inl rfl) ⟨bd 0, fun c3 => ?_, fun c3 => ⟨h2.gC, s_rule h2 (hl _ _ hc) hn0 hg (Or.inr rfl) ⟨bd 1, fun c4 => ?_, fun c4 => ?_⟩⟩⟩⟩
    · rw [if_neg (fun z => c3 z.1)] at hk; exact hk
    · rw [if_neg (fun z => c4 z.2)] at hk; exact hk
    · rw [if_pos ⟨c3, c4⟩] at hk; exact hk
theorem q_isMadeHere {σ : TS} {N : KN} {L : Nat} {f : Nat → Int} {P : Int → Prop} (hN : TN σ N) (hok : KNok N) (hl : LK σ L f) (h : P (r_made (kp N) f (2 ^ L))) : w_isMadeHere σ P := by
  have hb := r_par_b f (2 ^ L)
  have hp := hok.1
  have hL := hl.2.1
  unfold r_made at h
  refine q_parityHere hl ⟨⟨by omega, by omega⟩, fun c1 => ?_, fun c1 => ?_⟩
  · rw [if_pos c1] at h; exact h
  · rw [if_neg c1] at h
    rw [hl.1]
    refine ⟨⟨by omega, by omega⟩, fun c2 => ?_, fun c2 => ?_⟩
    · have hlt : ∀ L : Nat, L < 4 → 2 ^ L < 16 := by decide
      rw [if_pos (hlt L (by omega))] at h; exact h
    · have h4 : L = 4 := by omega
      subst h4
      rw [if_neg (by decide)] at h
      have bd : ∀ o : Int, rI (r_ruleN f o % (kp N : Int)) := fun o => by
        have a1 := Int.emod_nonneg (r_ruleN f o) (b := (kp N : Int)) (by omega)
        have a2 := Int.emod_lt_of_pos (r_ruleN f o) (b := (kp N : Int)) (by omega)
        exact ⟨by omega, by omega⟩
      refine q_ruleHere hN hok hl (Or.inl rfl) ⟨bd 0, fun c3 => ?_, fun c3 => q_ruleHere hN hok hl (Or.inr rfl) ⟨bd 1, fun c4 => ?_, fun c4 => ?_⟩⟩
      · rw [if_neg (fun z => c3 z.1)] at h; exact h
      · rw [if_neg (fun z => c4 z.2)] at h; exact h
      · rw [if_pos ⟨c3, c4⟩] at h; exact h
