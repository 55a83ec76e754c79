/-! PURE: op like; the first of some numbers -/
set_option maxRecDepth 100000
/-- the first k from lo on, n of them, that q holds of -/
def least : Nat → Nat → (Nat → Bool) → Int → Int
  | _, 0, _, d => d
  | lo, n + 1, q, d => if q lo then (lo : Int) else least (lo + 1) n q d
theorem least_hit {q : Nat → Bool} {d : Int} : ∀ {n lo f : Nat}, lo ≤ f → f < lo + n → (∀ g, lo ≤ g → g < f → q g = false) → q f = true → least lo n q d = f := by
  intro n
  induction n with
  | zero => intro lo f h1 h2; omega
  | succ n ih =>
    intro lo f h1 h2 h3 h4
    unfold least
    by_cases e : lo = f
    · subst e; rw [if_pos h4]
    · rw [if_neg (by rw [h3 lo (Nat.le_refl _) (by omega)]; decide)]
      exact ih (by omega) (by omega) (fun g g1 g2 => h3 g (by omega) g2) h4
theorem least_none {q : Nat → Bool} {d : Int} : ∀ {n lo : Nat}, (∀ g, lo ≤ g → g < lo + n → q g = false) → least lo n q d = d := by
  intro n
  induction n with
  | zero => intro lo _; rfl
  | succ n ih =>
    intro lo h
    unfold least
    rw [if_neg (by rw [h lo (Nat.le_refl _) (by omega)]; decide)]
    exact ih (fun g g1 g2 => h g (by omega) (by omega))
def likeB (p : Int) (f g : Nat → Int) (m k : Nat) : Bool := (List.range m).all fun j => decide (f j = k * g j % p)
def r_like (N : KN) (t o : Int) : Int := if (0 ≤ t ∧ t < knT N) ∧ 0 ≤ o ∧ o < knT N then (if kl N t = kl N o then least 1 (kp N - 1) (likeB (kp N) (kv N t) (kv N o) (2 ^ kl N t)) 0 else 0) else -1
theorem emod_p {a p : Int} (hp : 3 ≤ p ∧ p ≤ 97) : 0 ≤ a % p ∧ a % p < 97 := by
  have a1 := Int.emod_nonneg a (b := p) (by omega)
  have a2 := Int.emod_lt_of_pos a (b := p) (by omega)
  omega
theorem s_isLike {ad : Nat → Nat} {F μ : HM} {b c d m : Nat} {N : KN} {f g : Nat → Int} {f0 g0 : Int → Int} {k : Nat} {P : Int → Prop} (h : HN ad F μ b N) (hc : μ c = some (hA 0 m f0)) (hd : μ d = some (hA 0 m g0)) (hm : m ≤ 16) (hf : ∀ j : Nat, j < m → f0 j = f j ∧ 0 ≤ f j ∧ f j < 97) (hg : ∀ j : Nat, j < m → g0 j = g j ∧ 0 ≤ g j ∧ g j < 97) (hk : k < 97) (hP : P (if likeB (kp N) f g m k then 1 else 0)) : wc_X1_isLike ad μ b (some c) (some d) k P := by
  obtain ⟨hs, hok, fi, fq, a, tE, bE, nE, h1, h2, fi2, fq2, tS, bS, nS, h3, h4, -⟩ := h
  have hp := hok.1
  unfold likeB at hP
  refine ⟨fun n v => ∃ j : Nat, v = j ∧ j ≤ m ∧ n = m - j ∧ ∀ i, i < j → f i = k * g i % kp N, ?_, m, 0, rfl, Nat.zero_le _, rfl, fun i hi => by omega⟩
  rintro n v ⟨j, rfl, j1, rfl, j2⟩
  refine ⟨c, rfl, _, gL_A hc (by decide), ⟨by omega, by omega⟩, ⟨by omega, by omega⟩, fun c1 => ?_, fun c1 => ?_⟩
  · have : j = m := by omega
    subst this
    rw [if_pos (all_yes (fun i hi => decide_eq_true (j2 i hi)))] at hP
    exact hP
  · have hj : j < m := by omega
    obtain ⟨f1, f2⟩ := hf j hj
    obtain ⟨g1, g2⟩ := hg j hj
    have hm2 := mul_97 (x := (k : Int)) ⟨by omega, by omega⟩ g2
    have he := emod_p (a := (k : Int) * g j) (p := kp N) ⟨by omega, by omega⟩
    refine ⟨_, gA_of hc (by omega) (by omega), _, gQ_of h1 2, ⟨by omega, by omega⟩, d, rfl, _, gA_of hd (by omega) (by omega), ?_⟩
    rw [f1, g1]
    refine ⟨⟨by omega, by omega⟩, a, h2, gC_of (hs _ _ h3), s_mod (hs _ _ h3) h4 ⟨by omega, by omega⟩ ⟨by omega, by omega⟩ ⟨⟨by omega, by omega⟩, ⟨by omega, by omega⟩, fun c2 => ⟨m - (j + 1), by omega, j + 1, by omega, by omega, rfl, fun i hi => ?_⟩, fun c2 => ?_⟩⟩
    · by_cases e : i = j
      · subst e; exact c2
      · exact j2 i (by omega)
    · rw [if_neg (by rw [all_no hj (decide_eq_false c2)]; decide)] at hP
      exact hP
theorem HN_p {ad : Nat → Nat} {F μ : HM} {b : Nat} {N : KN} (h : HN ad F μ b N) : ∃ a, gQ μ b 1 2 = some (some a) ∧ gI μ a 2 0 = some (kp N : Int) ∧ gC μ a = some 2 := by
  obtain ⟨hs, hok, fi, fq, a, tE, bE, nE, h1, h2, fi2, fq2, tS, bS, nS, h3, h4, -⟩ := h
  exact ⟨a, by rw [← h2]; exact gQ_of h1 2, by rw [← h4]; exact gI_of (hs _ _ h3) 0, gC_of (hs _ _ h3)⟩
theorem s_like {ad : Nat → Nat} {F μ : HM} {b : Nat} {N : KN} {t o : Int} {P : Int → Prop} (h : HN ad F μ b N) (ht : rI t) (ho : rI o) (k : P (r_like N t o)) : wc_X1_like ad μ b t o P := by
  have hs := h.1
  have hp := h.2.1.1
  unfold r_like at k
  refine ⟨h.gC, s_isTable h ht ?_⟩
  by_cases hc : 0 ≤ t ∧ t < knT N
  · rw [if_pos hc]
    refine ⟨fun c => by omega, fun _ => ⟨h.gC, s_isTable h ho ?_⟩⟩
    by_cases hc2 : 0 ≤ o ∧ o < knT N
    · rw [if_pos ⟨hc, hc2⟩] at k
      rw [if_pos hc2]
      obtain ⟨l1, l2, l3, l4⟩ := h.2.1.tab hc
      obtain ⟨m1, m2, m3, m4⟩ := h.2.1.tab hc2
      refine ⟨fun _ => ⟨h.gC, s_at h hc (fun y hy => ?_)⟩, fun c => by omega⟩
      obtain ⟨c, g, e1, e2, e3, e4⟩ := TR.cellN hs hy
      refine ⟨y, rfl, _, e2, h.gC, s_at h hc2 (fun z hz => ?_)⟩
      obtain ⟨c', g', d1, d2, d3, d4⟩ := TR.cellN hs hz
      refine ⟨z, rfl, _, d2, ⟨by omega, by omega⟩, ⟨by omega, by omega⟩, fun c1 => ?_, fun c1 => ?_⟩
      · have el : kl N t = kl N o := by omega
        rw [if_pos el] at k
        obtain ⟨a, p1, p2, p3⟩ := HN_p h
        refine ⟨fun n v => ∃ j : Nat, v = j ∧ 1 ≤ j ∧ j ≤ kp N ∧ n = kp N - j ∧ ∀ i, 1 ≤ i → i < j → likeB (kp N) (kv N t) (kv N o) (2 ^ kl N t) i = false, ?_, kp N - 1, 1, rfl, Nat.le_refl _, by omega, rfl, fun i h1 h2 => by omega⟩
        rintro n v ⟨j, rfl, j0, j1, rfl, j2⟩
        refine ⟨_, p1, a, rfl, _, p2, ⟨by omega, by omega⟩, ⟨by omega, by omega⟩, fun c2 => ?_, fun c2 => ?_⟩
        · rw [least_none (fun g g1 g2 => j2 g g1 (by omega))] at k
          exact k
        · refine ⟨h.gC, s_at h hc (fun y hy => ?_)⟩
          obtain ⟨c, g, e1, e2, e3, e4⟩ := TR.cellN hs hy
          refine ⟨y, rfl, _, e1, h.gC, s_at h hc2 (fun z hz => ?_)⟩
          obtain ⟨c', g', d1, d2, d3, d4⟩ := TR.cellN hs hz
          rw [← el] at d3 d4 m4
          refine ⟨z, rfl, _, d1, h.gC, s_isLike h e3 d3 l3 (fun i hi => ⟨e4 i hi, l4 i hi⟩) (fun i hi => ⟨d4 i hi, m4 i hi⟩) (by omega) ?_⟩
          cases hq : likeB (kp N) (kv N t) (kv N o) (2 ^ kl N t) j with
          | false =>
            refine ⟨fun _ => ⟨kp N - (j + 1), by omega, j + 1, by omega, by omega, by omega, rfl, fun i i1 i2 => ?_⟩, fun c => absurd rfl c⟩
            by_cases e : i = j
            · subst e; exact hq
            · exact j2 i i1 (by omega)
          | true =>
            rw [least_hit j0 (by omega) j2 hq] at k
            exact ⟨fun c => by simp at c, fun _ => k⟩
      · rw [if_neg (by omega)] at k; exact k
    · rw [if_neg (fun z => hc2 z.2)] at k
      rw [if_neg hc2]
      exact ⟨fun c => by omega, fun _ => k⟩
  · rw [if_neg (fun z => hc z.1)] at k
    rw [if_neg hc]
    exact ⟨fun _ => k, fun c => by omega⟩
theorem likeB_succ (p : Int) (f g : Nat → Int) (m k : Nat) : likeB p f g (m + 1) k = (likeB p f g m k && decide (f m = k * g m % p)) := by
  unfold likeB
  rw [List.range_succ, List.all_append]
  simp
theorem bA_01 : ∀ x y : Bool, bA (b01 x) (b01 y) = b01 (x && y) := by decide
theorem q_like {σ : TS} {N : KN} {t o : Int} {P : Int → TS → Prop} (hN : TN σ N) (hok : KNok N) (ht : rI t) (ho : rI o) (k : P (r_like N t o) (sF σ 0 0)) : w_like σ t o P := by
  have hN0 : TN (sF σ 0 0) N := hN
  have hp := hok.1
  unfold r_like at k
  refine q_isTable hN0 hok ht ?_
  by_cases hc : 0 ≤ t ∧ t < knT N
  · rw [if_pos hc]
    refine ⟨fun c => by omega, fun _ => q_isTable hN0 hok ho ?_⟩
    by_cases hc2 : 0 ≤ o ∧ o < knT N
    · rw [if_pos ⟨hc, hc2⟩] at k
      rw [if_pos hc2]
      obtain ⟨l1, l2, l3, l4⟩ := hok.tab hc
      obtain ⟨m1, m2, m3, m4⟩ := hok.tab hc2
      obtain ⟨q0, -, -, -, h5, -⟩ := hN
      have k2 := hok.2.1
      obtain ⟨e1, e2⟩ := h5 t.toNat (by omega)
      obtain ⟨d1, d2⟩ := h5 o.toNat (by omega)
      have et : ((t.toNat : Nat) : Int) = t := by omega
      have eo : ((o.toNat : Nat) : Int) = o := by omega
      rw [et] at e1 e2
      rw [eo] at d1 d2
      have e1 : tA σ 20 t = (kl N t : Int) := e1
      have e2 : ∀ i : Nat, i < 2 ^ kl N t → tA σ 21 (16 * t + i) = kv N t i := e2
      have d1 : tA σ 20 o = (kl N o : Int) := d1
      have d2 : ∀ i : Nat, i < 2 ^ kl N o → tA σ 21 (16 * o + i) = kv N o i := d2
      rw [e1, d1, bL_1 l1]
      refine ⟨fun _ => ⟨⟨by omega, by omega⟩, ⟨by omega, by omega⟩, ⟨by omega, by omega⟩, ⟨by omega, by omega⟩, fun c1 => ?_, fun c1 => ?_⟩, fun c => by omega⟩
      · have el : kl N t = kl N o := by omega
        rw [if_pos el] at k
        rw [← el] at d2 m4
        refine ⟨fun n v => ∃ j : Nat, v = j ∧ 1 ≤ j ∧ j ≤ kp N ∧ n = kp N - j ∧ ∀ i, 1 ≤ i → i < j → likeB (kp N) (kv N t) (kv N o) (2 ^ kl N t) i = false, ?_, kp N - 1, 1, rfl, Nat.le_refl _, by omega, rfl, fun i h1 h2 => by omega⟩
        rintro n v ⟨j, rfl, j0, j1, rfl, j2⟩
        have q00 : tA (sF σ 0 0) 13 0 = kp N := q0
        unfold w_p
        rw [q00]
        refine ⟨⟨by omega, by omega⟩, ⟨by omega, by omega⟩, fun c2 => ?_, fun c2 => ?_⟩
        · rw [least_none (fun g g1 g2 => j2 g g1 (by omega))] at k
          exact k
        · refine ⟨fun n v4 v5 => ∃ i : Nat, v5 = i ∧ i ≤ 2 ^ kl N t ∧ n = 2 ^ kl N t - i ∧ v4 = b01 (likeB (kp N) (kv N t) (kv N o) i j), ?_, 2 ^ kl N t, 0, rfl, Nat.zero_le _, rfl, rfl⟩
          rintro n v4 v5 ⟨i, rfl, i1, rfl, rfl⟩
          refine ⟨⟨by omega, by omega⟩, ⟨by omega, by omega⟩, fun c3 => ⟨r_z (b01_01 _), fun c4 => ?_, fun c4 => ?_⟩, fun c3 => ?_⟩
          · have : i = 2 ^ kl N t := by omega
            subst this
            rw [b01_0] at c4
            refine ⟨kp N - (j + 1), by omega, j + 1, by omega, by omega, by omega, rfl, fun z z1 z2 => ?_⟩
            by_cases e : z = j
            · subst e; exact c4
            · exact j2 z z1 (by omega)
          · have : i = 2 ^ kl N t := by omega
            subst this
            rw [b01_0, Bool.not_eq_false] at c4
            rw [least_hit j0 (by omega) j2 c4] at k
            exact k
          · have hi : i < 2 ^ kl N t := by omega
            have b1 := l4 i hi
            have b2 := m4 i hi
            have hm2 := mul_97 (x := (j : Int)) ⟨by omega, by omega⟩ b2
            have he := emod_p (a := (j : Int) * kv N o i) (p := kp N) ⟨by omega, by omega⟩
            refine ⟨⟨by omega, by omega⟩, ⟨by omega, by omega⟩, ?_⟩
            rw [e2 i hi, d2 i hi]
            refine ⟨⟨by omega, by omega, by omega, by omega⟩, ⟨by omega, by omega⟩, ⟨by omega, by omega⟩, fun s => s = b01 (decide (kv N t i = j * kv N o i % kp N)), ?_, fun c4 => ?_, fun c4 => ?_⟩
            · rintro s rfl x hx
              rw [bA_01, ← likeB_succ] at hx
              exact ⟨2 ^ kl N t - (i + 1), by omega, i + 1, by omega, by omega, rfl, hx⟩
            · show (0 : Int) = _
              rw [decide_eq_false c4]; rfl
            · show (1 : Int) = _
              rw [decide_eq_true c4]; rfl
      · rw [if_neg (by omega)] at k; exact k
    · rw [if_neg (fun z => hc2 z.2)] at k
      rw [if_neg hc2]
      exact ⟨fun c => by omega, fun _ => k⟩
  · rw [if_neg (fun z => hc z.1)] at k
    rw [if_neg hc]
    exact ⟨fun _ => k, fun c => by omega⟩
