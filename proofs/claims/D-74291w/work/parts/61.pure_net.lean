/-! PURE: what stands of the net in the heap; what is asked of it -/
set_option maxRecDepth 100000
def hle (F μ : HM) : Prop := ∀ a c, F a = some c → μ a = some c
/-- a table: legs, values -/
abbrev KT : Type := Nat × (Nat → Int)
/-- the net: p, tables, bases (four numbers each), nodes (their tables) -/
abbrev KN : Type := Nat × (Nat × (Nat → KT)) × (Nat × (Nat → Nat → Int)) × (Nat × (Nat → Nat))
abbrev kp (N : KN) : Nat := N.1
abbrev knT (N : KN) : Nat := N.2.1.1
abbrev kT (N : KN) : Nat → KT := N.2.1.2
abbrev knB (N : KN) : Nat := N.2.2.1.1
abbrev kB (N : KN) : Nat → Nat → Int := N.2.2.1.2
abbrev knN (N : KN) : Nat := N.2.2.2.1
abbrev kO (N : KN) : Nat → Nat := N.2.2.2.2
abbrev klegs (N : KN) (n : Nat) : Nat := (kT N (kO N n)).1
def VA (F : HM) (c n : Nat) (f : Nat → Int) : Prop := ∃ g, F c = some (hA 0 n g) ∧ ∀ i : Nat, i < n → g i = f i
def LR (ad : Nat → Nat) (F : HM) (r n : Nat) (el : Nat → Nat) : Prop := ∃ fi fq e, F r = some (hO 18 fi fq) ∧ fi 2 = n ∧ fq 1 = some e ∧ n < 1000000 ∧ ((n = 0 ∧ e = ad 0) ∨ ∃ cap f, F e = some (hQ 4 cap f) ∧ n ≤ cap ∧ cap < 2147483648 ∧ ∀ k : Nat, k < n → f k = some (el k))
def SH (ad : Nat → Nat) (F : HM) (s n : Nat) (el : Nat → Nat) : Prop := ∃ fi fq r, F s = some (hO 3 fi fq) ∧ fq 0 = some r ∧ LR ad F r n el
def TR (F : HM) (a : Nat) (t : KT) : Prop := ∃ fi fq c, F a = some (hO 7 fi fq) ∧ fi 2 = t.1 ∧ fq 3 = some c ∧ VA F c (2 ^ t.1) t.2
def BR (F : HM) (a : Nat) (v : Nat → Int) : Prop := ∃ fi fq c, F a = some (hO 8 fi fq) ∧ fq 2 = some c ∧ VA F c 4 v
def DR (F : HM) (a t : Nat) : Prop := ∃ fi fq, F a = some (hO 9 fi fq) ∧ fq 2 = some t
def NR (ad : Nat → Nat) (F : HM) (a : Nat) (N : KN) (tE bE nE : Nat → Nat) : Prop := ∃ fi fq tS bS nS, F a = some (hO 2 fi fq) ∧ fi 0 = kp N ∧ fq 1 = some tS ∧ fq 2 = some bS ∧ fq 3 = some nS ∧ SH ad F tS (knT N) tE ∧ SH ad F bS (knB N) bE ∧ SH ad F nS (knN N) nE ∧
  (∀ k, k < knT N → TR F (tE k) (kT N k)) ∧ (∀ k, k < knB N → BR F (bE k) (kB N k)) ∧ (∀ k, k < knN N → DR F (nE k) (tE (kO N k)))
/-- a net as it may be -/
def KNok (N : KN) : Prop := (3 ≤ kp N ∧ kp N ≤ 97) ∧ knT N ≤ 8 ∧ knB N ≤ 5 ∧ knN N ≤ 6 ∧ (∀ k, k < knT N → 1 ≤ (kT N k).1 ∧ (kT N k).1 ≤ 4 ∧ ∀ i, i < 2 ^ (kT N k).1 → 0 ≤ (kT N k).2 i ∧ (kT N k).2 i < kp N) ∧ (∀ k, k < knB N → ∀ i, i < 4 → 0 ≤ kB N k i ∧ kB N k i < kp N) ∧ ∀ k, k < knN N → kO N k < knT N
section PNET
variable {ad : Nat → Nat} {F μ : HM}
theorem s_size {r n : Nat} {el : Nat → Nat} {P : Int → Prop} (hs : hle F μ) (h : LR ad F r n el) (k : P n) : wc_J2_size ad μ r P := by
  obtain ⟨fi, fq, e, h1, h2, -⟩ := h
  exact ⟨_, gI_of (hs _ _ h1) 2, by rw [h2]; exact k⟩
theorem s_get {r n : Nat} {el : Nat → Nat} {i : Int} {P : Option Nat → Prop} (hs : hle F μ) (h : LR ad F r n el) (hi : 0 ≤ i ∧ i < n) (k : P (some (el i.toNat))) : wc_J2_get ad μ r i P := by
  obtain ⟨fi, fq, e, h1, h2, h3, h4, h5⟩ := h
  have h1 := hs _ _ h1
  have ri : rI i := ⟨by omega, by omega⟩
  have rn : rI (n : Int) := ⟨by omega, by omega⟩
  refine ⟨_, gI_of h1 2, ?_⟩
  rw [h2]
  refine ⟨ri, False, id, fun c => by omega, fun _ => ⟨ri, rn, fun _ => ?_, fun c => by omega⟩⟩
  refine ⟨gC_of h1, _, gQ_of h1 1, e, h3, ?_⟩
  rcases h5 with ⟨h5, -⟩ | ⟨cap, f, h6, h7, h8, h9⟩
  · omega
  · refine ⟨_, gR_of (hs _ _ h6) (by omega) h8, ?_⟩
    have e1 : ((i.toNat : Nat) : Int) = i := by omega
    have := h9 i.toNat (by omega)
    rw [e1] at this
    rw [this]; exact k
theorem LR.gC {r n : Nat} {el : Nat → Nat} (hs : hle F μ) (h : LR ad F r n el) : gC μ r = some 18 := by
  obtain ⟨fi, fq, e, h1, -⟩ := h
  exact gC_of (hs _ _ h1)
theorem LR.small {r n : Nat} {el : Nat → Nat} (h : LR ad F r n el) : n < 1000000 := by
  obtain ⟨fi, fq, e, -, -, -, h, -⟩ := h
  exact h
theorem SH.gC {r n : Nat} {el : Nat → Nat} (hs : hle F μ) (h : SH ad F r n el) : gC μ r = some 3 := by
  obtain ⟨fi, fq, e, h1, -⟩ := h
  exact gC_of (hs _ _ h1)
theorem s_ssize {r n : Nat} {el : Nat → Nat} {P : Int → Prop} (hs : hle F μ) (h : SH ad F r n el) (k : P n) : wc_X3_size ad μ r P := by
  obtain ⟨fi, fq, e, h1, h2, h3⟩ := h
  exact ⟨_, gQ_of (hs _ _ h1) 0, e, h2, h3.gC hs, s_size hs h3 k⟩
theorem s_sget {r n : Nat} {el : Nat → Nat} {i : Int} {P : Option Nat → Prop} (hs : hle F μ) (h : SH ad F r n el) (hi : 0 ≤ i ∧ i < n) (hk : ∃ ci, gC μ (el i.toNat) = some ci ∧ (ci = 7 ∨ ci = 8 ∨ ci = 9)) (k : P (some (el i.toNat))) : wc_X3_get ad μ r i P := by
  obtain ⟨fi, fq, e, h1, h2, h3⟩ := h
  refine ⟨_, gQ_of (hs _ _ h1) 0, e, h2, h3.gC hs, s_get hs h3 hi ⟨fun z hz => ?_, k⟩⟩
  cases hz
  exact hk
theorem s_isPlace {r n : Nat} {el : Nat → Nat} {i : Int} {P : Int → Prop} (hs : hle F μ) (h : SH ad F r n el) (hi : rI i) (k : P (if 0 ≤ i ∧ i < n then 1 else 0)) : wc_X3_isPlace ad μ (some r) i P := by
  have hn : n < 1000000 := by obtain ⟨_, _, _, _, _, h3⟩ := h; exact h3.small
  refine ⟨hi, r, rfl, h.gC hs, s_ssize hs h ⟨⟨by omega, by omega⟩, ?_⟩⟩
  refine s_within (rI_L hi) (by decide) ⟨by omega, by omega⟩ ?_
  have e : (0 ≤ i ∧ i ≤ (n : Int) - 1) ↔ (0 ≤ i ∧ i < n) := by omega
  refine ⟨by split <;> simp, ?_⟩
  simp only [e]
  exact k
end PNET
