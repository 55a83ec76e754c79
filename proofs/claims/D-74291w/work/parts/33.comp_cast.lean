/-! COMPONENT AND JDK: rows of casts (printed by tools/comp.py) -/
set_option maxRecDepth 100000
theorem cast_0 (ci : Nat) (h : (ci = 22)) : ∃ C T Nf, vwCl[ci]? = some (C, T, Nf) ∧ (Cond.castable C "java/lang/String" ∈ lw_tbl ∨ C = "java/lang/String") := by
  subst h
  exact ⟨RJ7, TJ7, 4, rfl, Or.inr rfl⟩
theorem cast_2 (ci : Nat) (h : (ci = 7 ∨ ci = 8 ∨ ci = 9 ∨ ci = 17 ∨ ci = 21 ∨ ci = 22)) : ∃ C T Nf, vwCl[ci]? = some (C, T, Nf) ∧ (Cond.castable C "java/lang/Comparable" ∈ lw_tbl ∨ C = "java/lang/Comparable") := by
  rcases h with rfl | rfl | rfl | rfl | rfl | rfl
  · exact ⟨RX9, TX9, 4, rfl, Or.inl q1092⟩
  · exact ⟨RX11, TX11, 3, rfl, Or.inl q921⟩
  · exact ⟨RX12, TX12, 3, rfl, Or.inl q1075⟩
  · exact ⟨RX20, TX20, 3, rfl, Or.inl q1078⟩
  · exact ⟨RJ6, TJ6, 4, rfl, Or.inl q1102⟩
  · exact ⟨RJ7, TJ7, 4, rfl, Or.inl q1095⟩
theorem cast_3 (ci : Nat) (h : (ci = 7 ∨ ci = 8 ∨ ci = 9)) : ∃ C T Nf, vwCl[ci]? = some (C, T, Nf) ∧ (Cond.castable C "HoloNet$Labelled" ∈ lw_tbl ∨ C = "HoloNet$Labelled") := by
  rcases h with rfl | rfl | rfl
  · exact ⟨RX9, TX9, 4, rfl, Or.inl q2670⟩
  · exact ⟨RX11, TX11, 3, rfl, Or.inl q2668⟩
  · exact ⟨RX12, TX12, 3, rfl, Or.inl q2669⟩
theorem cast_4 (ci : Nat) (h : (ci = 7)) : ∃ C T Nf, vwCl[ci]? = some (C, T, Nf) ∧ (Cond.castable C "HoloNet$Table" ∈ lw_tbl ∨ C = "HoloNet$Table") := by
  subst h
  exact ⟨RX9, TX9, 4, rfl, Or.inr rfl⟩
theorem cast_5 (ci : Nat) (h : (ci = 9)) : ∃ C T Nf, vwCl[ci]? = some (C, T, Nf) ∧ (Cond.castable C "HoloNet$Node" ∈ lw_tbl ∨ C = "HoloNet$Node") := by
  subst h
  exact ⟨RX12, TX12, 3, rfl, Or.inr rfl⟩
theorem cast_6 (ci : Nat) (h : (ci = 8)) : ∃ C T Nf, vwCl[ci]? = some (C, T, Nf) ∧ (Cond.castable C "HoloNet$Base" ∈ lw_tbl ∨ C = "HoloNet$Base") := by
  subst h
  exact ⟨RX11, TX11, 3, rfl, Or.inr rfl⟩
theorem cast_7 (ci : Nat) (h : (ci = 10)) : ∃ C T Nf, vwCl[ci]? = some (C, T, Nf) ∧ (Cond.castable C "HoloNet$Wire" ∈ lw_tbl ∨ C = "HoloNet$Wire") := by
  subst h
  exact ⟨RX13, TX13, 4, rfl, Or.inr rfl⟩
theorem cast_8 (ci : Nat) (h : (ci = 17)) : ∃ C T Nf, vwCl[ci]? = some (C, T, Nf) ∧ (Cond.castable C "HoloNet$Step" ∈ lw_tbl ∨ C = "HoloNet$Step") := by
  subst h
  exact ⟨RX20, TX20, 3, rfl, Or.inr rfl⟩
theorem cast_9 (ci : Nat) (h : (ci = 4)) : ∃ C T Nf, vwCl[ci]? = some (C, T, Nf) ∧ (Cond.castable C "HoloNet$State" ∈ lw_tbl ∨ C = "HoloNet$State") := by
  subst h
  exact ⟨RX4, TX4, 3, rfl, Or.inr rfl⟩
