/-! THE TWIN: weakest preconditions and walks (printed by tools/twin.py) -/
set_option maxRecDepth 100000
/-! edgeOf -/
def w_edgeOf (σ : TS) (a1 : Int) (P : Int → Prop) : Prop :=
  ∃ I4 : Nat → Int → Int → Prop, (∀ (n4 : Nat) (v2_4 : Int) (v3_4 : Int), I4 n4 v2_4 v3_4 →
    rI v3_4 ∧
    rI (tA σ 16 0) ∧
    (((tA σ 16 0) ≤ v3_4 →
      P v2_4) ∧
    (v3_4 < (tA σ 16 0) →
      ∃ I17 : Nat → Int → Int → Prop, (∀ (n17 : Nat) (v2_17 : Int) (v4_17 : Int), I17 n17 v2_17 v4_17 →
        w_legsAt σ v3_4 (fun y_3 =>
          rI v4_17 ∧
          rI y_3 ∧
          ∃ J139 : Prop, (J139 →
            ∃ m : Nat, m < n4 ∧ I4 m v2_17 (v3_4 + 1)) ∧
          ((y_3 ≤ v4_17 →
            J139) ∧
          (v4_17 < y_3 →
            ((¬ (bA (bR a1 v3_4) 1) = 1 →
              J139) ∧
            ((bA (bR a1 v3_4) 1) = 1 →
              w_wireAt σ ((4 * v3_4) + v4_17) (fun y_6 =>
                rI y_6 ∧
                ∃ J107 : Int → Prop, (∀ (s0_107 : Int), J107 s0_107 →
                  rI y_6 ∧
                  ∃ J131 : Int → Prop, (∀ (s1_131 : Int), J131 s1_131 →
                    ∃ m : Nat, m < n17 ∧ I17 m (v2_17 + s1_131) (v4_17 + 1)) ∧
                  ∃ J126 : Prop, (J126 →
                    J131 1) ∧
                  ((y_6 < 0 →
                    J126) ∧
                  (0 ≤ y_6 →
                    (0 ≤ s0_107 ∧ s0_107 < 2147483648 ∧ (0 : Int) < 4 ∧ (4 : Int) < 2147483648) ∧
                    ((¬ (bA (bR a1 (s0_107 / 4)) 1) = 0 →
                      J131 0) ∧
                    ((bA (bR a1 (s0_107 / 4)) 1) = 0 →
                      J126))))) ∧
                ((0 ≤ y_6 →
                  (0 ≤ 96 + (2 * y_6) ∧ 96 + (2 * y_6) < 117) ∧
                  rI (tA σ 30 (96 + (2 * y_6))) ∧
                  rI ((4 * v3_4) + v4_17) ∧
                  ((¬ (tA σ 30 (96 + (2 * y_6))) = ((4 * v3_4) + v4_17) →
                    (0 ≤ 96 + (2 * y_6) ∧ 96 + (2 * y_6) < 117) ∧
                    J107 (tA σ 30 (96 + (2 * y_6)))) ∧
                  ((tA σ 30 (96 + (2 * y_6))) = ((4 * v3_4) + v4_17) →
                    (0 ≤ (96 + (2 * y_6)) + 1 ∧ (96 + (2 * y_6)) + 1 < 117) ∧
                    J107 (tA σ 30 ((96 + (2 * y_6)) + 1))))) ∧
                (y_6 < 0 →
                  J107 (-1)))))))))) ∧
      ∃ m : Nat, I17 m v2_4 0))) ∧
  ∃ m : Nat, I4 m 0 0
set_option maxHeartbeats 4000000 in
theorem t_edgeOf {G : g_G} {l : Launch} {q : Nat → Nat} {σ : TS} {a1 : Int} {P : Int → Prop} (h : w_edgeOf σ a1 P) : CT G l yX5_edgeOf cX5_edgeOf 7 (Option.some Jvm.ClassFile.FieldType.int) 1 0 0 [.ref (q 100), vI a1] [tw G q σ] (tR1 (fun r s => s = σ ∧ P r)) (fun u => [tw G q u.2]) := by
  unfold w_edgeOf at h
  refine ww_of (by decide) (Nat.le_of_ble_eq_true rfl) (fun fr => ?_)
  show WW G l cX5_edgeOf RX5 7 (Option.some Jvm.ClassFile.FieldType.int) "edgeOf" 1 0 0 (tR1 (fun r s => s = σ ∧ P r)) (tS G q fr) 0 0 [tw G q σ, fr] 0 [(0, .ref (q 100)), (1, vI a1)] []
  refine ww_iconst dX5_edgeOf_0 ?_
  refine ww_istore_n dX5_edgeOf_1 rfl (Nat.le_of_ble_eq_true rfl) rfl ?_
  refine ww_iconst dX5_edgeOf_2 ?_
  refine ww_istore_n dX5_edgeOf_3 rfl (Nat.le_of_ble_eq_true rfl) rfl ?_
  obtain ⟨I4, hI4, h⟩ := h
  have kI4 : ∀ (n4 : Nat), ∀ (v2_4 : Int), ∀ (v3_4 : Int), I4 n4 v2_4 v3_4 → WW G l cX5_edgeOf RX5 7 (Option.some Jvm.ClassFile.FieldType.int) "edgeOf" 1 0 0 (tR1 (fun r s => s = σ ∧ P r)) (tS G q fr) 0 0 [tw G q σ, fr] 4 [(0, .ref (q 100)), (1, vI a1), (2, vI v2_4), (3, vI v3_4)] [] := by
    intro n4
    induction n4 using Nat.strongRecOn with
    | ind n4 ih4 =>
      intro v2_4 v3_4 hj
      have h := hI4 n4 v2_4 v3_4 hj
      refine ww_iload_n dX5_edgeOf_4 3 rfl ?_
      refine ww_aload_n dX5_edgeOf_5 0 rfl ?_
      refine tg_16 dX5_edgeOf_6 ?_
      refine ww_iconst dX5_edgeOf_9 ?_
      refine ta_16 ⟨by decide, by decide⟩ dX5_edgeOf_10 ?_
      obtain ⟨r_1, r_2, h⟩ := h
      refine ww_icmp_ge (tgt := 145) dX5_edgeOf_11 (by decide) r_1 r_2 (fun c => ?_) (fun c => ?_)
      · replace h := h.1 c
        refine ww_iload_n dX5_edgeOf_145 2 rfl ?_
        exact ww_iret (v2_4, σ) rfl ⟨rfl, ⟨rfl, h⟩⟩ rfl (Nat.le_refl _) (Nat.le_refl _) dX5_edgeOf_146
      · replace h := h.2 (Int.not_le.mp c)
        refine ww_iconst dX5_edgeOf_14 ?_
        refine ww_istore dX5_edgeOf_15 (Nat.le_of_ble_eq_true rfl) rfl ?_
        obtain ⟨I17, hI17, h⟩ := h
        have kI17 : ∀ (n17 : Nat), ∀ (v2_17 : Int), ∀ (v4_17 : Int), I17 n17 v2_17 v4_17 → WW G l cX5_edgeOf RX5 7 (Option.some Jvm.ClassFile.FieldType.int) "edgeOf" 1 0 0 (tR1 (fun r s => s = σ ∧ P r)) (tS G q fr) 0 0 [tw G q σ, fr] 17 [(0, .ref (q 100)), (1, vI a1), (2, vI v2_17), (3, vI v3_4), (4, vI v4_17)] [] := by
          intro n17
          induction n17 using Nat.strongRecOn with
          | ind n17 ih17 =>
            intro v2_17 v4_17 hj
            have h := hI17 n17 v2_17 v4_17 hj
            refine ww_iload dX5_edgeOf_17 4 rfl ?_
            refine ww_aload_n dX5_edgeOf_19 0 rfl ?_
            refine ww_iload_n dX5_edgeOf_20 3 rfl ?_
            refine tc_legsAt h ⟨Nat.le_of_ble_eq_true rfl, Nat.le_of_ble_eq_true rfl⟩ ⟨Nat.le_refl _, Nat.le_refl _⟩ (Nat.le_of_ble_eq_true rfl) dX5_edgeOf_21 (fun y_3 h => ?_)
            obtain ⟨r_4, r_5, h⟩ := h
            obtain ⟨J139, hJ139, h⟩ := h
            have kJ139 : J139 → WW G l cX5_edgeOf RX5 7 (Option.some Jvm.ClassFile.FieldType.int) "edgeOf" 1 0 0 (tR1 (fun r s => s = σ ∧ P r)) (tS G q fr) 0 0 [tw G q σ, fr] 139 [(0, .ref (q 100)), (1, vI a1), (2, vI v2_17), (3, vI v3_4)] [] := by
              intro hj
              have h := hJ139 hj
              refine ww_iinc dX5_edgeOf_139 3 rfl (Nat.le_of_ble_eq_true rfl) rfl ?_
              refine ww_goto (tgt := 4) dX5_edgeOf_142 (by decide) ?_
              refine ww_lv [1, 2, 3, 0] rfl ?_
              obtain ⟨m, hm, h⟩ := h
              exact ih4 m hm _ _ h
            refine ww_icmp_ge (tgt := 139) dX5_edgeOf_24 (by decide) r_4 r_5 (fun c => ?_) (fun c => ?_)
            · replace h := h.1 c
              refine ww_lv [0, 1, 2, 3] rfl ?_
              exact kJ139 h
            · replace h := h.2 (Int.not_le.mp c)
              refine ww_iload_n dX5_edgeOf_27 1 rfl ?_
              refine ww_iload_n dX5_edgeOf_28 3 rfl ?_
              refine ww_ishr dX5_edgeOf_29 ?_
              refine ww_iconst dX5_edgeOf_30 ?_
              refine ww_iand dX5_edgeOf_31 ?_
              refine ww_iconst dX5_edgeOf_32 ?_
              refine ww_icmp_ne (tgt := 139) dX5_edgeOf_33 (by decide) (rI_bA _ _) (by decide) (fun c => ?_) (fun c => ?_)
              · replace h := h.1 c
                refine ww_lv [0, 1, 2, 3] rfl ?_
                exact kJ139 h
              · replace h := h.2 c
                refine ww_aload_n dX5_edgeOf_36 0 rfl ?_
                refine ww_iconst dX5_edgeOf_37 ?_
                refine ww_iload_n dX5_edgeOf_38 3 rfl ?_
                refine ww_imul dX5_edgeOf_39 ?_
                refine ww_iload dX5_edgeOf_40 4 rfl ?_
                refine ww_iadd dX5_edgeOf_42 ?_
                refine tc_wireAt h ⟨Nat.le_of_ble_eq_true rfl, Nat.le_of_ble_eq_true rfl⟩ ⟨Nat.le_refl _, Nat.le_refl _⟩ (Nat.le_of_ble_eq_true rfl) dX5_edgeOf_43 (fun y_6 h => ?_)
                refine ww_istore dX5_edgeOf_46 (Nat.le_of_ble_eq_true rfl) rfl ?_
                refine ww_iload dX5_edgeOf_48 0 rfl ?_
                obtain ⟨r_7, h⟩ := h
                obtain ⟨J107, hJ107, h⟩ := h
                have kJ107 : ∀ (s0_107 : Int), J107 s0_107 → WW G l cX5_edgeOf RX5 7 (Option.some Jvm.ClassFile.FieldType.int) "edgeOf" 1 0 0 (tR1 (fun r s => s = σ ∧ P r)) (tS G q fr) 0 0 [tw G q σ, fr] 107 [(0, .ref (q 100)), (1, vI a1), (2, vI v2_17), (3, vI v3_4), (4, vI v4_17), (5, vI y_6)] [vI s0_107] := by
                  intro s0_107 hj
                  have h := hJ107 s0_107 hj
                  refine ww_istore dX5_edgeOf_107 (Nat.le_of_ble_eq_true rfl) rfl ?_
                  refine ww_iload_n dX5_edgeOf_109 3 rfl ?_
                  refine ww_iload dX5_edgeOf_110 6 rfl ?_
                  obtain ⟨r_8, h⟩ := h
                  obtain ⟨J131, hJ131, h⟩ := h
                  have kJ131 : ∀ (s1_131 : Int), J131 s1_131 → WW G l cX5_edgeOf RX5 7 (Option.some Jvm.ClassFile.FieldType.int) "edgeOf" 1 0 0 (tR1 (fun r s => s = σ ∧ P r)) (tS G q fr) 0 0 [tw G q σ, fr] 131 [(0, .ref (q 100)), (1, vI a1), (3, vI v3_4), (4, vI v4_17)] [vI s1_131, vI v2_17] := by
                    intro s1_131 hj
                    have h := hJ131 s1_131 hj
                    refine ww_iadd dX5_edgeOf_131 ?_
                    refine ww_istore_n dX5_edgeOf_132 rfl (Nat.le_of_ble_eq_true rfl) rfl ?_
                    refine ww_iinc dX5_edgeOf_133 4 rfl (Nat.le_of_ble_eq_true rfl) rfl ?_
                    refine ww_goto (tgt := 17) dX5_edgeOf_136 (by decide) ?_
                    refine ww_lv [2, 3, 1, 4, 0] rfl ?_
                    obtain ⟨m, hm, h⟩ := h
                    exact ih17 m hm _ _ h
                  obtain ⟨J126, hJ126, h⟩ := h
                  have kJ126 : J126 → WW G l cX5_edgeOf RX5 7 (Option.some Jvm.ClassFile.FieldType.int) "edgeOf" 1 0 0 (tR1 (fun r s => s = σ ∧ P r)) (tS G q fr) 0 0 [tw G q σ, fr] 126 [(0, .ref (q 100)), (1, vI a1), (3, vI v3_4), (4, vI v4_17)] [vI v2_17] := by
                    intro hj
                    have h := hJ126 hj
                    refine ww_iconst dX5_edgeOf_126 ?_
                    refine ww_goto (tgt := 131) dX5_edgeOf_127 (by decide) ?_
                    exact kJ131 _ h
                  refine ww_if_lt (tgt := 126) dX5_edgeOf_112 (by decide) r_8 (fun c => ?_) (fun c => ?_)
                  · replace h := h.1 c
                    refine ww_lv [1, 2, 4, 5] rfl ?_
                    exact kJ126 h
                  · replace h := h.2 (Int.not_lt.mp c)
                    refine ww_iload_n dX5_edgeOf_115 2 rfl ?_
                    refine ww_iload dX5_edgeOf_116 0 rfl ?_
                    refine ww_iconst dX5_edgeOf_118 ?_
                    obtain ⟨r_9, h⟩ := h
                    refine ww_idiv dX5_edgeOf_119 r_9 ?_
                    refine ww_ishr dX5_edgeOf_120 ?_
                    refine ww_iconst dX5_edgeOf_121 ?_
                    refine ww_iand dX5_edgeOf_122 ?_
                    refine ww_if_ne (tgt := 130) dX5_edgeOf_123 (by decide) (rI_bA _ _) (fun c => ?_) (fun c => ?_)
                    · replace h := h.1 c
                      refine ww_iconst dX5_edgeOf_130 ?_
                      refine ww_lv [1, 2, 4, 5] rfl ?_
                      exact kJ131 _ h
                    · replace h := h.2 c
                      refine ww_lv [1, 2, 4, 5] rfl ?_
                      exact kJ126 h
                refine ww_if_ge (tgt := 57) dX5_edgeOf_50 (by decide) r_7 (fun c => ?_) (fun c => ?_)
                · replace h := h.1 c
                  refine ww_aload_n dX5_edgeOf_57 1 rfl ?_
                  refine tg_30 dX5_edgeOf_58 ?_
                  refine ww_bipush (v := 96) dX5_edgeOf_61 rfl ?_
                  refine ww_iconst dX5_edgeOf_63 ?_
                  refine ww_iload dX5_edgeOf_64 0 rfl ?_
                  refine ww_imul dX5_edgeOf_66 ?_
                  refine ww_iadd dX5_edgeOf_67 ?_
                  obtain ⟨r_10, h⟩ := h
                  refine ta_30 r_10 dX5_edgeOf_68 ?_
                  refine ww_iconst dX5_edgeOf_69 ?_
                  refine ww_iload_n dX5_edgeOf_70 4 rfl ?_
                  refine ww_imul dX5_edgeOf_71 ?_
                  refine ww_iload dX5_edgeOf_72 5 rfl ?_
                  refine ww_iadd dX5_edgeOf_74 ?_
                  obtain ⟨r_11, r_12, h⟩ := h
                  refine ww_icmp_ne (tgt := 95) dX5_edgeOf_75 (by decide) r_11 r_12 (fun c => ?_) (fun c => ?_)
                  · replace h := h.1 c
                    refine ww_aload_n dX5_edgeOf_95 1 rfl ?_
                    refine tg_30 dX5_edgeOf_96 ?_
                    refine ww_bipush (v := 96) dX5_edgeOf_99 rfl ?_
                    refine ww_iconst dX5_edgeOf_101 ?_
                    refine ww_iload dX5_edgeOf_102 0 rfl ?_
                    refine ww_imul dX5_edgeOf_104 ?_
                    refine ww_iadd dX5_edgeOf_105 ?_
                    obtain ⟨r_13, h⟩ := h
                    refine ta_30 r_13 dX5_edgeOf_106 ?_
                    refine ww_lv [1, 2, 3, 4, 5, 0] rfl ?_
                    exact kJ107 _ h
                  · replace h := h.2 c
                    refine ww_aload_n dX5_edgeOf_78 1 rfl ?_
                    refine tg_30 dX5_edgeOf_79 ?_
                    refine ww_bipush (v := 96) dX5_edgeOf_82 rfl ?_
                    refine ww_iconst dX5_edgeOf_84 ?_
                    refine ww_iload dX5_edgeOf_85 0 rfl ?_
                    refine ww_imul dX5_edgeOf_87 ?_
                    refine ww_iadd dX5_edgeOf_88 ?_
                    refine ww_iconst dX5_edgeOf_89 ?_
                    refine ww_iadd dX5_edgeOf_90 ?_
                    obtain ⟨r_14, h⟩ := h
                    refine ta_30 r_14 dX5_edgeOf_91 ?_
                    refine ww_goto (tgt := 107) dX5_edgeOf_92 (by decide) ?_
                    refine ww_lv [1, 2, 3, 4, 5, 0] rfl ?_
                    exact kJ107 _ h
                · replace h := h.2 (Int.not_le.mp c)
                  refine ww_iconst dX5_edgeOf_53 ?_
                  refine ww_goto (tgt := 107) dX5_edgeOf_54 (by decide) ?_
                  refine ww_lv [1, 2, 3, 4, 5, 0] rfl ?_
                  exact kJ107 _ h
        refine ww_lv [1, 2, 3, 4, 0] rfl ?_
        obtain ⟨m, h⟩ := h
        exact kI17 m _ _ h
  refine ww_lv [2, 3, 1, 0] rfl ?_
  obtain ⟨m, h⟩ := h
  exact kI4 m _ _ h
theorem tc_edgeOf {S : Type} {G : g_G} {l : Launch} {cc : ByteArray} {nL : Nat} {ret : Option FieldType} {mn : String} {d mc ms : Nat} {R : Option Value → S → Prop} {sh : S → List va_W} {cells slots pc : Nat} {lv : List (Nat × Value)} {st : List Value} {q : Nat → Nat} {fr : va_W} {σ : TS} {a1 : Int} {P : Int → Prop} (h : w_edgeOf σ a1 P) (hR : 1 + 1 ≤ d ∧ 16 + (7 + 11) + 100 * 1 ≤ 100 * d) (hc : cells ≤ mc ∧ slots ≤ ms) (hst : (st.map fun v => v.category).sum ≤ 16) (hdg : decode cc pc = .ok (.invokevirtual 358, 3)) (k : ∀ r, P r → WW G l cc RX5 nL ret mn d mc ms R sh cells slots [tw G q σ, fr] (pc + 3) lv (vI r :: st)) : WW G l cc RX5 nL ret mn d mc ms R sh cells slots [tw G q σ, fr] pc lv (vI a1 :: .ref (q 100) :: st) := by
  refine tw_call1 (n := 1) (t_edgeOf (q := q) h) (lw_V q2606 q2608 qs104 q117 q2609) ⟨rfl, by decide, by decide, by decide +kernel⟩ rfl hR hc rfl hst hdg ?_
  rintro r σ2 ⟨rfl, h2⟩
  exact k r h2
/-! takesOn -/
def w_takesOn_b (rec : TS → Int → Int → Int → (TS → Prop) → Prop) (σ : TS) (a1 a2 a3 : Int) (P : TS → Prop) : Prop :=
  rI a3 ∧
  rI (tF σ 43) ∧
  ((a3 < (tF σ 43) →
    rI a1 ∧
    rI (tA σ 16 0) ∧
    ((¬ a1 = (tA σ 16 0) →
      ∃ I57 : Nat → Int → TS → Prop, (∀ (n57 : Nat) (v4_57 : Int) (σ57 : TS), I57 n57 v4_57 σ57 →
        rI v4_57 ∧
        rI (tA σ57 16 0) ∧
        (((tA σ57 16 0) ≤ v4_57 →
          P σ57) ∧
        (v4_57 < (tA σ57 16 0) →
          ∃ J126 : TS → Prop, (∀ (σ126 : TS), J126 σ126 →
            ∃ m : Nat, m < n57 ∧ I57 m (v4_57 + 1) σ126) ∧
          ((¬ (bA (bR a2 v4_57) 1) = 1 →
            (0 ≤ a1 ∧ a1 < 6) ∧
            w_edgeOf (sA σ57 41 a1 v4_57) (bO a2 (bL 1 v4_57)) (fun y_8 =>
              rI y_8 ∧
              rI a3 ∧
              ∃ J123 : Int → Prop, (∀ (s3_123 : Int), J123 s3_123 →
                rec (sA σ57 41 a1 v4_57) (a1 + 1) (bO a2 (bL 1 v4_57)) s3_123 (fun σ_11 =>
                  J126 σ_11)) ∧
              ((y_8 ≤ a3 →
                J123 a3) ∧
              (a3 < y_8 →
                J123 y_8)))) ∧
          ((bA (bR a2 v4_57) 1) = 1 →
            J126 σ57))))) ∧
      ∃ m : Nat, I57 m 0 σ) ∧
    (a1 = (tA σ 16 0) →
      ∃ I27 : Nat → Int → TS → Prop, (∀ (n27 : Nat) (v4_27 : Int) (σ27 : TS), I27 n27 v4_27 σ27 →
        rI v4_27 ∧
        rI a1 ∧
        ((a1 ≤ v4_27 →
          P σ27) ∧
        (v4_27 < a1 →
          (0 ≤ v4_27 ∧ v4_27 < 6) ∧
          (0 ≤ v4_27 ∧ v4_27 < 6) ∧
          ∃ m : Nat, m < n27 ∧ I27 m (v4_27 + 1) (sA σ27 42 v4_27 (tA σ27 41 v4_27))))) ∧
      ∃ m : Nat, I27 m 0 (sF σ 43 a3)))) ∧
  ((tF σ 43) ≤ a3 →
    P σ))
def w_takesOn : Nat → TS → Int → Int → Int → (TS → Prop) → Prop
  | 0, _, _, _, _, _ => False
  | dep + 1, σ, a1, a2, a3, P => w_takesOn_b (w_takesOn dep) σ a1 a2 a3 P
set_option maxHeartbeats 4000000 in
theorem t_takesOn {G : g_G} {l : Launch} {q : Nat → Nat} : ∀ (dep : Nat) {D : Nat} {σ : TS} {a1 a2 a3 : Int} {P : TS → Prop}, dep + 12 ≤ D → w_takesOn dep σ a1 a2 a3 P → CT G l yX5_takesOn cX5_takesOn 6 (Option.none : Option Jvm.ClassFile.FieldType) D 0 0 [.ref (q 100), vI a1, vI a2, vI a3] [tw G q σ] (tR0 (fun _ s => P s)) (fun u => [tw G q u.2]) := by
  intro dep
  induction dep with
  | zero => intro D σ a1 a2 a3 P hD h; exact h.elim
  | succ dep ih =>
    intro D σ a1 a2 a3 P hD h
    change w_takesOn_b (w_takesOn dep) σ a1 a2 a3 P at h
    unfold w_takesOn_b at h
    have ihc := fun {S : Type} {R : Option Value → S → Prop} {sh : S → List va_W} {fr : va_W} {pc : Nat} {lv : List (Nat × Value)} {st : List Value} {τ : TS} {b1 b2 b3 : Int} {P : TS → Prop} (h : w_takesOn dep τ b1 b2 b3 P) (hR : D - 1 + 1 ≤ D ∧ 16 + (6 + 11) + 100 * (D - 1) ≤ 100 * D) (hc : 0 ≤ 0 ∧ 0 ≤ 0) (hst : (st.map fun v => v.category).sum ≤ 16) (hdg : decode cX5_takesOn pc = .ok (.invokevirtual 361, 3)) (k : ∀ σ2, P σ2 → WW G l cX5_takesOn RX5 6 (Option.none : Option Jvm.ClassFile.FieldType) "takesOn" D 0 0 R sh 0 0 [tw G q σ2, fr] (pc + 3) lv st) => (tw_call0 (n := 3) (ih (D := D - 1) (by omega) h) (lw_V q2602 q2604 qs103 q117 q2605) ⟨rfl, by decide, by decide, by decide +kernel⟩ rfl hR hc rfl hst hdg k : WW G l cX5_takesOn RX5 6 (Option.none : Option Jvm.ClassFile.FieldType) "takesOn" D 0 0 R sh 0 0 [tw G q τ, fr] pc lv ([vI b3, vI b2, vI b1, .ref (q 100)] ++ st))
    refine ww_of (by decide) (Nat.le_of_ble_eq_true rfl) (fun fr => ?_)
    show WW G l cX5_takesOn RX5 6 (Option.none : Option Jvm.ClassFile.FieldType) "takesOn" D 0 0 (tR0 (fun _ s => P s)) (tS G q fr) 0 0 [tw G q σ, fr] 0 [(0, .ref (q 100)), (1, vI a1), (2, vI a2), (3, vI a3)] []
    refine ww_iload_n dX5_takesOn_0 3 rfl ?_
    refine ww_aload_n dX5_takesOn_1 0 rfl ?_
    refine tg_43 dX5_takesOn_2 ?_
    obtain ⟨r_1, r_2, h⟩ := h
    refine ww_icmp_lt (tgt := 9) dX5_takesOn_5 (by decide) r_1 r_2 (fun c => ?_) (fun c => ?_)
    · replace h := h.1 c
      refine ww_iload_n dX5_takesOn_9 1 rfl ?_
      refine ww_aload_n dX5_takesOn_10 0 rfl ?_
      refine tg_16 dX5_takesOn_11 ?_
      refine ww_iconst dX5_takesOn_14 ?_
      refine ta_16 ⟨by decide, by decide⟩ dX5_takesOn_15 ?_
      obtain ⟨r_3, r_4, h⟩ := h
      refine ww_icmp_ne (tgt := 54) dX5_takesOn_16 (by decide) r_3 r_4 (fun c => ?_) (fun c => ?_)
      · replace h := h.1 c
        refine ww_iconst dX5_takesOn_54 ?_
        refine ww_istore dX5_takesOn_55 (Nat.le_of_ble_eq_true rfl) rfl ?_
        obtain ⟨I57, hI57, h⟩ := h
        have kI57 : ∀ (n57 : Nat), ∀ (v4_57 : Int), ∀ (σ57 : TS), I57 n57 v4_57 σ57 → WW G l cX5_takesOn RX5 6 (Option.none : Option Jvm.ClassFile.FieldType) "takesOn" D 0 0 (tR0 (fun _ s => P s)) (tS G q fr) 0 0 [tw G q σ57, fr] 57 [(0, .ref (q 100)), (1, vI a1), (2, vI a2), (3, vI a3), (4, vI v4_57)] [] := by
          intro n57
          induction n57 using Nat.strongRecOn with
          | ind n57 ih57 =>
            intro v4_57 σ57 hj
            have h := hI57 n57 v4_57 σ57 hj
            refine ww_iload dX5_takesOn_57 4 rfl ?_
            refine ww_aload_n dX5_takesOn_59 0 rfl ?_
            refine tg_16 dX5_takesOn_60 ?_
            refine ww_iconst dX5_takesOn_63 ?_
            refine ta_16 ⟨by decide, by decide⟩ dX5_takesOn_64 ?_
            obtain ⟨r_5, r_6, h⟩ := h
            refine ww_icmp_ge (tgt := 132) dX5_takesOn_65 (by decide) r_5 r_6 (fun c => ?_) (fun c => ?_)
            · replace h := h.1 c
              exact ww_vret (0, σ57) rfl ⟨rfl, h⟩ rfl (Nat.le_refl _) (Nat.le_refl _) dX5_takesOn_132
            · replace h := h.2 (Int.not_le.mp c)
              refine ww_iload_n dX5_takesOn_68 2 rfl ?_
              refine ww_iload dX5_takesOn_69 4 rfl ?_
              refine ww_ishr dX5_takesOn_71 ?_
              refine ww_iconst dX5_takesOn_72 ?_
              refine ww_iand dX5_takesOn_73 ?_
              refine ww_iconst dX5_takesOn_74 ?_
              obtain ⟨J126, hJ126, h⟩ := h
              have kJ126 : ∀ (σ126 : TS), J126 σ126 → WW G l cX5_takesOn RX5 6 (Option.none : Option Jvm.ClassFile.FieldType) "takesOn" D 0 0 (tR0 (fun _ s => P s)) (tS G q fr) 0 0 [tw G q σ126, fr] 126 [(0, .ref (q 100)), (1, vI a1), (2, vI a2), (3, vI a3), (4, vI v4_57)] [] := by
                intro σ126 hj
                have h := hJ126 σ126 hj
                refine ww_iinc dX5_takesOn_126 4 rfl (Nat.le_of_ble_eq_true rfl) rfl ?_
                refine ww_goto (tgt := 57) dX5_takesOn_129 (by decide) ?_
                refine ww_lv [1, 2, 3, 4, 0] rfl ?_
                obtain ⟨m, hm, h⟩ := h
                exact ih57 m hm _ _ h
              refine ww_icmp_ne (tgt := 81) dX5_takesOn_75 (by decide) (rI_bA _ _) (by decide) (fun c => ?_) (fun c => ?_)
              · replace h := h.1 c
                refine ww_aload_n dX5_takesOn_81 0 rfl ?_
                refine tg_41 dX5_takesOn_82 ?_
                refine ww_iload_n dX5_takesOn_85 1 rfl ?_
                refine ww_iload dX5_takesOn_86 4 rfl ?_
                obtain ⟨r_7, h⟩ := h
                refine ts_41 r_7 dX5_takesOn_88 ?_
                refine ww_aload_n dX5_takesOn_89 0 rfl ?_
                refine ww_iload_n dX5_takesOn_90 2 rfl ?_
                refine ww_iconst dX5_takesOn_91 ?_
                refine ww_iload dX5_takesOn_92 4 rfl ?_
                refine ww_ishl dX5_takesOn_94 ?_
                refine ww_ior dX5_takesOn_95 ?_
                refine tc_edgeOf h ⟨by omega, by omega⟩ ⟨Nat.le_refl _, Nat.le_refl _⟩ (Nat.le_of_ble_eq_true rfl) dX5_takesOn_96 (fun y_8 h => ?_)
                refine ww_istore dX5_takesOn_99 (Nat.le_of_ble_eq_true rfl) rfl ?_
                refine ww_aload_n dX5_takesOn_101 1 rfl ?_
                refine ww_iload_n dX5_takesOn_102 2 rfl ?_
                refine ww_iconst dX5_takesOn_103 ?_
                refine ww_iadd dX5_takesOn_104 ?_
                refine ww_iload_n dX5_takesOn_105 3 rfl ?_
                refine ww_iconst dX5_takesOn_106 ?_
                refine ww_iload dX5_takesOn_107 5 rfl ?_
                refine ww_ishl dX5_takesOn_109 ?_
                refine ww_ior dX5_takesOn_110 ?_
                refine ww_iload dX5_takesOn_111 0 rfl ?_
                refine ww_iload_n dX5_takesOn_113 4 rfl ?_
                obtain ⟨r_9, r_10, h⟩ := h
                obtain ⟨J123, hJ123, h⟩ := h
                have kJ123 : ∀ (s3_123 : Int), J123 s3_123 → WW G l cX5_takesOn RX5 6 (Option.none : Option Jvm.ClassFile.FieldType) "takesOn" D 0 0 (tR0 (fun _ s => P s)) (tS G q fr) 0 0 [tw G q (sA σ57 41 a1 v4_57), fr] 123 [(0, .ref (q 100)), (1, vI a1), (2, vI a2), (3, vI a3), (4, vI v4_57)] [vI s3_123, vI (bO a2 (bL 1 v4_57)), vI (a1 + 1), .ref (q 100)] := by
                  intro s3_123 hj
                  have h := hJ123 s3_123 hj
                  refine ihc h ⟨by omega, by omega⟩ ⟨Nat.le_refl _, Nat.le_refl _⟩ (Nat.le_of_ble_eq_true rfl) dX5_takesOn_123 (fun σ_11 h => ?_)
                  exact kJ126 _ h
                refine ww_icmp_le (tgt := 122) dX5_takesOn_114 (by decide) r_9 r_10 (fun c => ?_) (fun c => ?_)
                · replace h := h.1 c
                  refine ww_iload_n dX5_takesOn_122 4 rfl ?_
                  refine ww_lv [1, 2, 3, 4, 5] rfl ?_
                  exact kJ123 _ h
                · replace h := h.2 (Int.not_le.mp c)
                  refine ww_iload dX5_takesOn_117 0 rfl ?_
                  refine ww_goto (tgt := 123) dX5_takesOn_119 (by decide) ?_
                  refine ww_lv [1, 2, 3, 4, 5] rfl ?_
                  exact kJ123 _ h
              · replace h := h.2 c
                refine ww_goto (tgt := 126) dX5_takesOn_78 (by decide) ?_
                exact kJ126 _ h
        refine ww_lv [1, 2, 3, 4, 0] rfl ?_
        obtain ⟨m, h⟩ := h
        exact kI57 m _ _ h
      · replace h := h.2 c
        refine ww_aload_n dX5_takesOn_19 0 rfl ?_
        refine ww_iload_n dX5_takesOn_20 3 rfl ?_
        refine tp_43 dX5_takesOn_21 ?_
        refine ww_iconst dX5_takesOn_24 ?_
        refine ww_istore dX5_takesOn_25 (Nat.le_of_ble_eq_true rfl) rfl ?_
        obtain ⟨I27, hI27, h⟩ := h
        have kI27 : ∀ (n27 : Nat), ∀ (v4_27 : Int), ∀ (σ27 : TS), I27 n27 v4_27 σ27 → WW G l cX5_takesOn RX5 6 (Option.none : Option Jvm.ClassFile.FieldType) "takesOn" D 0 0 (tR0 (fun _ s => P s)) (tS G q fr) 0 0 [tw G q σ27, fr] 27 [(0, .ref (q 100)), (1, vI a1), (4, vI v4_27)] [] := by
          intro n27
          induction n27 using Nat.strongRecOn with
          | ind n27 ih27 =>
            intro v4_27 σ27 hj
            have h := hI27 n27 v4_27 σ27 hj
            refine ww_iload dX5_takesOn_27 2 rfl ?_
            refine ww_iload_n dX5_takesOn_29 1 rfl ?_
            obtain ⟨r_12, r_13, h⟩ := h
            refine ww_icmp_ge (tgt := 53) dX5_takesOn_30 (by decide) r_12 r_13 (fun c => ?_) (fun c => ?_)
            · replace h := h.1 c
              exact ww_vret (0, σ27) rfl ⟨rfl, h⟩ rfl (Nat.le_refl _) (Nat.le_refl _) dX5_takesOn_53
            · replace h := h.2 (Int.not_le.mp c)
              refine ww_aload_n dX5_takesOn_33 0 rfl ?_
              refine tg_42 dX5_takesOn_34 ?_
              refine ww_iload dX5_takesOn_37 2 rfl ?_
              refine ww_aload_n dX5_takesOn_39 0 rfl ?_
              refine tg_41 dX5_takesOn_40 ?_
              refine ww_iload dX5_takesOn_43 2 rfl ?_
              obtain ⟨r_14, h⟩ := h
              refine ta_41 r_14 dX5_takesOn_45 ?_
              obtain ⟨r_15, h⟩ := h
              refine ts_42 r_15 dX5_takesOn_46 ?_
              refine ww_iinc dX5_takesOn_47 2 rfl (Nat.le_of_ble_eq_true rfl) rfl ?_
              refine ww_goto (tgt := 27) dX5_takesOn_50 (by decide) ?_
              refine ww_lv [1, 2, 0] rfl ?_
              obtain ⟨m, hm, h⟩ := h
              exact ih27 m hm _ _ h
        refine ww_lv [1, 2, 0] rfl ?_
        obtain ⟨m, h⟩ := h
        exact kI27 m _ _ h
    · replace h := h.2 (Int.not_lt.mp c)
      exact ww_vret (0, σ) rfl ⟨rfl, h⟩ rfl (Nat.le_refl _) (Nat.le_refl _) dX5_takesOn_8
theorem tc_takesOn {S : Type} {G : g_G} {l : Launch} {cc : ByteArray} {nL : Nat} {ret : Option FieldType} {mn : String} {d mc ms : Nat} {R : Option Value → S → Prop} {sh : S → List va_W} {cells slots pc : Nat} {lv : List (Nat × Value)} {st : List Value} {q : Nat → Nat} {fr : va_W} {σ : TS} {a1 : Int} {a2 : Int} {a3 : Int} {P : TS → Prop} (h : w_takesOn 8 σ a1 a2 a3 P) (hR : 20 + 1 ≤ d ∧ 16 + (6 + 11) + 100 * 20 ≤ 100 * d) (hc : cells ≤ mc ∧ slots ≤ ms) (hst : (st.map fun v => v.category).sum ≤ 16) (hdg : decode cc pc = .ok (.invokevirtual 361, 3)) (k : ∀ σ2, P σ2 → WW G l cc RX5 nL ret mn d mc ms R sh cells slots [tw G q σ2, fr] (pc + 3) lv (st)) : WW G l cc RX5 nL ret mn d mc ms R sh cells slots [tw G q σ, fr] pc lv (vI a3 :: vI a2 :: vI a1 :: .ref (q 100) :: st) := by
  refine tw_call0 (n := 3) (t_takesOn (q := q) 8 (Nat.le_refl _) h) (lw_V q2602 q2604 qs103 q117 q2605) ⟨rfl, by decide, by decide, by decide +kernel⟩ rfl hR hc rfl hst hdg ?_
  exact k
/-! width -/
def w_width (σ : TS) (a1 : Int) (P : Int → TS → Prop) : Prop :=
  rI a1 ∧
  rI (tA σ 16 0) ∧
  w_within a1 0 (tA σ 16 0) (fun y_3 =>
    ((¬ y_3 = 0 →
      w_takesOn 8 (sF (sF σ 0 0) 43 100) 0 0 0 (fun σ_5 =>
        rI a1 ∧
        ((¬ a1 = 0 →
          (0 ≤ a1 - 1 ∧ a1 - 1 < 6) ∧
          P (tA σ_5 42 (a1 - 1)) σ_5) ∧
        (a1 = 0 →
          P (tF σ_5 43) σ_5)))) ∧
    (y_3 = 0 →
      P (-1) (sF σ 0 0))))
set_option maxHeartbeats 4000000 in
theorem t_width {G : g_G} {l : Launch} {q : Nat → Nat} {σ : TS} {a1 : Int} {P : Int → TS → Prop} (h : w_width σ a1 P) : CT G l yX5_width cX5_width 2 (Option.some Jvm.ClassFile.FieldType.int) 21 0 0 [.ref (q 100), vI a1] [tw G q σ] (tR1 (P)) (fun u => [tw G q u.2]) := by
  unfold w_width at h
  refine ww_of (by decide) (Nat.le_of_ble_eq_true rfl) (fun fr => ?_)
  show WW G l cX5_width RX5 2 (Option.some Jvm.ClassFile.FieldType.int) "width" 21 0 0 (tR1 (P)) (tS G q fr) 0 0 [tw G q σ, fr] 0 [(0, .ref (q 100)), (1, vI a1)] []
  refine ww_aload_n dX5_width_0 0 rfl ?_
  refine ww_iconst dX5_width_1 ?_
  refine tp_0 dX5_width_2 ?_
  refine ww_iload_n dX5_width_5 1 rfl ?_
  obtain ⟨r_1, h⟩ := h
  refine ww_i2l dX5_width_6 r_1 ?_
  refine ww_lconst (v := 0) dX5_width_7 rfl ?_
  refine ww_aload_n dX5_width_8 0 rfl ?_
  refine tg_16 dX5_width_9 ?_
  refine ww_iconst dX5_width_12 ?_
  refine ta_16 ⟨by decide, by decide⟩ dX5_width_13 ?_
  obtain ⟨r_2, h⟩ := h
  refine ww_i2l dX5_width_14 r_2 ?_
  refine tc_within h ⟨Nat.le_of_ble_eq_true rfl, Nat.le_of_ble_eq_true rfl⟩ ⟨Nat.le_refl _, Nat.le_refl _⟩ (Nat.le_of_ble_eq_true rfl) dX5_width_15 (fun y_3 z_4 h => ?_)
  refine ww_if_ne (tgt := 23) dX5_width_18 (by decide) (z01 z_4) (fun c => ?_) (fun c => ?_)
  · replace h := h.1 c
    refine ww_aload_n dX5_width_23 0 rfl ?_
    refine ww_bipush (v := 100) dX5_width_24 rfl ?_
    refine tp_43 dX5_width_26 ?_
    refine ww_aload_n dX5_width_29 0 rfl ?_
    refine ww_iconst dX5_width_30 ?_
    refine ww_iconst dX5_width_31 ?_
    refine ww_iconst dX5_width_32 ?_
    refine tc_takesOn h ⟨Nat.le_of_ble_eq_true rfl, Nat.le_of_ble_eq_true rfl⟩ ⟨Nat.le_refl _, Nat.le_refl _⟩ (Nat.le_of_ble_eq_true rfl) dX5_width_33 (fun σ_5 h => ?_)
    refine ww_iload_n dX5_width_36 1 rfl ?_
    obtain ⟨r_6, h⟩ := h
    refine ww_if_ne (tgt := 47) dX5_width_37 (by decide) r_6 (fun c => ?_) (fun c => ?_)
    · replace h := h.1 c
      refine ww_aload_n dX5_width_47 0 rfl ?_
      refine tg_42 dX5_width_48 ?_
      refine ww_iload_n dX5_width_51 1 rfl ?_
      refine ww_iconst dX5_width_52 ?_
      refine ww_isub dX5_width_53 ?_
      obtain ⟨r_7, h⟩ := h
      refine ta_42 r_7 dX5_width_54 ?_
      exact ww_iret (tA σ_5 42 (a1 - 1), σ_5) rfl ⟨rfl, h⟩ rfl (Nat.le_refl _) (Nat.le_refl _) dX5_width_55
    · replace h := h.2 c
      refine ww_aload_n dX5_width_40 0 rfl ?_
      refine tg_43 dX5_width_41 ?_
      refine ww_goto (tgt := 55) dX5_width_44 (by decide) ?_
      exact ww_iret (tF σ_5 43, σ_5) rfl ⟨rfl, h⟩ rfl (Nat.le_refl _) (Nat.le_refl _) dX5_width_55
  · replace h := h.2 c
    refine ww_iconst dX5_width_21 ?_
    exact ww_iret ((-1), sF σ 0 0) rfl ⟨rfl, h⟩ rfl (Nat.le_refl _) (Nat.le_refl _) dX5_width_22

/-! changes_30 -/
def w_changes_30 (σ : TS) (a1 : Int) (a2 : Int) (a3 : Int) (a4 : Int) (a5 : Int) (a6 : Int) (a7 : Int) (P : TS → Prop) : Prop :=
  ∃ I3 : Nat → Int → TS → Prop, (∀ (n3 : Nat) (v9_3 : Int) (σ3 : TS), I3 n3 v9_3 σ3 →
    rI v9_3 ∧
    (((bL 1 a2) ≤ v9_3 →
      P σ3) ∧
    (v9_3 < (bL 1 a2) →
      ∃ J101 : TS → Prop, (∀ (σ101 : TS), J101 σ101 →
        ∃ m : Nat, m < n3 ∧ I3 m (v9_3 + 1) σ101) ∧
      ((¬ (bA (bR v9_3 a3) 1) = 1 →
        (0 ≤ a1 + v9_3 ∧ a1 + v9_3 < 117) ∧
        ∀ x_3 : Int, x_3 = tA σ3 30 (a1 + v9_3) →
        (0 ≤ a1 + (bO v9_3 (bL 1 a3)) ∧ a1 + (bO v9_3 (bL 1 a3)) < 117) ∧
        ∀ x_5 : Int, x_5 = tA σ3 30 (a1 + (bO v9_3 (bL 1 a3))) →
        rI ((a4 * x_3) + (a5 * x_5)) ∧
        w_p σ3 (fun y_7 =>
          w_modulo ((a4 * x_3) + (a5 * x_5)) y_7 (fun y_8 =>
            (0 ≤ a1 + v9_3 ∧ a1 + v9_3 < 117) ∧
            rI ((a6 * x_3) + (a7 * x_5)) ∧
            w_p (sA σ3 30 (a1 + v9_3) y_8) (fun y_11 =>
              w_modulo ((a6 * x_3) + (a7 * x_5)) y_11 (fun y_12 =>
                (0 ≤ a1 + (bO v9_3 (bL 1 a3)) ∧ a1 + (bO v9_3 (bL 1 a3)) < 117) ∧
                J101 (sA (sA σ3 30 (a1 + v9_3) y_8) 30 (a1 + (bO v9_3 (bL 1 a3))) y_12)))))) ∧
      ((bA (bR v9_3 a3) 1) = 1 →
        J101 σ3))))) ∧
  ∃ m : Nat, I3 m 0 σ
set_option maxHeartbeats 4000000 in
theorem t_changes_30 {G : g_G} {l : Launch} {q : Nat → Nat} {σ : TS} {a1 : Int} {a2 : Int} {a3 : Int} {a4 : Int} {a5 : Int} {a6 : Int} {a7 : Int} {P : TS → Prop} (h : w_changes_30 σ a1 a2 a3 a4 a5 a6 a7 P) : CT G l yX5_changes cX5_changes 12 (Option.none : Option Jvm.ClassFile.FieldType) 1 0 0 [.ref (q 100), .ref (q 30), vI a1, vI a2, vI a3, vI a4, vI a5, vI a6, vI a7] [tw G q σ] (tR0 (fun _ s => P s)) (fun u => [tw G q u.2]) := by
  unfold w_changes_30 at h
  refine ww_of (by decide) (Nat.le_of_ble_eq_true rfl) (fun fr => ?_)
  show WW G l cX5_changes RX5 12 (Option.none : Option Jvm.ClassFile.FieldType) "changes" 1 0 0 (tR0 (fun _ s => P s)) (tS G q fr) 0 0 [tw G q σ, fr] 0 [(0, .ref (q 100)), (1, .ref (q 30)), (2, vI a1), (3, vI a2), (4, vI a3), (5, vI a4), (6, vI a5), (7, vI a6), (8, vI a7)] []
  refine ww_iconst dX5_changes_0 ?_
  refine ww_istore dX5_changes_1 (Nat.le_of_ble_eq_true rfl) rfl ?_
  obtain ⟨I3, hI3, h⟩ := h
  have kI3 : ∀ (n3 : Nat), ∀ (v9_3 : Int), ∀ (σ3 : TS), I3 n3 v9_3 σ3 → WW G l cX5_changes RX5 12 (Option.none : Option Jvm.ClassFile.FieldType) "changes" 1 0 0 (tR0 (fun _ s => P s)) (tS G q fr) 0 0 [tw G q σ3, fr] 3 [(0, .ref (q 100)), (1, .ref (q 30)), (2, vI a1), (3, vI a2), (4, vI a3), (5, vI a4), (6, vI a5), (7, vI a6), (8, vI a7), (9, vI v9_3)] [] := by
    intro n3
    induction n3 using Nat.strongRecOn with
    | ind n3 ih3 =>
      intro v9_3 σ3 hj
      have h := hI3 n3 v9_3 σ3 hj
      refine ww_iload dX5_changes_3 9 rfl ?_
      refine ww_iconst dX5_changes_5 ?_
      refine ww_iload_n dX5_changes_6 3 rfl ?_
      refine ww_ishl dX5_changes_7 ?_
      obtain ⟨r_1, h⟩ := h
      refine ww_icmp_ge (tgt := 107) dX5_changes_8 (by decide) r_1 (rI_bL _ _) (fun c => ?_) (fun c => ?_)
      · replace h := h.1 c
        exact ww_vret (0, σ3) rfl ⟨rfl, h⟩ rfl (Nat.le_refl _) (Nat.le_refl _) dX5_changes_107
      · replace h := h.2 (Int.not_le.mp c)
        refine ww_iload dX5_changes_11 9 rfl ?_
        refine ww_iload dX5_changes_13 4 rfl ?_
        refine ww_ishr dX5_changes_15 ?_
        refine ww_iconst dX5_changes_16 ?_
        refine ww_iand dX5_changes_17 ?_
        refine ww_iconst dX5_changes_18 ?_
        obtain ⟨J101, hJ101, h⟩ := h
        have kJ101 : ∀ (σ101 : TS), J101 σ101 → WW G l cX5_changes RX5 12 (Option.none : Option Jvm.ClassFile.FieldType) "changes" 1 0 0 (tR0 (fun _ s => P s)) (tS G q fr) 0 0 [tw G q σ101, fr] 101 [(0, .ref (q 100)), (1, .ref (q 30)), (2, vI a1), (3, vI a2), (4, vI a3), (5, vI a4), (6, vI a5), (7, vI a6), (8, vI a7), (9, vI v9_3)] [] := by
          intro σ101 hj
          have h := hJ101 σ101 hj
          refine ww_iinc dX5_changes_101 9 rfl (Nat.le_of_ble_eq_true rfl) rfl ?_
          refine ww_goto (tgt := 3) dX5_changes_104 (by decide) ?_
          refine ww_lv [1, 2, 3, 4, 5, 6, 7, 8, 9, 0] rfl ?_
          obtain ⟨m, hm, h⟩ := h
          exact ih3 m hm _ _ h
        refine ww_icmp_ne (tgt := 25) dX5_changes_19 (by decide) (rI_bA _ _) (by decide) (fun c => ?_) (fun c => ?_)
        · replace h := h.1 c
          refine ww_aload_n dX5_changes_25 1 rfl ?_
          refine ww_iload_n dX5_changes_26 2 rfl ?_
          refine ww_iload dX5_changes_27 9 rfl ?_
          refine ww_iadd dX5_changes_29 ?_
          obtain ⟨r_2, h⟩ := h
          refine ta_30 r_2 dX5_changes_30 ?_
          refine ww_nmI (fun x_3 ex_3 => ?_)
          replace h := h x_3 ex_3
          refine ww_istore dX5_changes_31 (Nat.le_of_ble_eq_true rfl) rfl ?_
          refine ww_aload_n dX5_changes_33 2 rfl ?_
          refine ww_iload_n dX5_changes_34 3 rfl ?_
          refine ww_iload dX5_changes_35 10 rfl ?_
          refine ww_iconst dX5_changes_37 ?_
          refine ww_iload dX5_changes_38 5 rfl ?_
          refine ww_ishl dX5_changes_40 ?_
          refine ww_ior dX5_changes_41 ?_
          refine ww_iadd dX5_changes_42 ?_
          obtain ⟨r_4, h⟩ := h
          refine ta_30 r_4 dX5_changes_43 ?_
          refine ww_nmI (fun x_5 ex_5 => ?_)
          replace h := h x_5 ex_5
          refine ww_istore dX5_changes_44 (Nat.le_of_ble_eq_true rfl) rfl ?_
          refine ww_aload_n dX5_changes_46 3 rfl ?_
          refine ww_iload_n dX5_changes_47 4 rfl ?_
          refine ww_iload dX5_changes_48 11 rfl ?_
          refine ww_iadd dX5_changes_50 ?_
          refine ww_iload dX5_changes_51 7 rfl ?_
          refine ww_iload dX5_changes_53 1 rfl ?_
          refine ww_imul dX5_changes_55 ?_
          refine ww_iload dX5_changes_56 8 rfl ?_
          refine ww_iload dX5_changes_58 0 rfl ?_
          refine ww_imul dX5_changes_60 ?_
          refine ww_iadd dX5_changes_61 ?_
          obtain ⟨r_6, h⟩ := h
          refine ww_i2l dX5_changes_62 r_6 ?_
          refine ww_aload_n dX5_changes_63 2 rfl ?_
          refine tc_p h ⟨Nat.le_of_ble_eq_true rfl, Nat.le_of_ble_eq_true rfl⟩ ⟨Nat.le_refl _, Nat.le_refl _⟩ (Nat.le_of_ble_eq_true rfl) dX5_changes_64 (fun y_7 h => ?_)
          refine tc_modulo h ⟨Nat.le_of_ble_eq_true rfl, Nat.le_of_ble_eq_true rfl⟩ ⟨Nat.le_refl _, Nat.le_refl _⟩ (Nat.le_of_ble_eq_true rfl) dX5_changes_67 (fun y_8 h => ?_)
          obtain ⟨r_9, h⟩ := h
          refine ts_30 r_9 dX5_changes_70 ?_
          refine ww_aload_n dX5_changes_71 3 rfl ?_
          refine ww_iload_n dX5_changes_72 4 rfl ?_
          refine ww_iload dX5_changes_73 11 rfl ?_
          refine ww_iconst dX5_changes_75 ?_
          refine ww_iload dX5_changes_76 6 rfl ?_
          refine ww_ishl dX5_changes_78 ?_
          refine ww_ior dX5_changes_79 ?_
          refine ww_iadd dX5_changes_80 ?_
          refine ww_iload dX5_changes_81 9 rfl ?_
          refine ww_iload dX5_changes_83 1 rfl ?_
          refine ww_imul dX5_changes_85 ?_
          refine ww_iload dX5_changes_86 10 rfl ?_
          refine ww_iload dX5_changes_88 0 rfl ?_
          refine ww_imul dX5_changes_90 ?_
          refine ww_iadd dX5_changes_91 ?_
          obtain ⟨r_10, h⟩ := h
          refine ww_i2l dX5_changes_92 r_10 ?_
          refine ww_aload_n dX5_changes_93 2 rfl ?_
          refine tc_p h ⟨Nat.le_of_ble_eq_true rfl, Nat.le_of_ble_eq_true rfl⟩ ⟨Nat.le_refl _, Nat.le_refl _⟩ (Nat.le_of_ble_eq_true rfl) dX5_changes_94 (fun y_11 h => ?_)
          refine tc_modulo h ⟨Nat.le_of_ble_eq_true rfl, Nat.le_of_ble_eq_true rfl⟩ ⟨Nat.le_refl _, Nat.le_refl _⟩ (Nat.le_of_ble_eq_true rfl) dX5_changes_97 (fun y_12 h => ?_)
          obtain ⟨r_13, h⟩ := h
          refine ts_30 r_13 dX5_changes_100 ?_
          refine ww_lv [2, 3, 4, 5, 6, 7, 8, 9, 10, 11] rfl ?_
          exact kJ101 _ h
        · replace h := h.2 c
          refine ww_goto (tgt := 101) dX5_changes_22 (by decide) ?_
          exact kJ101 _ h
  refine ww_lv [1, 2, 3, 4, 5, 6, 7, 8, 9, 0] rfl ?_
  obtain ⟨m, h⟩ := h
  exact kI3 m _ _ h
theorem tc_changes_30 {S : Type} {G : g_G} {l : Launch} {cc : ByteArray} {nL : Nat} {ret : Option FieldType} {mn : String} {d mc ms : Nat} {R : Option Value → S → Prop} {sh : S → List va_W} {cells slots pc : Nat} {lv : List (Nat × Value)} {st : List Value} {q : Nat → Nat} {fr : va_W} {σ : TS} {a1 : Int} {a2 : Int} {a3 : Int} {a4 : Int} {a5 : Int} {a6 : Int} {a7 : Int} {P : TS → Prop} (h : w_changes_30 σ a1 a2 a3 a4 a5 a6 a7 P) (hR : 1 + 1 ≤ d ∧ 16 + (12 + 11) + 100 * 1 ≤ 100 * d) (hc : cells ≤ mc ∧ slots ≤ ms) (hst : (st.map fun v => v.category).sum ≤ 16) (hdg : decode cc pc = .ok (.invokevirtual 305, 3)) (k : ∀ σ2, P σ2 → WW G l cc RX5 nL ret mn d mc ms R sh cells slots [tw G q σ2, fr] (pc + 3) lv (st)) : WW G l cc RX5 nL ret mn d mc ms R sh cells slots [tw G q σ, fr] pc lv (vI a7 :: vI a6 :: vI a5 :: vI a4 :: vI a3 :: vI a2 :: vI a1 :: .ref (q 30) :: .ref (q 100) :: st) := by
  refine tw_call0 (n := 8) (t_changes_30 (q := q) h) (lw_V q2506 q2508 qs90 q117 q2509) ⟨rfl, by decide, by decide, by decide +kernel⟩ rfl hR hc rfl hst hdg ?_
  exact k
/-! keeps -/
def w_keeps (σ : TS) (P : TS → Prop) : Prop :=
  rI (tF σ 32) ∧
  ∃ J49 : TS → Prop, (∀ (σ49 : TS), J49 σ49 →
    ∃ I51 : Nat → Int → TS → Prop, (∀ (n51 : Nat) (v1_51 : Int) (σ51 : TS), I51 n51 v1_51 σ51 →
      rI v1_51 ∧
      ((117 ≤ v1_51 →
        P (sF σ51 32 ((tF σ51 32) + 1))) ∧
      (v1_51 < 117 →
        (0 ≤ v1_51 ∧ v1_51 < 117) ∧
        (0 ≤ (117 * (tF σ51 32)) + v1_51 ∧ (117 * (tF σ51 32)) + v1_51 < 1404) ∧
        ∃ m : Nat, m < n51 ∧ I51 m (v1_51 + 1) (sA σ51 31 ((117 * (tF σ51 32)) + v1_51) (tA σ51 30 v1_51))))) ∧
    ∃ m : Nat, I51 m 0 σ49) ∧
  ((¬ (tF σ 32) = 12 →
    J49 σ) ∧
  ((tF σ 32) = 12 →
    ∃ I11 : Nat → Int → TS → Prop, (∀ (n11 : Nat) (v1_11 : Int) (σ11 : TS), I11 n11 v1_11 σ11 →
      rI v1_11 ∧
      ((1287 ≤ v1_11 →
        J49 (sF σ11 32 ((tF σ11 32) - 1))) ∧
      (v1_11 < 1287 →
        (0 ≤ v1_11 + 117 ∧ v1_11 + 117 < 1404) ∧
        (0 ≤ v1_11 ∧ v1_11 < 1404) ∧
        ∃ m : Nat, m < n11 ∧ I11 m (v1_11 + 1) (sA σ11 31 v1_11 (tA σ11 31 (v1_11 + 117)))))) ∧
    ∃ m : Nat, I11 m 0 σ))
set_option maxHeartbeats 4000000 in
theorem t_keeps {G : g_G} {l : Launch} {q : Nat → Nat} {σ : TS} {P : TS → Prop} (h : w_keeps σ P) : CT G l yX5_keeps cX5_keeps 2 (Option.none : Option Jvm.ClassFile.FieldType) 0 0 0 [.ref (q 100)] [tw G q σ] (tR0 (fun _ s => P s)) (fun u => [tw G q u.2]) := by
  unfold w_keeps at h
  refine ww_of (by decide) (Nat.le_of_ble_eq_true rfl) (fun fr => ?_)
  show WW G l cX5_keeps RX5 2 (Option.none : Option Jvm.ClassFile.FieldType) "keeps" 0 0 0 (tR0 (fun _ s => P s)) (tS G q fr) 0 0 [tw G q σ, fr] 0 [(0, .ref (q 100))] []
  refine ww_aload_n dX5_keeps_0 0 rfl ?_
  refine tg_32 dX5_keeps_1 ?_
  refine ww_bipush (v := 12) dX5_keeps_4 rfl ?_
  obtain ⟨r_1, h⟩ := h
  obtain ⟨J49, hJ49, h⟩ := h
  have kJ49 : ∀ (σ49 : TS), J49 σ49 → WW G l cX5_keeps RX5 2 (Option.none : Option Jvm.ClassFile.FieldType) "keeps" 0 0 0 (tR0 (fun _ s => P s)) (tS G q fr) 0 0 [tw G q σ49, fr] 49 [(0, .ref (q 100))] [] := by
    intro σ49 hj
    have h := hJ49 σ49 hj
    refine ww_iconst dX5_keeps_49 ?_
    refine ww_istore_n dX5_keeps_50 rfl (Nat.le_of_ble_eq_true rfl) rfl ?_
    obtain ⟨I51, hI51, h⟩ := h
    have kI51 : ∀ (n51 : Nat), ∀ (v1_51 : Int), ∀ (σ51 : TS), I51 n51 v1_51 σ51 → WW G l cX5_keeps RX5 2 (Option.none : Option Jvm.ClassFile.FieldType) "keeps" 0 0 0 (tR0 (fun _ s => P s)) (tS G q fr) 0 0 [tw G q σ51, fr] 51 [(0, .ref (q 100)), (1, vI v1_51)] [] := by
      intro n51
      induction n51 using Nat.strongRecOn with
      | ind n51 ih51 =>
        intro v1_51 σ51 hj
        have h := hI51 n51 v1_51 σ51 hj
        refine ww_iload_n dX5_keeps_51 1 rfl ?_
        refine ww_bipush (v := 117) dX5_keeps_52 rfl ?_
        obtain ⟨r_2, h⟩ := h
        refine ww_icmp_ge (tgt := 83) dX5_keeps_54 (by decide) r_2 (by decide) (fun c => ?_) (fun c => ?_)
        · replace h := h.1 c
          refine ww_aload_n dX5_keeps_83 0 rfl ?_
          refine ww_dup dX5_keeps_84 rfl ?_
          refine tg_32 dX5_keeps_85 ?_
          refine ww_iconst dX5_keeps_88 ?_
          refine ww_iadd dX5_keeps_89 ?_
          refine tp_32 dX5_keeps_90 ?_
          exact ww_vret (0, sF σ51 32 ((tF σ51 32) + 1)) rfl ⟨rfl, h⟩ rfl (Nat.le_refl _) (Nat.le_refl _) dX5_keeps_93
        · replace h := h.2 (Int.not_le.mp c)
          refine ww_aload_n dX5_keeps_57 0 rfl ?_
          refine tg_31 dX5_keeps_58 ?_
          refine ww_bipush (v := 117) dX5_keeps_61 rfl ?_
          refine ww_aload_n dX5_keeps_63 0 rfl ?_
          refine tg_32 dX5_keeps_64 ?_
          refine ww_imul dX5_keeps_67 ?_
          refine ww_iload_n dX5_keeps_68 1 rfl ?_
          refine ww_iadd dX5_keeps_69 ?_
          refine ww_aload_n dX5_keeps_70 0 rfl ?_
          refine tg_30 dX5_keeps_71 ?_
          refine ww_iload_n dX5_keeps_74 1 rfl ?_
          obtain ⟨r_3, h⟩ := h
          refine ta_30 r_3 dX5_keeps_75 ?_
          obtain ⟨r_4, h⟩ := h
          refine ts_31 r_4 dX5_keeps_76 ?_
          refine ww_iinc dX5_keeps_77 1 rfl (Nat.le_of_ble_eq_true rfl) rfl ?_
          refine ww_goto (tgt := 51) dX5_keeps_80 (by decide) ?_
          refine ww_lv [1, 0] rfl ?_
          obtain ⟨m, hm, h⟩ := h
          exact ih51 m hm _ _ h
    refine ww_lv [1, 0] rfl ?_
    obtain ⟨m, h⟩ := h
    exact kI51 m _ _ h
  refine ww_icmp_ne (tgt := 49) dX5_keeps_6 (by decide) r_1 (by decide) (fun c => ?_) (fun c => ?_)
  · replace h := h.1 c
    exact kJ49 _ h
  · replace h := h.2 c
    refine ww_iconst dX5_keeps_9 ?_
    refine ww_istore_n dX5_keeps_10 rfl (Nat.le_of_ble_eq_true rfl) rfl ?_
    obtain ⟨I11, hI11, h⟩ := h
    have kI11 : ∀ (n11 : Nat), ∀ (v1_11 : Int), ∀ (σ11 : TS), I11 n11 v1_11 σ11 → WW G l cX5_keeps RX5 2 (Option.none : Option Jvm.ClassFile.FieldType) "keeps" 0 0 0 (tR0 (fun _ s => P s)) (tS G q fr) 0 0 [tw G q σ11, fr] 11 [(0, .ref (q 100)), (1, vI v1_11)] [] := by
      intro n11
      induction n11 using Nat.strongRecOn with
      | ind n11 ih11 =>
        intro v1_11 σ11 hj
        have h := hI11 n11 v1_11 σ11 hj
        refine ww_iload_n dX5_keeps_11 1 rfl ?_
        refine ww_sipush (v := 1287) dX5_keeps_12 rfl ?_
        obtain ⟨r_5, h⟩ := h
        refine ww_icmp_ge (tgt := 39) dX5_keeps_15 (by decide) r_5 (by decide) (fun c => ?_) (fun c => ?_)
        · replace h := h.1 c
          refine ww_aload_n dX5_keeps_39 0 rfl ?_
          refine ww_dup dX5_keeps_40 rfl ?_
          refine tg_32 dX5_keeps_41 ?_
          refine ww_iconst dX5_keeps_44 ?_
          refine ww_isub dX5_keeps_45 ?_
          refine tp_32 dX5_keeps_46 ?_
          refine ww_lv [0] rfl ?_
          exact kJ49 _ h
        · replace h := h.2 (Int.not_le.mp c)
          refine ww_aload_n dX5_keeps_18 0 rfl ?_
          refine tg_31 dX5_keeps_19 ?_
          refine ww_iload_n dX5_keeps_22 1 rfl ?_
          refine ww_aload_n dX5_keeps_23 0 rfl ?_
          refine tg_31 dX5_keeps_24 ?_
          refine ww_iload_n dX5_keeps_27 1 rfl ?_
          refine ww_bipush (v := 117) dX5_keeps_28 rfl ?_
          refine ww_iadd dX5_keeps_30 ?_
          obtain ⟨r_6, h⟩ := h
          refine ta_31 r_6 dX5_keeps_31 ?_
          obtain ⟨r_7, h⟩ := h
          refine ts_31 r_7 dX5_keeps_32 ?_
          refine ww_iinc dX5_keeps_33 1 rfl (Nat.le_of_ble_eq_true rfl) rfl ?_
          refine ww_goto (tgt := 11) dX5_keeps_36 (by decide) ?_
          refine ww_lv [1, 0] rfl ?_
          obtain ⟨m, hm, h⟩ := h
          exact ih11 m hm _ _ h
    refine ww_lv [1, 0] rfl ?_
    obtain ⟨m, h⟩ := h
    exact kI11 m _ _ h
theorem tc_keeps {S : Type} {G : g_G} {l : Launch} {cc : ByteArray} {nL : Nat} {ret : Option FieldType} {mn : String} {d mc ms : Nat} {R : Option Value → S → Prop} {sh : S → List va_W} {cells slots pc : Nat} {lv : List (Nat × Value)} {st : List Value} {q : Nat → Nat} {fr : va_W} {σ : TS} {P : TS → Prop} (h : w_keeps σ P) (hR : 0 + 1 ≤ d ∧ 16 + (2 + 11) + 100 * 0 ≤ 100 * d) (hc : cells ≤ mc ∧ slots ≤ ms) (hst : (st.map fun v => v.category).sum ≤ 16) (hdg : decode cc pc = .ok (.invokevirtual 364, 3)) (k : ∀ σ2, P σ2 → WW G l cc RX5 nL ret mn d mc ms R sh cells slots [tw G q σ2, fr] (pc + 3) lv (st)) : WW G l cc RX5 nL ret mn d mc ms R sh cells slots [tw G q σ, fr] pc lv (.ref (q 100) :: st) := by
  refine tw_call0 (n := 0) (t_keeps (q := q) h) (lw_V q2614 q2616 qs105 q117 q2617) ⟨rfl, by decide, by decide, by decide +kernel⟩ rfl hR hc rfl hst hdg ?_
  exact k
/-! change -/
def w_change (σ : TS) (a1 : Int) (a2 : Int) (P : Int → TS → Prop) : Prop :=
  w_isWire (sF σ 0 0) a1 (fun y_1 =>
    ((y_1 = 0 →
      P 0 (sF σ 0 0)) ∧
    (¬ y_1 = 0 →
      w_isBase (sF σ 0 0) a2 (fun y_3 =>
        ((¬ y_3 = 0 →
          w_keeps (sF σ 0 0) (fun σ_5 =>
            (0 ≤ 96 + (2 * a1) ∧ 96 + (2 * a1) < 117) ∧
            ∀ x_7 : Int, x_7 = tA σ_5 30 (96 + (2 * a1)) →
            (0 ≤ (96 + (2 * a1)) + 1 ∧ (96 + (2 * a1)) + 1 < 117) ∧
            ∀ x_9 : Int, x_9 = tA σ_5 30 ((96 + (2 * a1)) + 1) →
            w_det σ_5 a2 (fun y_10 =>
              w_inverse σ_5 y_10 (fun y_11 =>
                (0 ≤ 4 * a2 ∧ 4 * a2 < 40) ∧
                ∀ x_13 : Int, x_13 = tA σ_5 22 (4 * a2) →
                (0 ≤ (4 * a2) + 2 ∧ (4 * a2) + 2 < 40) ∧
                ∀ x_15 : Int, x_15 = tA σ_5 22 ((4 * a2) + 2) →
                (0 ≤ (4 * a2) + 3 ∧ (4 * a2) + 3 < 40) ∧
                ∀ x_17 : Int, x_17 = tA σ_5 22 ((4 * a2) + 3) →
                (0 ≤ x_7 ∧ x_7 < 2147483648 ∧ (0 : Int) < 4 ∧ (4 : Int) < 2147483648) ∧
                (0 ≤ x_7 ∧ x_7 < 2147483648 ∧ (0 : Int) < 4 ∧ (4 : Int) < 2147483648) ∧
                w_legsAt σ_5 (x_7 / 4) (fun y_20 =>
                  (0 ≤ x_7 ∧ x_7 < 2147483648 ∧ (0 : Int) < 4 ∧ (4 : Int) < 2147483648) ∧
                  (0 ≤ (4 * a2) + 1 ∧ (4 * a2) + 1 < 40) ∧
                  w_changes_30 σ_5 (16 * (x_7 / 4)) y_20 (x_7 % 4) x_13 (tA σ_5 22 ((4 * a2) + 1)) x_15 x_17 (fun σ_23 =>
                    (0 ≤ x_9 ∧ x_9 < 2147483648 ∧ (0 : Int) < 4 ∧ (4 : Int) < 2147483648) ∧
                    (0 ≤ x_9 ∧ x_9 < 2147483648 ∧ (0 : Int) < 4 ∧ (4 : Int) < 2147483648) ∧
                    w_legsAt σ_23 (x_9 / 4) (fun y_26 =>
                      (0 ≤ x_9 ∧ x_9 < 2147483648 ∧ (0 : Int) < 4 ∧ (4 : Int) < 2147483648) ∧
                      w_p σ_23 (fun y_28 =>
                        (0 ≤ x_17 * y_11 ∧ (x_17 * y_11) < 2147483648 ∧ (0 : Int) < y_28 ∧ (y_28 : Int) < 2147483648) ∧
                        rI ((-x_15) * y_11) ∧
                        w_p σ_23 (fun y_31 =>
                          w_modulo ((-x_15) * y_11) y_31 (fun y_32 =>
                            (0 ≤ (4 * a2) + 1 ∧ (4 * a2) + 1 < 40) ∧
                            rI ((-(tA σ_23 22 ((4 * a2) + 1))) * y_11) ∧
                            w_p σ_23 (fun y_35 =>
                              w_modulo ((-(tA σ_23 22 ((4 * a2) + 1))) * y_11) y_35 (fun y_36 =>
                                w_p σ_23 (fun y_37 =>
                                  (0 ≤ x_13 * y_11 ∧ (x_13 * y_11) < 2147483648 ∧ (0 : Int) < y_37 ∧ (y_37 : Int) < 2147483648) ∧
                                  w_changes_30 σ_23 (16 * (x_9 / 4)) y_26 (x_9 % 4) ((x_17 * y_11) % y_28) y_32 y_36 ((x_13 * y_11) % y_37) (fun σ_39 =>
                                    P 1 σ_39)))))))))))))) ∧
        (y_3 = 0 →
          P 0 (sF σ 0 0)))))))
set_option maxHeartbeats 4000000 in
theorem t_change {G : g_G} {l : Launch} {q : Nat → Nat} {σ : TS} {a1 : Int} {a2 : Int} {P : Int → TS → Prop} (h : w_change σ a1 a2 P) : CT G l yX5_change cX5_change 9 (Option.some Jvm.ClassFile.FieldType.boolean) 2 0 0 [.ref (q 100), vI a1, vI a2] [tw G q σ] (tR2 (P)) (fun u => [tw G q u.2]) := by
  unfold w_change at h
  refine ww_of (by decide) (Nat.le_of_ble_eq_true rfl) (fun fr => ?_)
  show WW G l cX5_change RX5 9 (Option.some Jvm.ClassFile.FieldType.boolean) "change" 2 0 0 (tR2 (P)) (tS G q fr) 0 0 [tw G q σ, fr] 0 [(0, .ref (q 100)), (1, vI a1), (2, vI a2)] []
  refine ww_aload_n dX5_change_0 0 rfl ?_
  refine ww_iconst dX5_change_1 ?_
  refine tp_0 dX5_change_2 ?_
  refine ww_aload_n dX5_change_5 0 rfl ?_
  refine ww_iload_n dX5_change_6 1 rfl ?_
  refine tc_isWire h ⟨Nat.le_of_ble_eq_true rfl, Nat.le_of_ble_eq_true rfl⟩ ⟨Nat.le_refl _, Nat.le_refl _⟩ (Nat.le_of_ble_eq_true rfl) dX5_change_7 (fun y_1 z_2 h => ?_)
  refine ww_if_eq (tgt := 21) dX5_change_10 (by decide) (z01 z_2) (fun c => ?_) (fun c => ?_)
  · replace h := h.1 c
    refine ww_iconst dX5_change_21 ?_
    exact ww_zret (0, sF σ 0 0) rfl (Or.inl rfl) ⟨rfl, (Or.inl rfl), h⟩ rfl (Nat.le_refl _) (Nat.le_refl _) dX5_change_22
  · replace h := h.2 c
    refine ww_aload_n dX5_change_13 0 rfl ?_
    refine ww_iload_n dX5_change_14 2 rfl ?_
    refine tc_isBase h ⟨Nat.le_of_ble_eq_true rfl, Nat.le_of_ble_eq_true rfl⟩ ⟨Nat.le_refl _, Nat.le_refl _⟩ (Nat.le_of_ble_eq_true rfl) dX5_change_15 (fun y_3 z_4 h => ?_)
    refine ww_if_ne (tgt := 23) dX5_change_18 (by decide) (z01 z_4) (fun c => ?_) (fun c => ?_)
    · replace h := h.1 c
      refine ww_aload_n dX5_change_23 0 rfl ?_
      refine tc_keeps h ⟨Nat.le_of_ble_eq_true rfl, Nat.le_of_ble_eq_true rfl⟩ ⟨Nat.le_refl _, Nat.le_refl _⟩ (Nat.le_of_ble_eq_true rfl) dX5_change_24 (fun σ_5 h => ?_)
      refine ww_aload_n dX5_change_27 0 rfl ?_
      refine tg_30 dX5_change_28 ?_
      refine ww_bipush (v := 96) dX5_change_31 rfl ?_
      refine ww_iconst dX5_change_33 ?_
      refine ww_iload_n dX5_change_34 1 rfl ?_
      refine ww_imul dX5_change_35 ?_
      refine ww_iadd dX5_change_36 ?_
      obtain ⟨r_6, h⟩ := h
      refine ta_30 r_6 dX5_change_37 ?_
      refine ww_nmI (fun x_7 ex_7 => ?_)
      replace h := h x_7 ex_7
      refine ww_istore_n dX5_change_38 rfl (Nat.le_of_ble_eq_true rfl) rfl ?_
      refine ww_aload_n dX5_change_39 1 rfl ?_
      refine tg_30 dX5_change_40 ?_
      refine ww_bipush (v := 96) dX5_change_43 rfl ?_
      refine ww_iconst dX5_change_45 ?_
      refine ww_iload_n dX5_change_46 2 rfl ?_
      refine ww_imul dX5_change_47 ?_
      refine ww_iadd dX5_change_48 ?_
      refine ww_iconst dX5_change_49 ?_
      refine ww_iadd dX5_change_50 ?_
      obtain ⟨r_8, h⟩ := h
      refine ta_30 r_8 dX5_change_51 ?_
      refine ww_nmI (fun x_9 ex_9 => ?_)
      replace h := h x_9 ex_9
      refine ww_istore dX5_change_52 (Nat.le_of_ble_eq_true rfl) rfl ?_
      refine ww_aload_n dX5_change_54 2 rfl ?_
      refine ww_aload_n dX5_change_55 2 rfl ?_
      refine ww_iload_n dX5_change_56 4 rfl ?_
      refine tc_det h ⟨Nat.le_of_ble_eq_true rfl, Nat.le_of_ble_eq_true rfl⟩ ⟨Nat.le_refl _, Nat.le_refl _⟩ (Nat.le_of_ble_eq_true rfl) dX5_change_57 (fun y_10 h => ?_)
      refine tc_inverse h ⟨Nat.le_of_ble_eq_true rfl, Nat.le_of_ble_eq_true rfl⟩ ⟨Nat.le_refl _, Nat.le_refl _⟩ (Nat.le_of_ble_eq_true rfl) dX5_change_60 (fun y_11 h => ?_)
      refine ww_istore dX5_change_63 (Nat.le_of_ble_eq_true rfl) rfl ?_
      refine ww_aload_n dX5_change_65 3 rfl ?_
      refine tg_22 dX5_change_66 ?_
      refine ww_iconst dX5_change_69 ?_
      refine ww_iload_n dX5_change_70 5 rfl ?_
      refine ww_imul dX5_change_71 ?_
      obtain ⟨r_12, h⟩ := h
      refine ta_22 r_12 dX5_change_72 ?_
      refine ww_nmI (fun x_13 ex_13 => ?_)
      replace h := h x_13 ex_13
      refine ww_istore dX5_change_73 (Nat.le_of_ble_eq_true rfl) rfl ?_
      refine ww_aload_n dX5_change_75 4 rfl ?_
      refine tg_22 dX5_change_76 ?_
      refine ww_iconst dX5_change_79 ?_
      refine ww_iload_n dX5_change_80 6 rfl ?_
      refine ww_imul dX5_change_81 ?_
      refine ww_iconst dX5_change_82 ?_
      refine ww_iadd dX5_change_83 ?_
      obtain ⟨r_14, h⟩ := h
      refine ta_22 r_14 dX5_change_84 ?_
      refine ww_nmI (fun x_15 ex_15 => ?_)
      replace h := h x_15 ex_15
      refine ww_istore dX5_change_85 (Nat.le_of_ble_eq_true rfl) rfl ?_
      refine ww_aload_n dX5_change_87 5 rfl ?_
      refine tg_22 dX5_change_88 ?_
      refine ww_iconst dX5_change_91 ?_
      refine ww_iload_n dX5_change_92 7 rfl ?_
      refine ww_imul dX5_change_93 ?_
      refine ww_iconst dX5_change_94 ?_
      refine ww_iadd dX5_change_95 ?_
      obtain ⟨r_16, h⟩ := h
      refine ta_22 r_16 dX5_change_96 ?_
      refine ww_nmI (fun x_17 ex_17 => ?_)
      replace h := h x_17 ex_17
      refine ww_istore dX5_change_97 (Nat.le_of_ble_eq_true rfl) rfl ?_
      refine ww_aload_n dX5_change_99 6 rfl ?_
      refine ww_aload_n dX5_change_100 6 rfl ?_
      refine tg_30 dX5_change_101 ?_
      refine ww_bipush (v := 16) dX5_change_104 rfl ?_
      refine ww_iload_n dX5_change_106 5 rfl ?_
      refine ww_iconst dX5_change_107 ?_
      obtain ⟨r_18, h⟩ := h
      refine ww_idiv dX5_change_108 r_18 ?_
      refine ww_imul dX5_change_109 ?_
      refine ww_aload_n dX5_change_110 6 rfl ?_
      refine ww_iload_n dX5_change_111 5 rfl ?_
      refine ww_iconst dX5_change_112 ?_
      obtain ⟨r_19, h⟩ := h
      refine ww_idiv dX5_change_113 r_19 ?_
      refine tc_legsAt h ⟨Nat.le_of_ble_eq_true rfl, Nat.le_of_ble_eq_true rfl⟩ ⟨Nat.le_refl _, Nat.le_refl _⟩ (Nat.le_of_ble_eq_true rfl) dX5_change_114 (fun y_20 h => ?_)
      refine ww_iload_n dX5_change_117 5 rfl ?_
      refine ww_iconst dX5_change_118 ?_
      obtain ⟨r_21, h⟩ := h
      refine ww_irem dX5_change_119 r_21 ?_
      refine ww_iload dX5_change_120 2 rfl ?_
      refine ww_aload_n dX5_change_122 6 rfl ?_
      refine tg_22 dX5_change_123 ?_
      refine ww_iconst dX5_change_126 ?_
      refine ww_iload_n dX5_change_127 8 rfl ?_
      refine ww_imul dX5_change_128 ?_
      refine ww_iconst dX5_change_129 ?_
      refine ww_iadd dX5_change_130 ?_
      obtain ⟨r_22, h⟩ := h
      refine ta_22 r_22 dX5_change_131 ?_
      refine ww_iload dX5_change_132 1 rfl ?_
      refine ww_iload dX5_change_134 0 rfl ?_
      refine tc_changes_30 h ⟨Nat.le_of_ble_eq_true rfl, Nat.le_of_ble_eq_true rfl⟩ ⟨Nat.le_refl _, Nat.le_refl _⟩ (Nat.le_of_ble_eq_true rfl) dX5_change_136 (fun σ_23 h => ?_)
      refine ww_aload_n dX5_change_139 6 rfl ?_
      refine ww_aload_n dX5_change_140 6 rfl ?_
      refine tg_30 dX5_change_141 ?_
      refine ww_bipush (v := 16) dX5_change_144 rfl ?_
      refine ww_iload dX5_change_146 4 rfl ?_
      refine ww_iconst dX5_change_148 ?_
      obtain ⟨r_24, h⟩ := h
      refine ww_idiv dX5_change_149 r_24 ?_
      refine ww_imul dX5_change_150 ?_
      refine ww_aload_n dX5_change_151 6 rfl ?_
      refine ww_iload dX5_change_152 4 rfl ?_
      refine ww_iconst dX5_change_154 ?_
      obtain ⟨r_25, h⟩ := h
      refine ww_idiv dX5_change_155 r_25 ?_
      refine tc_legsAt h ⟨Nat.le_of_ble_eq_true rfl, Nat.le_of_ble_eq_true rfl⟩ ⟨Nat.le_refl _, Nat.le_refl _⟩ (Nat.le_of_ble_eq_true rfl) dX5_change_156 (fun y_26 h => ?_)
      refine ww_iload dX5_change_159 4 rfl ?_
      refine ww_iconst dX5_change_161 ?_
      obtain ⟨r_27, h⟩ := h
      refine ww_irem dX5_change_162 r_27 ?_
      refine ww_iload dX5_change_163 0 rfl ?_
      refine ww_iload dX5_change_165 3 rfl ?_
      refine ww_imul dX5_change_167 ?_
      refine ww_aload_n dX5_change_168 6 rfl ?_
      refine tc_p h ⟨Nat.le_of_ble_eq_true rfl, Nat.le_of_ble_eq_true rfl⟩ ⟨Nat.le_refl _, Nat.le_refl _⟩ (Nat.le_of_ble_eq_true rfl) dX5_change_169 (fun y_28 h => ?_)
      obtain ⟨r_29, h⟩ := h
      refine ww_irem dX5_change_172 r_29 ?_
      refine ww_iload dX5_change_173 1 rfl ?_
      refine ww_ineg dX5_change_175 ?_
      refine ww_iload dX5_change_176 3 rfl ?_
      refine ww_imul dX5_change_178 ?_
      obtain ⟨r_30, h⟩ := h
      refine ww_i2l dX5_change_179 r_30 ?_
      refine ww_aload_n dX5_change_180 6 rfl ?_
      refine tc_p h ⟨Nat.le_of_ble_eq_true rfl, Nat.le_of_ble_eq_true rfl⟩ ⟨Nat.le_refl _, Nat.le_refl _⟩ (Nat.le_of_ble_eq_true rfl) dX5_change_181 (fun y_31 h => ?_)
      refine tc_modulo h ⟨Nat.le_of_ble_eq_true rfl, Nat.le_of_ble_eq_true rfl⟩ ⟨Nat.le_refl _, Nat.le_refl _⟩ (Nat.le_of_ble_eq_true rfl) dX5_change_184 (fun y_32 h => ?_)
      refine ww_aload_n dX5_change_187 6 rfl ?_
      refine tg_22 dX5_change_188 ?_
      refine ww_iconst dX5_change_191 ?_
      refine ww_iload_n dX5_change_192 8 rfl ?_
      refine ww_imul dX5_change_193 ?_
      refine ww_iconst dX5_change_194 ?_
      refine ww_iadd dX5_change_195 ?_
      obtain ⟨r_33, h⟩ := h
      refine ta_22 r_33 dX5_change_196 ?_
      refine ww_ineg dX5_change_197 ?_
      refine ww_iload dX5_change_198 3 rfl ?_
      refine ww_imul dX5_change_200 ?_
      obtain ⟨r_34, h⟩ := h
      refine ww_i2l dX5_change_201 r_34 ?_
      refine ww_aload_n dX5_change_202 6 rfl ?_
      refine tc_p h ⟨Nat.le_of_ble_eq_true rfl, Nat.le_of_ble_eq_true rfl⟩ ⟨Nat.le_refl _, Nat.le_refl _⟩ (Nat.le_of_ble_eq_true rfl) dX5_change_203 (fun y_35 h => ?_)
      refine tc_modulo h ⟨Nat.le_of_ble_eq_true rfl, Nat.le_of_ble_eq_true rfl⟩ ⟨Nat.le_refl _, Nat.le_refl _⟩ (Nat.le_of_ble_eq_true rfl) dX5_change_206 (fun y_36 h => ?_)
      refine ww_iload dX5_change_209 2 rfl ?_
      refine ww_iload dX5_change_211 3 rfl ?_
      refine ww_imul dX5_change_213 ?_
      refine ww_aload_n dX5_change_214 6 rfl ?_
      refine tc_p h ⟨Nat.le_of_ble_eq_true rfl, Nat.le_of_ble_eq_true rfl⟩ ⟨Nat.le_refl _, Nat.le_refl _⟩ (Nat.le_of_ble_eq_true rfl) dX5_change_215 (fun y_37 h => ?_)
      obtain ⟨r_38, h⟩ := h
      refine ww_irem dX5_change_218 r_38 ?_
      refine tc_changes_30 h ⟨Nat.le_of_ble_eq_true rfl, Nat.le_of_ble_eq_true rfl⟩ ⟨Nat.le_refl _, Nat.le_refl _⟩ (Nat.le_of_ble_eq_true rfl) dX5_change_219 (fun σ_39 h => ?_)
      refine ww_iconst dX5_change_222 ?_
      exact ww_zret (1, σ_39) rfl (Or.inr rfl) ⟨rfl, (Or.inr rfl), h⟩ rfl (Nat.le_refl _) (Nat.le_refl _) dX5_change_223
    · replace h := h.2 c
      refine ww_iconst dX5_change_21 ?_
      exact ww_zret (0, sF σ 0 0) rfl (Or.inl rfl) ⟨rfl, (Or.inl rfl), h⟩ rfl (Nat.le_refl _) (Nat.le_refl _) dX5_change_22

