/-! THE TWIN: weakest preconditions and walks (printed by tools/twin.py) -/
set_option maxRecDepth 100000
/-! tableLine -/
def w_tableLine (σ : TS) (P : Int → TS → Prop) : Prop :=
  w_newName σ (fun y_1 σ_2 =>
    ((¬ y_1 = 0 →
      (0 ≤ tF σ_2 12 ∧ tF σ_2 12 < 2) ∧
      ∀ x_5 : Int, x_5 = (8 * (tF σ_2 12)) + (tA σ_2 14 (tF σ_2 12)) →
      w_takesNumber σ_2 1 4 (fun y_6 σ_7 =>
        ((¬ y_6 = 0 →
          (0 ≤ x_5 ∧ x_5 < 16) ∧
          ∃ I56 : Nat → Int → TS → Prop, (∀ (n56 : Nat) (v4_56 : Int) (σ56 : TS), I56 n56 v4_56 σ56 →
            (0 ≤ x_5 ∧ x_5 < 16) ∧
            rI v4_56 ∧
            (((bL 1 (tA σ56 20 x_5)) ≤ v4_56 →
              (0 ≤ x_5 ∧ x_5 < 16) ∧
              (0 ≤ tF σ56 12 ∧ tF σ56 12 < 2) ∧
              (0 ≤ tF σ56 12 ∧ tF σ56 12 < 2) ∧
              P 1 (sA (sA σ56 17 x_5 (tF σ_2 26)) 14 (tF σ56 12) ((tA σ56 14 (tF σ56 12)) + 1))) ∧
            (v4_56 < (bL 1 (tA σ56 20 x_5)) →
              (0 ≤ tF σ56 12 ∧ tF σ56 12 < 2) ∧
              w_takesNumber σ56 0 ((tA σ56 13 (tF σ56 12)) - 1) (fun y_16 σ_17 =>
                ((¬ y_16 = 0 →
                  (0 ≤ (16 * x_5) + v4_56 ∧ (16 * x_5) + v4_56 < 256) ∧
                  ∃ m : Nat, m < n56 ∧ I56 m (v4_56 + 1) (sA σ_17 21 ((16 * x_5) + v4_56) (tF σ_17 11))) ∧
                (y_16 = 0 →
                  P 0 σ_17)))))) ∧
          ∃ m : Nat, I56 m 0 (sA σ_7 20 x_5 (tF σ_7 11))) ∧
        (y_6 = 0 →
          P 0 σ_7)))) ∧
    (y_1 = 0 →
      P 0 σ_2)))
set_option maxHeartbeats 4000000 in
theorem t_tableLine {G : g_G} {l : Launch} {q : Nat → Nat} {σ : TS} {P : Int → TS → Prop} (h : w_tableLine σ P) : CT G l yX5_tableLine cX5_tableLine 5 (Option.some Jvm.ClassFile.FieldType.boolean) 11 0 0 [.ref (q 100)] [tw G q σ] (tR2 (P)) (fun u => [tw G q u.2]) := by
  unfold w_tableLine at h
  refine ww_of (by decide) (Nat.le_of_ble_eq_true rfl) (fun fr => ?_)
  show WW G l cX5_tableLine RX5 5 (Option.some Jvm.ClassFile.FieldType.boolean) "tableLine" 11 0 0 (tR2 (P)) (tS G q fr) 0 0 [tw G q σ, fr] 0 [(0, .ref (q 100))] []
  refine ww_aload_n dX5_tableLine_0 0 rfl ?_
  refine tc_newName h ⟨Nat.le_of_ble_eq_true rfl, Nat.le_of_ble_eq_true rfl⟩ ⟨Nat.le_refl _, Nat.le_refl _⟩ (Nat.le_of_ble_eq_true rfl) dX5_tableLine_1 (fun y_1 σ_2 z_3 h => ?_)
  refine ww_if_ne (tgt := 9) dX5_tableLine_4 (by decide) (z01 z_3) (fun c => ?_) (fun c => ?_)
  · replace h := h.1 c
    refine ww_bipush (v := 8) dX5_tableLine_9 rfl ?_
    refine ww_aload_n dX5_tableLine_11 0 rfl ?_
    refine tg_12 dX5_tableLine_12 ?_
    refine ww_imul dX5_tableLine_15 ?_
    refine ww_aload_n dX5_tableLine_16 0 rfl ?_
    refine tg_14 dX5_tableLine_17 ?_
    refine ww_aload_n dX5_tableLine_20 0 rfl ?_
    refine tg_12 dX5_tableLine_21 ?_
    obtain ⟨r_4, h⟩ := h
    refine ta_14 r_4 dX5_tableLine_24 ?_
    refine ww_iadd dX5_tableLine_25 ?_
    refine ww_nmI (fun x_5 ex_5 => ?_)
    replace h := h x_5 ex_5
    refine ww_istore_n dX5_tableLine_26 rfl (Nat.le_of_ble_eq_true rfl) rfl ?_
    refine ww_aload_n dX5_tableLine_27 1 rfl ?_
    refine tg_26 dX5_tableLine_28 ?_
    refine ww_lstore_n dX5_tableLine_31 rfl (Nat.le_of_ble_eq_true rfl) rfl ?_
    refine ww_aload_n dX5_tableLine_32 2 rfl ?_
    refine ww_iconst dX5_tableLine_33 ?_
    refine ww_iconst dX5_tableLine_34 ?_
    refine tc_takesNumber h ⟨Nat.le_of_ble_eq_true rfl, Nat.le_of_ble_eq_true rfl⟩ ⟨Nat.le_refl _, Nat.le_refl _⟩ (Nat.le_of_ble_eq_true rfl) dX5_tableLine_35 (fun y_6 σ_7 z_8 h => ?_)
    refine ww_if_ne (tgt := 43) dX5_tableLine_38 (by decide) (z01 z_8) (fun c => ?_) (fun c => ?_)
    · replace h := h.1 c
      refine ww_aload_n dX5_tableLine_43 2 rfl ?_
      refine tg_20 dX5_tableLine_44 ?_
      refine ww_iload_n dX5_tableLine_47 1 rfl ?_
      refine ww_aload_n dX5_tableLine_48 2 rfl ?_
      refine tg_11 dX5_tableLine_49 ?_
      obtain ⟨r_9, h⟩ := h
      refine ts_20 r_9 dX5_tableLine_52 ?_
      refine ww_iconst dX5_tableLine_53 ?_
      refine ww_istore dX5_tableLine_54 (Nat.le_of_ble_eq_true rfl) rfl ?_
      obtain ⟨I56, hI56, h⟩ := h
      have kI56 : ∀ (n56 : Nat), ∀ (v4_56 : Int), ∀ (σ56 : TS), I56 n56 v4_56 σ56 → WW G l cX5_tableLine RX5 5 (Option.some Jvm.ClassFile.FieldType.boolean) "tableLine" 11 0 0 (tR2 (P)) (tS G q fr) 0 0 [tw G q σ56, fr] 56 [(0, .ref (q 100)), (1, vI x_5), (2, vL (tF σ_2 26)), (4, vI v4_56)] [] := by
        intro n56
        induction n56 using Nat.strongRecOn with
        | ind n56 ih56 =>
          intro v4_56 σ56 hj
          have h := hI56 n56 v4_56 σ56 hj
          refine ww_iload dX5_tableLine_56 3 rfl ?_
          refine ww_iconst dX5_tableLine_58 ?_
          refine ww_aload_n dX5_tableLine_59 0 rfl ?_
          refine tg_20 dX5_tableLine_60 ?_
          refine ww_iload_n dX5_tableLine_63 1 rfl ?_
          obtain ⟨r_10, h⟩ := h
          refine ta_20 r_10 dX5_tableLine_64 ?_
          refine ww_ishl dX5_tableLine_65 ?_
          obtain ⟨r_11, h⟩ := h
          refine ww_icmp_ge (tgt := 112) dX5_tableLine_66 (by decide) r_11 (rI_bL _ _) (fun c => ?_) (fun c => ?_)
          · replace h := h.1 c
            refine ww_aload_n dX5_tableLine_112 0 rfl ?_
            refine tg_17 dX5_tableLine_113 ?_
            refine ww_iload_n dX5_tableLine_116 1 rfl ?_
            refine ww_lload_n dX5_tableLine_117 2 rfl ?_
            obtain ⟨r_12, h⟩ := h
            refine ts_17 r_12 dX5_tableLine_118 ?_
            refine ww_aload_n dX5_tableLine_119 0 rfl ?_
            refine tg_14 dX5_tableLine_120 ?_
            refine ww_aload_n dX5_tableLine_123 0 rfl ?_
            refine tg_12 dX5_tableLine_124 ?_
            refine ww_dup2 dX5_tableLine_127 rfl rfl ?_
            obtain ⟨r_13, h⟩ := h
            refine ta_14 r_13 dX5_tableLine_128 ?_
            refine ww_iconst dX5_tableLine_129 ?_
            refine ww_iadd dX5_tableLine_130 ?_
            obtain ⟨r_14, h⟩ := h
            refine ts_14 r_14 dX5_tableLine_131 ?_
            refine ww_iconst dX5_tableLine_132 ?_
            exact ww_zret (1, sA (sA σ56 17 x_5 (tF σ_2 26)) 14 (tF σ56 12) ((tA σ56 14 (tF σ56 12)) + 1)) rfl (Or.inr rfl) ⟨rfl, (Or.inr rfl), h⟩ rfl (Nat.le_refl _) (Nat.le_refl _) dX5_tableLine_133
          · replace h := h.2 (Int.not_le.mp c)
            refine ww_aload_n dX5_tableLine_69 0 rfl ?_
            refine ww_iconst dX5_tableLine_70 ?_
            refine ww_aload_n dX5_tableLine_71 0 rfl ?_
            refine tg_13 dX5_tableLine_72 ?_
            refine ww_aload_n dX5_tableLine_75 0 rfl ?_
            refine tg_12 dX5_tableLine_76 ?_
            obtain ⟨r_15, h⟩ := h
            refine ta_13 r_15 dX5_tableLine_79 ?_
            refine ww_iconst dX5_tableLine_80 ?_
            refine ww_isub dX5_tableLine_81 ?_
            refine tc_takesNumber h ⟨Nat.le_of_ble_eq_true rfl, Nat.le_of_ble_eq_true rfl⟩ ⟨Nat.le_refl _, Nat.le_refl _⟩ (Nat.le_of_ble_eq_true rfl) dX5_tableLine_82 (fun y_16 σ_17 z_18 h => ?_)
            refine ww_if_ne (tgt := 90) dX5_tableLine_85 (by decide) (z01 z_18) (fun c => ?_) (fun c => ?_)
            · replace h := h.1 c
              refine ww_aload_n dX5_tableLine_90 0 rfl ?_
              refine tg_21 dX5_tableLine_91 ?_
              refine ww_bipush (v := 16) dX5_tableLine_94 rfl ?_
              refine ww_iload_n dX5_tableLine_96 1 rfl ?_
              refine ww_imul dX5_tableLine_97 ?_
              refine ww_iload dX5_tableLine_98 3 rfl ?_
              refine ww_iadd dX5_tableLine_100 ?_
              refine ww_aload_n dX5_tableLine_101 0 rfl ?_
              refine tg_11 dX5_tableLine_102 ?_
              obtain ⟨r_19, h⟩ := h
              refine ts_21 r_19 dX5_tableLine_105 ?_
              refine ww_iinc dX5_tableLine_106 3 rfl (Nat.le_of_ble_eq_true rfl) rfl ?_
              refine ww_goto (tgt := 56) dX5_tableLine_109 (by decide) ?_
              refine ww_lv [1, 2, 3, 0] rfl ?_
              obtain ⟨m, hm, h⟩ := h
              exact ih56 m hm _ _ h
            · replace h := h.2 c
              refine ww_iconst dX5_tableLine_88 ?_
              exact ww_zret (0, σ_17) rfl (Or.inl rfl) ⟨rfl, (Or.inl rfl), h⟩ rfl (Nat.le_refl _) (Nat.le_refl _) dX5_tableLine_89
      refine ww_lv [3, 2, 1, 0] rfl ?_
      obtain ⟨m, h⟩ := h
      exact kI56 m _ _ h
    · replace h := h.2 c
      refine ww_iconst dX5_tableLine_41 ?_
      exact ww_zret (0, σ_7) rfl (Or.inl rfl) ⟨rfl, (Or.inl rfl), h⟩ rfl (Nat.le_refl _) (Nat.le_refl _) dX5_tableLine_42
  · replace h := h.2 c
    refine ww_iconst dX5_tableLine_7 ?_
    exact ww_zret (0, σ_2) rfl (Or.inl rfl) ⟨rfl, (Or.inl rfl), h⟩ rfl (Nat.le_refl _) (Nat.le_refl _) dX5_tableLine_8
theorem tc_tableLine {S : Type} {G : g_G} {l : Launch} {cc : ByteArray} {nL : Nat} {ret : Option FieldType} {mn : String} {d mc ms : Nat} {R : Option Value → S → Prop} {sh : S → List va_W} {cells slots pc : Nat} {lv : List (Nat × Value)} {st : List Value} {q : Nat → Nat} {fr : va_W} {σ : TS} {P : Int → TS → Prop} (h : w_tableLine σ P) (hR : 11 + 1 ≤ d ∧ 16 + (5 + 11) + 100 * 11 ≤ 100 * d) (hc : cells ≤ mc ∧ slots ≤ ms) (hst : (st.map fun v => v.category).sum ≤ 16) (hdg : decode cc pc = .ok (.invokevirtual 225, 3)) (k : ∀ r, ∀ σ2, (r = 0 ∨ r = 1) → P r σ2 → WW G l cc RX5 nL ret mn d mc ms R sh cells slots [tw G q σ2, fr] (pc + 3) lv (vI r :: st)) : WW G l cc RX5 nL ret mn d mc ms R sh cells slots [tw G q σ, fr] pc lv (.ref (q 100) :: st) := by
  refine tw_call2 (n := 0) (t_tableLine (q := q) h) (lw_V q2352 q2354 qs63 q117 q2355) ⟨rfl, by decide, by decide, by decide +kernel⟩ rfl hR hc rfl hst hdg ?_
  exact fun r σ2 z h => k r σ2 z h
/-! takesEnd -/
def w_takesEnd (σ : TS) (a1 : Int) (P : Int → TS → Prop) : Prop :=
  w_isName σ (fun y_1 =>
    w_must σ y_1 1 (fun y_3 σ_4 =>
      ((¬ y_3 = 0 →
        w_nodeNamed σ_4 (fun y_6 =>
          rI y_6 ∧
          ∃ J29 : Int → Prop, (∀ (s1_29 : Int), J29 s1_29 →
            w_must σ_4 s1_29 3 (fun y_8 σ_9 =>
              ((¬ y_8 = 0 →
                w_steps σ_9 (fun σ_11 =>
                  rI (tF σ_11 6) ∧
                  ∃ J56 : Int → Prop, (∀ (s1_56 : Int), J56 s1_56 →
                    w_must σ_11 s1_56 1 (fun y_13 σ_14 =>
                      ((¬ y_13 = 0 →
                        (0 ≤ (6 * (tF σ_14 12)) + y_6 ∧ (6 * (tF σ_14 12)) + y_6 < 12) ∧
                        (0 ≤ (8 * (tF σ_14 12)) + (tA σ_14 23 ((6 * (tF σ_14 12)) + y_6)) ∧ (8 * (tF σ_14 12)) + (tA σ_14 23 ((6 * (tF σ_14 12)) + y_6)) < 16) ∧
                        rI (tF σ_14 7) ∧
                        rI (tA σ_14 20 ((8 * (tF σ_14 12)) + (tA σ_14 23 ((6 * (tF σ_14 12)) + y_6)))) ∧
                        ∃ J116 : Int → Prop, (∀ (s0_116 : Int), J116 s0_116 →
                          rI ((4 * y_6) + (tF σ_14 7)) ∧
                          rI a1 ∧
                          ∃ J130 : Int → Prop, (∀ (s0_130 : Int), J130 s0_130 →
                            ∃ I135 : Nat → Int → Int → Prop, (∀ (n135 : Nat) (v4_135 : Int) (v5_135 : Int), I135 n135 v4_135 v5_135 →
                              rI v5_135 ∧
                              rI (2 * (tF σ_14 24)) ∧
                              (((2 * (tF σ_14 24)) ≤ v5_135 →
                                rI s0_116 ∧
                                ∃ J191 : Int → Prop, (∀ (s1_191 : Int), J191 s1_191 →
                                  w_must (sF σ_14 29 ((4 * y_6) + (tF σ_14 7))) s1_191 2 (fun y_25 σ_26 =>
                                    ((y_25 = 0 →
                                      P 0 σ_26) ∧
                                    (¬ y_25 = 0 →
                                      w_must σ_26 s0_116 4 (fun y_28 σ_29 =>
                                        ((¬ y_28 = 0 →
                                          w_steps σ_29 (fun σ_31 =>
                                            P 1 σ_31)) ∧
                                        (y_28 = 0 →
                                          P 0 σ_29))))))) ∧
                                ∃ J186 : Prop, (J186 →
                                  J191 1) ∧
                                ((s0_116 = 0 →
                                  J186) ∧
                                (¬ s0_116 = 0 →
                                  rI v4_135 ∧
                                  ((v4_135 = 0 →
                                    J191 0) ∧
                                  (¬ v4_135 = 0 →
                                    J186))))) ∧
                              (v5_135 < (2 * (tF σ_14 24)) →
                                (0 ≤ v5_135 ∧ v5_135 < 20) ∧
                                rI (tA σ_14 25 v5_135) ∧
                                rI ((4 * y_6) + (tF σ_14 7)) ∧
                                ∃ J167 : Int → Prop, (∀ (s1_167 : Int), J167 s1_167 →
                                  ∀ x_36 : Int, x_36 = bA v4_135 s1_167 →
                                  ∃ m : Nat, m < n135 ∧ I135 m x_36 (v5_135 + 1)) ∧
                                (((tA σ_14 25 v5_135) = ((4 * y_6) + (tF σ_14 7)) →
                                  J167 0) ∧
                                (¬ (tA σ_14 25 v5_135) = ((4 * y_6) + (tF σ_14 7)) →
                                  J167 1))))) ∧
                            ∃ m : Nat, I135 m s0_130 0) ∧
                          ((((4 * y_6) + (tF σ_14 7)) = a1 →
                            J130 0) ∧
                          (¬ ((4 * y_6) + (tF σ_14 7)) = a1 →
                            J130 1))) ∧
                        (((tA σ_14 20 ((8 * (tF σ_14 12)) + (tA σ_14 23 ((6 * (tF σ_14 12)) + y_6)))) ≤ (tF σ_14 7) →
                          J116 0) ∧
                        ((tF σ_14 7) < (tA σ_14 20 ((8 * (tF σ_14 12)) + (tA σ_14 23 ((6 * (tF σ_14 12)) + y_6)))) →
                          J116 1))) ∧
                      (y_13 = 0 →
                        P 0 σ_14)))) ∧
                  ((¬ (tF σ_11 6) = 2 →
                    J56 0) ∧
                  ((tF σ_11 6) = 2 →
                    J56 1)))) ∧
              (y_8 = 0 →
                P 0 σ_9)))) ∧
          ((y_6 < 0 →
            J29 0) ∧
          (0 ≤ y_6 →
            J29 1)))) ∧
      (y_3 = 0 →
        P 0 σ_4))))
set_option maxHeartbeats 4000000 in
theorem t_takesEnd {G : g_G} {l : Launch} {q : Nat → Nat} {σ : TS} {a1 : Int} {P : Int → TS → Prop} (h : w_takesEnd σ a1 P) : CT G l yX5_takesEnd cX5_takesEnd 6 (Option.some Jvm.ClassFile.FieldType.boolean) 10 0 0 [.ref (q 100), vI a1] [tw G q σ] (tR2 (P)) (fun u => [tw G q u.2]) := by
  unfold w_takesEnd at h
  refine ww_of (by decide) (Nat.le_of_ble_eq_true rfl) (fun fr => ?_)
  show WW G l cX5_takesEnd RX5 6 (Option.some Jvm.ClassFile.FieldType.boolean) "takesEnd" 10 0 0 (tR2 (P)) (tS G q fr) 0 0 [tw G q σ, fr] 0 [(0, .ref (q 100)), (1, vI a1)] []
  refine ww_aload_n dX5_takesEnd_0 0 rfl ?_
  refine ww_aload_n dX5_takesEnd_1 0 rfl ?_
  refine tc_isName h ⟨Nat.le_of_ble_eq_true rfl, Nat.le_of_ble_eq_true rfl⟩ ⟨Nat.le_refl _, Nat.le_refl _⟩ (Nat.le_of_ble_eq_true rfl) dX5_takesEnd_2 (fun y_1 z_2 h => ?_)
  refine ww_iconst dX5_takesEnd_5 ?_
  refine tc_must h ⟨Nat.le_of_ble_eq_true rfl, Nat.le_of_ble_eq_true rfl⟩ ⟨Nat.le_refl _, Nat.le_refl _⟩ (Nat.le_of_ble_eq_true rfl) dX5_takesEnd_6 (fun y_3 σ_4 z_5 h => ?_)
  refine ww_if_ne (tgt := 14) dX5_takesEnd_9 (by decide) (z01 z_5) (fun c => ?_) (fun c => ?_)
  · replace h := h.1 c
    refine ww_aload_n dX5_takesEnd_14 0 rfl ?_
    refine tc_nodeNamed h ⟨Nat.le_of_ble_eq_true rfl, Nat.le_of_ble_eq_true rfl⟩ ⟨Nat.le_refl _, Nat.le_refl _⟩ (Nat.le_of_ble_eq_true rfl) dX5_takesEnd_15 (fun y_6 h => ?_)
    refine ww_istore_n dX5_takesEnd_18 rfl (Nat.le_of_ble_eq_true rfl) rfl ?_
    refine ww_aload_n dX5_takesEnd_19 1 rfl ?_
    refine ww_iload_n dX5_takesEnd_20 0 rfl ?_
    obtain ⟨r_7, h⟩ := h
    obtain ⟨J29, hJ29, h⟩ := h
    have kJ29 : ∀ (s1_29 : Int), J29 s1_29 → WW G l cX5_takesEnd RX5 6 (Option.some Jvm.ClassFile.FieldType.boolean) "takesEnd" 10 0 0 (tR2 (P)) (tS G q fr) 0 0 [tw G q σ_4, fr] 29 [(0, .ref (q 100)), (1, vI a1), (2, vI y_6)] [vI s1_29, .ref (q 100)] := by
      intro s1_29 hj
      have h := hJ29 s1_29 hj
      refine ww_iconst dX5_takesEnd_29 ?_
      refine tc_must h ⟨Nat.le_of_ble_eq_true rfl, Nat.le_of_ble_eq_true rfl⟩ ⟨Nat.le_refl _, Nat.le_refl _⟩ (Nat.le_of_ble_eq_true rfl) dX5_takesEnd_30 (fun y_8 σ_9 z_10 h => ?_)
      refine ww_if_ne (tgt := 38) dX5_takesEnd_33 (by decide) (z01 z_10) (fun c => ?_) (fun c => ?_)
      · replace h := h.1 c
        refine ww_aload_n dX5_takesEnd_38 0 rfl ?_
        refine tc_steps h ⟨Nat.le_of_ble_eq_true rfl, Nat.le_of_ble_eq_true rfl⟩ ⟨Nat.le_refl _, Nat.le_refl _⟩ (Nat.le_of_ble_eq_true rfl) dX5_takesEnd_39 (fun σ_11 h => ?_)
        refine ww_aload_n dX5_takesEnd_42 0 rfl ?_
        refine ww_aload_n dX5_takesEnd_43 0 rfl ?_
        refine tg_6 dX5_takesEnd_44 ?_
        refine ww_iconst dX5_takesEnd_47 ?_
        obtain ⟨r_12, h⟩ := h
        obtain ⟨J56, hJ56, h⟩ := h
        have kJ56 : ∀ (s1_56 : Int), J56 s1_56 → WW G l cX5_takesEnd RX5 6 (Option.some Jvm.ClassFile.FieldType.boolean) "takesEnd" 10 0 0 (tR2 (P)) (tS G q fr) 0 0 [tw G q σ_11, fr] 56 [(0, .ref (q 100)), (1, vI a1), (2, vI y_6)] [vI s1_56, .ref (q 100)] := by
          intro s1_56 hj
          have h := hJ56 s1_56 hj
          refine ww_iconst dX5_takesEnd_56 ?_
          refine tc_must h ⟨Nat.le_of_ble_eq_true rfl, Nat.le_of_ble_eq_true rfl⟩ ⟨Nat.le_refl _, Nat.le_refl _⟩ (Nat.le_of_ble_eq_true rfl) dX5_takesEnd_57 (fun y_13 σ_14 z_15 h => ?_)
          refine ww_if_ne (tgt := 65) dX5_takesEnd_60 (by decide) (z01 z_15) (fun c => ?_) (fun c => ?_)
          · replace h := h.1 c
            refine ww_aload_n dX5_takesEnd_65 0 rfl ?_
            refine ww_iconst dX5_takesEnd_66 ?_
            refine ww_iload_n dX5_takesEnd_67 2 rfl ?_
            refine ww_imul dX5_takesEnd_68 ?_
            refine ww_aload_n dX5_takesEnd_69 0 rfl ?_
            refine tg_7 dX5_takesEnd_70 ?_
            refine ww_iadd dX5_takesEnd_73 ?_
            refine tp_29 dX5_takesEnd_74 ?_
            refine ww_aload_n dX5_takesEnd_77 0 rfl ?_
            refine tg_7 dX5_takesEnd_78 ?_
            refine ww_aload_n dX5_takesEnd_81 0 rfl ?_
            refine tg_20 dX5_takesEnd_82 ?_
            refine ww_bipush (v := 8) dX5_takesEnd_85 rfl ?_
            refine ww_aload_n dX5_takesEnd_87 0 rfl ?_
            refine tg_12 dX5_takesEnd_88 ?_
            refine ww_imul dX5_takesEnd_91 ?_
            refine ww_aload_n dX5_takesEnd_92 0 rfl ?_
            refine tg_23 dX5_takesEnd_93 ?_
            refine ww_bipush (v := 6) dX5_takesEnd_96 rfl ?_
            refine ww_aload_n dX5_takesEnd_98 0 rfl ?_
            refine tg_12 dX5_takesEnd_99 ?_
            refine ww_imul dX5_takesEnd_102 ?_
            refine ww_iload_n dX5_takesEnd_103 2 rfl ?_
            refine ww_iadd dX5_takesEnd_104 ?_
            obtain ⟨r_16, h⟩ := h
            refine ta_23 r_16 dX5_takesEnd_105 ?_
            refine ww_iadd dX5_takesEnd_106 ?_
            obtain ⟨r_17, h⟩ := h
            refine ta_20 r_17 dX5_takesEnd_107 ?_
            obtain ⟨r_18, r_19, h⟩ := h
            obtain ⟨J116, hJ116, h⟩ := h
            have kJ116 : ∀ (s0_116 : Int), J116 s0_116 → WW G l cX5_takesEnd RX5 6 (Option.some Jvm.ClassFile.FieldType.boolean) "takesEnd" 10 0 0 (tR2 (P)) (tS G q fr) 0 0 [tw G q (sF σ_14 29 ((4 * y_6) + (tF σ_14 7))), fr] 116 [(0, .ref (q 100)), (1, vI a1)] [vI s0_116] := by
              intro s0_116 hj
              have h := hJ116 s0_116 hj
              refine ww_istore_n dX5_takesEnd_116 rfl (Nat.le_of_ble_eq_true rfl) rfl ?_
              refine ww_aload_n dX5_takesEnd_117 1 rfl ?_
              refine tg_29 dX5_takesEnd_118 ?_
              refine ww_iload_n dX5_takesEnd_121 2 rfl ?_
              obtain ⟨r_20, r_21, h⟩ := h
              obtain ⟨J130, hJ130, h⟩ := h
              have kJ130 : ∀ (s0_130 : Int), J130 s0_130 → WW G l cX5_takesEnd RX5 6 (Option.some Jvm.ClassFile.FieldType.boolean) "takesEnd" 10 0 0 (tR2 (P)) (tS G q fr) 0 0 [tw G q (sF σ_14 29 ((4 * y_6) + (tF σ_14 7))), fr] 130 [(0, .ref (q 100)), (3, vI s0_116)] [vI s0_130] := by
                intro s0_130 hj
                have h := hJ130 s0_130 hj
                refine ww_istore dX5_takesEnd_130 (Nat.le_of_ble_eq_true rfl) rfl ?_
                refine ww_iconst dX5_takesEnd_132 ?_
                refine ww_istore dX5_takesEnd_133 (Nat.le_of_ble_eq_true rfl) rfl ?_
                obtain ⟨I135, hI135, h⟩ := h
                have kI135 : ∀ (n135 : Nat), ∀ (v4_135 : Int), ∀ (v5_135 : Int), I135 n135 v4_135 v5_135 → WW G l cX5_takesEnd RX5 6 (Option.some Jvm.ClassFile.FieldType.boolean) "takesEnd" 10 0 0 (tR2 (P)) (tS G q fr) 0 0 [tw G q (sF σ_14 29 ((4 * y_6) + (tF σ_14 7))), fr] 135 [(0, .ref (q 100)), (3, vI s0_116), (4, vI v4_135), (5, vI v5_135)] [] := by
                  intro n135
                  induction n135 using Nat.strongRecOn with
                  | ind n135 ih135 =>
                    intro v4_135 v5_135 hj
                    have h := hI135 n135 v4_135 v5_135 hj
                    refine ww_iload dX5_takesEnd_135 3 rfl ?_
                    refine ww_iconst dX5_takesEnd_137 ?_
                    refine ww_aload_n dX5_takesEnd_138 0 rfl ?_
                    refine tg_24 dX5_takesEnd_139 ?_
                    refine ww_imul dX5_takesEnd_142 ?_
                    obtain ⟨r_22, r_23, h⟩ := h
                    refine ww_icmp_ge (tgt := 176) dX5_takesEnd_143 (by decide) r_22 r_23 (fun c => ?_) (fun c => ?_)
                    · replace h := h.1 c
                      refine ww_aload_n dX5_takesEnd_176 0 rfl ?_
                      refine ww_iload_n dX5_takesEnd_177 1 rfl ?_
                      obtain ⟨r_24, h⟩ := h
                      obtain ⟨J191, hJ191, h⟩ := h
                      have kJ191 : ∀ (s1_191 : Int), J191 s1_191 → WW G l cX5_takesEnd RX5 6 (Option.some Jvm.ClassFile.FieldType.boolean) "takesEnd" 10 0 0 (tR2 (P)) (tS G q fr) 0 0 [tw G q (sF σ_14 29 ((4 * y_6) + (tF σ_14 7))), fr] 191 [(0, .ref (q 100)), (3, vI s0_116)] [vI s1_191, .ref (q 100)] := by
                        intro s1_191 hj
                        have h := hJ191 s1_191 hj
                        refine ww_iconst dX5_takesEnd_191 ?_
                        refine tc_must h ⟨Nat.le_of_ble_eq_true rfl, Nat.le_of_ble_eq_true rfl⟩ ⟨Nat.le_refl _, Nat.le_refl _⟩ (Nat.le_of_ble_eq_true rfl) dX5_takesEnd_192 (fun y_25 σ_26 z_27 h => ?_)
                        refine ww_if_eq (tgt := 207) dX5_takesEnd_195 (by decide) (z01 z_27) (fun c => ?_) (fun c => ?_)
                        · replace h := h.1 c
                          refine ww_iconst dX5_takesEnd_207 ?_
                          exact ww_zret (0, σ_26) rfl (Or.inl rfl) ⟨rfl, (Or.inl rfl), h⟩ rfl (Nat.le_refl _) (Nat.le_refl _) dX5_takesEnd_208
                        · replace h := h.2 c
                          refine ww_aload_n dX5_takesEnd_198 0 rfl ?_
                          refine ww_iload_n dX5_takesEnd_199 1 rfl ?_
                          refine ww_iconst dX5_takesEnd_200 ?_
                          refine tc_must h ⟨Nat.le_of_ble_eq_true rfl, Nat.le_of_ble_eq_true rfl⟩ ⟨Nat.le_refl _, Nat.le_refl _⟩ (Nat.le_of_ble_eq_true rfl) dX5_takesEnd_201 (fun y_28 σ_29 z_30 h => ?_)
                          refine ww_if_ne (tgt := 209) dX5_takesEnd_204 (by decide) (z01 z_30) (fun c => ?_) (fun c => ?_)
                          · replace h := h.1 c
                            refine ww_aload_n dX5_takesEnd_209 0 rfl ?_
                            refine tc_steps h ⟨Nat.le_of_ble_eq_true rfl, Nat.le_of_ble_eq_true rfl⟩ ⟨Nat.le_refl _, Nat.le_refl _⟩ (Nat.le_of_ble_eq_true rfl) dX5_takesEnd_210 (fun σ_31 h => ?_)
                            refine ww_iconst dX5_takesEnd_213 ?_
                            exact ww_zret (1, σ_31) rfl (Or.inr rfl) ⟨rfl, (Or.inr rfl), h⟩ rfl (Nat.le_refl _) (Nat.le_refl _) dX5_takesEnd_214
                          · replace h := h.2 c
                            refine ww_iconst dX5_takesEnd_207 ?_
                            exact ww_zret (0, σ_29) rfl (Or.inl rfl) ⟨rfl, (Or.inl rfl), h⟩ rfl (Nat.le_refl _) (Nat.le_refl _) dX5_takesEnd_208
                      obtain ⟨J186, hJ186, h⟩ := h
                      have kJ186 : J186 → WW G l cX5_takesEnd RX5 6 (Option.some Jvm.ClassFile.FieldType.boolean) "takesEnd" 10 0 0 (tR2 (P)) (tS G q fr) 0 0 [tw G q (sF σ_14 29 ((4 * y_6) + (tF σ_14 7))), fr] 186 [(0, .ref (q 100)), (3, vI s0_116)] [.ref (q 100)] := by
                        intro hj
                        have h := hJ186 hj
                        refine ww_iconst dX5_takesEnd_186 ?_
                        refine ww_goto (tgt := 191) dX5_takesEnd_187 (by decide) ?_
                        exact kJ191 _ h
                      refine ww_if_eq (tgt := 186) dX5_takesEnd_178 (by decide) r_24 (fun c => ?_) (fun c => ?_)
                      · replace h := h.1 c
                        refine ww_lv [0, 1] rfl ?_
                        exact kJ186 h
                      · replace h := h.2 c
                        refine ww_iload dX5_takesEnd_181 2 rfl ?_
                        obtain ⟨r_32, h⟩ := h
                        refine ww_if_eq (tgt := 190) dX5_takesEnd_183 (by decide) r_32 (fun c => ?_) (fun c => ?_)
                        · replace h := h.1 c
                          refine ww_iconst dX5_takesEnd_190 ?_
                          refine ww_lv [0, 1] rfl ?_
                          exact kJ191 _ h
                        · replace h := h.2 c
                          refine ww_lv [0, 1] rfl ?_
                          exact kJ186 h
                    · replace h := h.2 (Int.not_le.mp c)
                      refine ww_iload dX5_takesEnd_146 2 rfl ?_
                      refine ww_aload_n dX5_takesEnd_148 0 rfl ?_
                      refine tg_25 dX5_takesEnd_149 ?_
                      refine ww_iload dX5_takesEnd_152 3 rfl ?_
                      obtain ⟨r_33, h⟩ := h
                      refine ta_25 r_33 dX5_takesEnd_154 ?_
                      refine ww_aload_n dX5_takesEnd_155 0 rfl ?_
                      refine tg_29 dX5_takesEnd_156 ?_
                      obtain ⟨r_34, r_35, h⟩ := h
                      obtain ⟨J167, hJ167, h⟩ := h
                      have kJ167 : ∀ (s1_167 : Int), J167 s1_167 → WW G l cX5_takesEnd RX5 6 (Option.some Jvm.ClassFile.FieldType.boolean) "takesEnd" 10 0 0 (tR2 (P)) (tS G q fr) 0 0 [tw G q (sF σ_14 29 ((4 * y_6) + (tF σ_14 7))), fr] 167 [(0, .ref (q 100)), (3, vI s0_116), (5, vI v5_135)] [vI s1_167, vI v4_135] := by
                        intro s1_167 hj
                        have h := hJ167 s1_167 hj
                        refine ww_iand dX5_takesEnd_167 ?_
                        refine ww_nmI (fun x_36 ex_36 => ?_)
                        replace h := h x_36 ex_36
                        have rx_36 : rI x_36 := by rw [ex_36]; exact (rI_bA _ _)
                        refine ww_istore dX5_takesEnd_168 (Nat.le_of_ble_eq_true rfl) rfl ?_
                        refine ww_iinc dX5_takesEnd_170 3 rfl (Nat.le_of_ble_eq_true rfl) rfl ?_
                        refine ww_goto (tgt := 135) dX5_takesEnd_173 (by decide) ?_
                        refine ww_lv [2, 3, 1, 0] rfl ?_
                        obtain ⟨m, hm, h⟩ := h
                        exact ih135 m hm _ _ h
                      refine ww_icmp_eq (tgt := 166) dX5_takesEnd_159 (by decide) r_34 r_35 (fun c => ?_) (fun c => ?_)
                      · replace h := h.1 c
                        refine ww_iconst dX5_takesEnd_166 ?_
                        refine ww_lv [0, 1, 3] rfl ?_
                        exact kJ167 _ h
                      · replace h := h.2 c
                        refine ww_iconst dX5_takesEnd_162 ?_
                        refine ww_goto (tgt := 167) dX5_takesEnd_163 (by decide) ?_
                        refine ww_lv [0, 1, 3] rfl ?_
                        exact kJ167 _ h
                refine ww_lv [2, 3, 1, 0] rfl ?_
                obtain ⟨m, h⟩ := h
                exact kI135 m _ _ h
              refine ww_icmp_eq (tgt := 129) dX5_takesEnd_122 (by decide) r_20 r_21 (fun c => ?_) (fun c => ?_)
              · replace h := h.1 c
                refine ww_iconst dX5_takesEnd_129 ?_
                refine ww_lv [1, 0] rfl ?_
                exact kJ130 _ h
              · replace h := h.2 c
                refine ww_iconst dX5_takesEnd_125 ?_
                refine ww_goto (tgt := 130) dX5_takesEnd_126 (by decide) ?_
                refine ww_lv [1, 0] rfl ?_
                exact kJ130 _ h
            refine ww_icmp_ge (tgt := 115) dX5_takesEnd_108 (by decide) r_18 r_19 (fun c => ?_) (fun c => ?_)
            · replace h := h.1 c
              refine ww_iconst dX5_takesEnd_115 ?_
              refine ww_lv [0, 1] rfl ?_
              exact kJ116 _ h
            · replace h := h.2 (Int.not_le.mp c)
              refine ww_iconst dX5_takesEnd_111 ?_
              refine ww_goto (tgt := 116) dX5_takesEnd_112 (by decide) ?_
              refine ww_lv [0, 1] rfl ?_
              exact kJ116 _ h
          · replace h := h.2 c
            refine ww_iconst dX5_takesEnd_63 ?_
            exact ww_zret (0, σ_14) rfl (Or.inl rfl) ⟨rfl, (Or.inl rfl), h⟩ rfl (Nat.le_refl _) (Nat.le_refl _) dX5_takesEnd_64
        refine ww_icmp_ne (tgt := 55) dX5_takesEnd_48 (by decide) r_12 (by decide) (fun c => ?_) (fun c => ?_)
        · replace h := h.1 c
          refine ww_iconst dX5_takesEnd_55 ?_
          exact kJ56 _ h
        · replace h := h.2 c
          refine ww_iconst dX5_takesEnd_51 ?_
          refine ww_goto (tgt := 56) dX5_takesEnd_52 (by decide) ?_
          exact kJ56 _ h
      · replace h := h.2 c
        refine ww_iconst dX5_takesEnd_36 ?_
        exact ww_zret (0, σ_9) rfl (Or.inl rfl) ⟨rfl, (Or.inl rfl), h⟩ rfl (Nat.le_refl _) (Nat.le_refl _) dX5_takesEnd_37
    refine ww_if_lt (tgt := 28) dX5_takesEnd_21 (by decide) r_7 (fun c => ?_) (fun c => ?_)
    · replace h := h.1 c
      refine ww_iconst dX5_takesEnd_28 ?_
      refine ww_lv [1, 2, 0] rfl ?_
      exact kJ29 _ h
    · replace h := h.2 (Int.not_lt.mp c)
      refine ww_iconst dX5_takesEnd_24 ?_
      refine ww_goto (tgt := 29) dX5_takesEnd_25 (by decide) ?_
      refine ww_lv [1, 2, 0] rfl ?_
      exact kJ29 _ h
  · replace h := h.2 c
    refine ww_iconst dX5_takesEnd_12 ?_
    exact ww_zret (0, σ_4) rfl (Or.inl rfl) ⟨rfl, (Or.inl rfl), h⟩ rfl (Nat.le_refl _) (Nat.le_refl _) dX5_takesEnd_13
theorem tc_takesEnd {S : Type} {G : g_G} {l : Launch} {cc : ByteArray} {nL : Nat} {ret : Option FieldType} {mn : String} {d mc ms : Nat} {R : Option Value → S → Prop} {sh : S → List va_W} {cells slots pc : Nat} {lv : List (Nat × Value)} {st : List Value} {q : Nat → Nat} {fr : va_W} {σ : TS} {a1 : Int} {P : Int → TS → Prop} (h : w_takesEnd σ a1 P) (hR : 10 + 1 ≤ d ∧ 16 + (6 + 11) + 100 * 10 ≤ 100 * d) (hc : cells ≤ mc ∧ slots ≤ ms) (hst : (st.map fun v => v.category).sum ≤ 16) (hdg : decode cc pc = .ok (.invokevirtual 221, 3)) (k : ∀ r, ∀ σ2, (r = 0 ∨ r = 1) → P r σ2 → WW G l cc RX5 nL ret mn d mc ms R sh cells slots [tw G q σ2, fr] (pc + 3) lv (vI r :: st)) : WW G l cc RX5 nL ret mn d mc ms R sh cells slots [tw G q σ, fr] pc lv (vI a1 :: .ref (q 100) :: st) := by
  refine tw_call2 (n := 1) (t_takesEnd (q := q) h) (lw_V q2403 q2405 qs75 q117 q2406) ⟨rfl, by decide, by decide, by decide +kernel⟩ rfl hR hc rfl hst hdg ?_
  exact fun r σ2 z h => k r σ2 z h
/-! wireLine -/
def w_wireLine (σ : TS) (P : Int → TS → Prop) : Prop :=
  w_takesEnd σ (-1) (fun y_1 σ_2 =>
    ((¬ y_1 = 0 →
      w_takesEnd σ_2 (tF σ_2 29) (fun y_4 σ_5 =>
        ((¬ y_4 = 0 →
          (0 ≤ 2 * (tF σ_5 24) ∧ 2 * (tF σ_5 24) < 20) ∧
          (0 ≤ (2 * (tF σ_5 24)) + 1 ∧ (2 * (tF σ_5 24)) + 1 < 20) ∧
          P 1 (sF (sA (sA σ_5 25 (2 * (tF σ_5 24)) (tF σ_2 29)) 25 ((2 * (tF σ_5 24)) + 1) (tF σ_5 29)) 24 ((tF σ_5 24) + 1))) ∧
        (y_4 = 0 →
          P 0 σ_5)))) ∧
    (y_1 = 0 →
      P 0 σ_2)))
set_option maxHeartbeats 4000000 in
theorem t_wireLine {G : g_G} {l : Launch} {q : Nat → Nat} {σ : TS} {P : Int → TS → Prop} (h : w_wireLine σ P) : CT G l yX5_wireLine cX5_wireLine 2 (Option.some Jvm.ClassFile.FieldType.boolean) 11 0 0 [.ref (q 100)] [tw G q σ] (tR2 (P)) (fun u => [tw G q u.2]) := by
  unfold w_wireLine at h
  refine ww_of (by decide) (Nat.le_of_ble_eq_true rfl) (fun fr => ?_)
  show WW G l cX5_wireLine RX5 2 (Option.some Jvm.ClassFile.FieldType.boolean) "wireLine" 11 0 0 (tR2 (P)) (tS G q fr) 0 0 [tw G q σ, fr] 0 [(0, .ref (q 100))] []
  refine ww_aload_n dX5_wireLine_0 0 rfl ?_
  refine ww_iconst dX5_wireLine_1 ?_
  refine tc_takesEnd h ⟨Nat.le_of_ble_eq_true rfl, Nat.le_of_ble_eq_true rfl⟩ ⟨Nat.le_refl _, Nat.le_refl _⟩ (Nat.le_of_ble_eq_true rfl) dX5_wireLine_2 (fun y_1 σ_2 z_3 h => ?_)
  refine ww_if_ne (tgt := 10) dX5_wireLine_5 (by decide) (z01 z_3) (fun c => ?_) (fun c => ?_)
  · replace h := h.1 c
    refine ww_aload_n dX5_wireLine_10 0 rfl ?_
    refine tg_29 dX5_wireLine_11 ?_
    refine ww_istore_n dX5_wireLine_14 rfl (Nat.le_of_ble_eq_true rfl) rfl ?_
    refine ww_aload_n dX5_wireLine_15 1 rfl ?_
    refine ww_iload_n dX5_wireLine_16 0 rfl ?_
    refine tc_takesEnd h ⟨Nat.le_of_ble_eq_true rfl, Nat.le_of_ble_eq_true rfl⟩ ⟨Nat.le_refl _, Nat.le_refl _⟩ (Nat.le_of_ble_eq_true rfl) dX5_wireLine_17 (fun y_4 σ_5 z_6 h => ?_)
    refine ww_if_ne (tgt := 25) dX5_wireLine_20 (by decide) (z01 z_6) (fun c => ?_) (fun c => ?_)
    · replace h := h.1 c
      refine ww_aload_n dX5_wireLine_25 1 rfl ?_
      refine tg_25 dX5_wireLine_26 ?_
      refine ww_iconst dX5_wireLine_29 ?_
      refine ww_aload_n dX5_wireLine_30 1 rfl ?_
      refine tg_24 dX5_wireLine_31 ?_
      refine ww_imul dX5_wireLine_34 ?_
      refine ww_iload_n dX5_wireLine_35 0 rfl ?_
      obtain ⟨r_7, h⟩ := h
      refine ts_25 r_7 dX5_wireLine_36 ?_
      refine ww_aload_n dX5_wireLine_37 1 rfl ?_
      refine tg_25 dX5_wireLine_38 ?_
      refine ww_iconst dX5_wireLine_41 ?_
      refine ww_aload_n dX5_wireLine_42 1 rfl ?_
      refine tg_24 dX5_wireLine_43 ?_
      refine ww_imul dX5_wireLine_46 ?_
      refine ww_iconst dX5_wireLine_47 ?_
      refine ww_iadd dX5_wireLine_48 ?_
      refine ww_aload_n dX5_wireLine_49 1 rfl ?_
      refine tg_29 dX5_wireLine_50 ?_
      obtain ⟨r_8, h⟩ := h
      refine ts_25 r_8 dX5_wireLine_53 ?_
      refine ww_aload_n dX5_wireLine_54 1 rfl ?_
      refine ww_dup dX5_wireLine_55 rfl ?_
      refine tg_24 dX5_wireLine_56 ?_
      refine ww_iconst dX5_wireLine_59 ?_
      refine ww_iadd dX5_wireLine_60 ?_
      refine tp_24 dX5_wireLine_61 ?_
      refine ww_iconst dX5_wireLine_64 ?_
      exact ww_zret (1, sF (sA (sA σ_5 25 (2 * (tF σ_5 24)) (tF σ_2 29)) 25 ((2 * (tF σ_5 24)) + 1) (tF σ_5 29)) 24 ((tF σ_5 24) + 1)) rfl (Or.inr rfl) ⟨rfl, (Or.inr rfl), h⟩ rfl (Nat.le_refl _) (Nat.le_refl _) dX5_wireLine_65
    · replace h := h.2 c
      refine ww_iconst dX5_wireLine_23 ?_
      exact ww_zret (0, σ_5) rfl (Or.inl rfl) ⟨rfl, (Or.inl rfl), h⟩ rfl (Nat.le_refl _) (Nat.le_refl _) dX5_wireLine_24
  · replace h := h.2 c
    refine ww_iconst dX5_wireLine_8 ?_
    exact ww_zret (0, σ_2) rfl (Or.inl rfl) ⟨rfl, (Or.inl rfl), h⟩ rfl (Nat.le_refl _) (Nat.le_refl _) dX5_wireLine_9
theorem tc_wireLine {S : Type} {G : g_G} {l : Launch} {cc : ByteArray} {nL : Nat} {ret : Option FieldType} {mn : String} {d mc ms : Nat} {R : Option Value → S → Prop} {sh : S → List va_W} {cells slots pc : Nat} {lv : List (Nat × Value)} {st : List Value} {q : Nat → Nat} {fr : va_W} {σ : TS} {P : Int → TS → Prop} (h : w_wireLine σ P) (hR : 11 + 1 ≤ d ∧ 16 + (2 + 11) + 100 * 11 ≤ 100 * d) (hc : cells ≤ mc ∧ slots ≤ ms) (hst : (st.map fun v => v.category).sum ≤ 16) (hdg : decode cc pc = .ok (.invokevirtual 237, 3)) (k : ∀ r, ∀ σ2, (r = 0 ∨ r = 1) → P r σ2 → WW G l cc RX5 nL ret mn d mc ms R sh cells slots [tw G q σ2, fr] (pc + 3) lv (vI r :: st)) : WW G l cc RX5 nL ret mn d mc ms R sh cells slots [tw G q σ, fr] pc lv (.ref (q 100) :: st) := by
  refine tw_call2 (n := 0) (t_wireLine (q := q) h) (lw_V q2399 q2401 qs74 q117 q2402) ⟨rfl, by decide, by decide, by decide +kernel⟩ rfl hR hc rfl hst hdg ?_
  exact fun r σ2 z h => k r σ2 z h
/-! lineHere -/
def w_lineHere (σ : TS) (P : Int → TS → Prop) : Prop :=
  w_is σ 2 (fun y_1 =>
    ∃ J66 : Int → Prop, (∀ (s0_66 : Int), J66 s0_66 →
      rI s0_66 ∧
      ∃ J77 : Int → Prop, (∀ (s1_77 : Int), J77 s1_77 →
        w_must σ s1_77 1 (fun y_4 σ_5 =>
          ((¬ y_4 = 0 →
            rI s0_66 ∧
            ∃ J180 : Int → Prop, (∀ (s0_180 : Int), J180 s0_180 →
              w_must σ_5 s0_180 5 (fun y_8 σ_9 =>
                ((¬ y_8 = 0 →
                  w_steps σ_9 (fun σ_11 =>
                    rI s0_66 ∧
                    ∃ J247 : Int → TS → Prop, (∀ (s0_247 : Int) (σ247 : TS), J247 s0_247 σ247 →
                      rI s0_247 ∧
                      ((s0_247 = 0 →
                        P 0 σ247) ∧
                      (¬ s0_247 = 0 →
                        rI (tF σ247 6) ∧
                        ∃ J266 : Int → Prop, (∀ (s1_266 : Int), J266 s1_266 →
                          w_must σ247 s1_266 1 (fun y_15 σ_16 =>
                            ((¬ y_15 = 0 →
                              w_steps σ_16 (fun σ_18 =>
                                P 1 σ_18)) ∧
                            (y_15 = 0 →
                              P 0 σ_16)))) ∧
                        ((¬ (tF σ247 6) = 3 →
                          J266 0) ∧
                        ((tF σ247 6) = 3 →
                          J266 1))))) ∧
                    ((¬ s0_66 = 0 →
                      rI s0_66 ∧
                      ((¬ s0_66 = 1 →
                        rI s0_66 ∧
                        ((¬ s0_66 = 2 →
                          rI s0_66 ∧
                          ((¬ s0_66 = 3 →
                            w_wireLine σ_11 (fun y_22 σ_23 =>
                              J247 y_22 σ_23)) ∧
                          (s0_66 = 3 →
                            w_nodeLine σ_11 (fun y_25 σ_26 =>
                              J247 y_25 σ_26)))) ∧
                        (s0_66 = 2 →
                          w_baseLine σ_11 (fun y_28 σ_29 =>
                            J247 y_28 σ_29)))) ∧
                      (s0_66 = 1 →
                        w_gateLine σ_11 (fun y_31 σ_32 =>
                          J247 y_31 σ_32)))) ∧
                    (s0_66 = 0 →
                      w_tableLine σ_11 (fun y_34 σ_35 =>
                        J247 y_34 σ_35))))) ∧
                (y_8 = 0 →
                  P 0 σ_9)))) ∧
            ((2 ≤ s0_66 →
              rI s0_66 ∧
              ((¬ s0_66 = 2 →
                rI s0_66 ∧
                ((¬ s0_66 = 3 →
                  rI (tF σ_5 24) ∧
                  ((10 ≤ (tF σ_5 24) →
                    J180 0) ∧
                  ((tF σ_5 24) < 10 →
                    J180 1))) ∧
                (s0_66 = 3 →
                  (0 ≤ tF σ_5 12 ∧ tF σ_5 12 < 2) ∧
                  rI (tA σ_5 16 (tF σ_5 12)) ∧
                  ((6 ≤ (tA σ_5 16 (tF σ_5 12)) →
                    J180 0) ∧
                  ((tA σ_5 16 (tF σ_5 12)) < 6 →
                    J180 1))))) ∧
              (s0_66 = 2 →
                (0 ≤ tF σ_5 12 ∧ tF σ_5 12 < 2) ∧
                rI (tA σ_5 15 (tF σ_5 12)) ∧
                ((5 ≤ (tA σ_5 15 (tF σ_5 12)) →
                  J180 0) ∧
                ((tA σ_5 15 (tF σ_5 12)) < 5 →
                  J180 1))))) ∧
            (s0_66 < 2 →
              (0 ≤ tF σ_5 12 ∧ tF σ_5 12 < 2) ∧
              rI (tA σ_5 14 (tF σ_5 12)) ∧
              ((8 ≤ (tA σ_5 14 (tF σ_5 12)) →
                J180 0) ∧
              ((tA σ_5 14 (tF σ_5 12)) < 8 →
                J180 1))))) ∧
          (y_4 = 0 →
            P 0 σ_5)))) ∧
      ((s0_66 < 0 →
        J77 0) ∧
      (0 ≤ s0_66 →
        J77 1))) ∧
    ((y_1 = 0 →
      w_is σ 3 (fun y_46 =>
        ((y_46 = 0 →
          w_is σ 4 (fun y_48 =>
            ((y_48 = 0 →
              w_is σ 5 (fun y_50 =>
                ((y_50 = 0 →
                  w_is σ 6 (fun y_52 =>
                    ((y_52 = 0 →
                      J66 (-1)) ∧
                    (¬ y_52 = 0 →
                      J66 4)))) ∧
                (¬ y_50 = 0 →
                  J66 3)))) ∧
            (¬ y_48 = 0 →
              J66 2)))) ∧
        (¬ y_46 = 0 →
          J66 1)))) ∧
    (¬ y_1 = 0 →
      J66 0)))
set_option maxHeartbeats 4000000 in
theorem t_lineHere {G : g_G} {l : Launch} {q : Nat → Nat} {σ : TS} {P : Int → TS → Prop} (h : w_lineHere σ P) : CT G l yX5_lineHere cX5_lineHere 4 (Option.some Jvm.ClassFile.FieldType.boolean) 12 0 0 [.ref (q 100)] [tw G q σ] (tR2 (P)) (fun u => [tw G q u.2]) := by
  unfold w_lineHere at h
  refine ww_of (by decide) (Nat.le_of_ble_eq_true rfl) (fun fr => ?_)
  show WW G l cX5_lineHere RX5 4 (Option.some Jvm.ClassFile.FieldType.boolean) "lineHere" 12 0 0 (tR2 (P)) (tS G q fr) 0 0 [tw G q σ, fr] 0 [(0, .ref (q 100))] []
  refine ww_aload_n dX5_lineHere_0 0 rfl ?_
  refine ww_ldcS 8 rfl dX5_lineHere_1 ?_
  refine tc_is h ⟨Nat.le_of_ble_eq_true rfl, Nat.le_of_ble_eq_true rfl⟩ ⟨Nat.le_refl _, Nat.le_refl _⟩ (Nat.le_of_ble_eq_true rfl) dX5_lineHere_3 (fun y_1 z_2 h => ?_)
  obtain ⟨J66, hJ66, h⟩ := h
  have kJ66 : ∀ (s0_66 : Int), J66 s0_66 → WW G l cX5_lineHere RX5 4 (Option.some Jvm.ClassFile.FieldType.boolean) "lineHere" 12 0 0 (tR2 (P)) (tS G q fr) 0 0 [tw G q σ, fr] 66 [(0, .ref (q 100))] [vI s0_66] := by
    intro s0_66 hj
    have h := hJ66 s0_66 hj
    refine ww_istore_n dX5_lineHere_66 rfl (Nat.le_of_ble_eq_true rfl) rfl ?_
    refine ww_aload_n dX5_lineHere_67 1 rfl ?_
    refine ww_iload_n dX5_lineHere_68 0 rfl ?_
    obtain ⟨r_3, h⟩ := h
    obtain ⟨J77, hJ77, h⟩ := h
    have kJ77 : ∀ (s1_77 : Int), J77 s1_77 → WW G l cX5_lineHere RX5 4 (Option.some Jvm.ClassFile.FieldType.boolean) "lineHere" 12 0 0 (tR2 (P)) (tS G q fr) 0 0 [tw G q σ, fr] 77 [(0, .ref (q 100)), (1, vI s0_66)] [vI s1_77, .ref (q 100)] := by
      intro s1_77 hj
      have h := hJ77 s1_77 hj
      refine ww_iconst dX5_lineHere_77 ?_
      refine tc_must h ⟨Nat.le_of_ble_eq_true rfl, Nat.le_of_ble_eq_true rfl⟩ ⟨Nat.le_refl _, Nat.le_refl _⟩ (Nat.le_of_ble_eq_true rfl) dX5_lineHere_78 (fun y_4 σ_5 z_6 h => ?_)
      refine ww_if_ne (tgt := 86) dX5_lineHere_81 (by decide) (z01 z_6) (fun c => ?_) (fun c => ?_)
      · replace h := h.1 c
        refine ww_iload_n dX5_lineHere_86 1 rfl ?_
        refine ww_iconst dX5_lineHere_87 ?_
        obtain ⟨r_7, h⟩ := h
        obtain ⟨J180, hJ180, h⟩ := h
        have kJ180 : ∀ (s0_180 : Int), J180 s0_180 → WW G l cX5_lineHere RX5 4 (Option.some Jvm.ClassFile.FieldType.boolean) "lineHere" 12 0 0 (tR2 (P)) (tS G q fr) 0 0 [tw G q σ_5, fr] 180 [(0, .ref (q 100)), (1, vI s0_66)] [vI s0_180] := by
          intro s0_180 hj
          have h := hJ180 s0_180 hj
          refine ww_istore_n dX5_lineHere_180 rfl (Nat.le_of_ble_eq_true rfl) rfl ?_
          refine ww_aload_n dX5_lineHere_181 1 rfl ?_
          refine ww_iload_n dX5_lineHere_182 0 rfl ?_
          refine ww_iconst dX5_lineHere_183 ?_
          refine tc_must h ⟨Nat.le_of_ble_eq_true rfl, Nat.le_of_ble_eq_true rfl⟩ ⟨Nat.le_refl _, Nat.le_refl _⟩ (Nat.le_of_ble_eq_true rfl) dX5_lineHere_184 (fun y_8 σ_9 z_10 h => ?_)
          refine ww_if_ne (tgt := 192) dX5_lineHere_187 (by decide) (z01 z_10) (fun c => ?_) (fun c => ?_)
          · replace h := h.1 c
            refine ww_aload_n dX5_lineHere_192 1 rfl ?_
            refine tc_steps h ⟨Nat.le_of_ble_eq_true rfl, Nat.le_of_ble_eq_true rfl⟩ ⟨Nat.le_refl _, Nat.le_refl _⟩ (Nat.le_of_ble_eq_true rfl) dX5_lineHere_193 (fun σ_11 h => ?_)
            refine ww_iload_n dX5_lineHere_196 2 rfl ?_
            obtain ⟨r_12, h⟩ := h
            obtain ⟨J247, hJ247, h⟩ := h
            have kJ247 : ∀ (s0_247 : Int), ∀ (σ247 : TS), J247 s0_247 σ247 → WW G l cX5_lineHere RX5 4 (Option.some Jvm.ClassFile.FieldType.boolean) "lineHere" 12 0 0 (tR2 (P)) (tS G q fr) 0 0 [tw G q σ247, fr] 247 [(0, .ref (q 100))] [vI s0_247] := by
              intro s0_247 σ247 hj
              have h := hJ247 s0_247 σ247 hj
              refine ww_istore_n dX5_lineHere_247 rfl (Nat.le_of_ble_eq_true rfl) rfl ?_
              refine ww_iload_n dX5_lineHere_248 0 rfl ?_
              obtain ⟨r_13, h⟩ := h
              refine ww_if_eq (tgt := 273) dX5_lineHere_249 (by decide) r_13 (fun c => ?_) (fun c => ?_)
              · replace h := h.1 c
                refine ww_iconst dX5_lineHere_273 ?_
                exact ww_zret (0, σ247) rfl (Or.inl rfl) ⟨rfl, (Or.inl rfl), h⟩ rfl (Nat.le_refl _) (Nat.le_refl _) dX5_lineHere_274
              · replace h := h.2 c
                refine ww_aload_n dX5_lineHere_252 1 rfl ?_
                refine ww_aload_n dX5_lineHere_253 1 rfl ?_
                refine tg_6 dX5_lineHere_254 ?_
                refine ww_iconst dX5_lineHere_257 ?_
                obtain ⟨r_14, h⟩ := h
                obtain ⟨J266, hJ266, h⟩ := h
                have kJ266 : ∀ (s1_266 : Int), J266 s1_266 → WW G l cX5_lineHere RX5 4 (Option.some Jvm.ClassFile.FieldType.boolean) "lineHere" 12 0 0 (tR2 (P)) (tS G q fr) 0 0 [tw G q σ247, fr] 266 [(0, .ref (q 100))] [vI s1_266, .ref (q 100)] := by
                  intro s1_266 hj
                  have h := hJ266 s1_266 hj
                  refine ww_iconst dX5_lineHere_266 ?_
                  refine tc_must h ⟨Nat.le_of_ble_eq_true rfl, Nat.le_of_ble_eq_true rfl⟩ ⟨Nat.le_refl _, Nat.le_refl _⟩ (Nat.le_of_ble_eq_true rfl) dX5_lineHere_267 (fun y_15 σ_16 z_17 h => ?_)
                  refine ww_if_ne (tgt := 275) dX5_lineHere_270 (by decide) (z01 z_17) (fun c => ?_) (fun c => ?_)
                  · replace h := h.1 c
                    refine ww_aload_n dX5_lineHere_275 0 rfl ?_
                    refine tc_steps h ⟨Nat.le_of_ble_eq_true rfl, Nat.le_of_ble_eq_true rfl⟩ ⟨Nat.le_refl _, Nat.le_refl _⟩ (Nat.le_of_ble_eq_true rfl) dX5_lineHere_276 (fun σ_18 h => ?_)
                    refine ww_iconst dX5_lineHere_279 ?_
                    exact ww_zret (1, σ_18) rfl (Or.inr rfl) ⟨rfl, (Or.inr rfl), h⟩ rfl (Nat.le_refl _) (Nat.le_refl _) dX5_lineHere_280
                  · replace h := h.2 c
                    refine ww_iconst dX5_lineHere_273 ?_
                    exact ww_zret (0, σ_16) rfl (Or.inl rfl) ⟨rfl, (Or.inl rfl), h⟩ rfl (Nat.le_refl _) (Nat.le_refl _) dX5_lineHere_274
                refine ww_icmp_ne (tgt := 265) dX5_lineHere_258 (by decide) r_14 (by decide) (fun c => ?_) (fun c => ?_)
                · replace h := h.1 c
                  refine ww_iconst dX5_lineHere_265 ?_
                  refine ww_lv [1] rfl ?_
                  exact kJ266 _ h
                · replace h := h.2 c
                  refine ww_iconst dX5_lineHere_261 ?_
                  refine ww_goto (tgt := 266) dX5_lineHere_262 (by decide) ?_
                  refine ww_lv [1] rfl ?_
                  exact kJ266 _ h
            refine ww_if_ne (tgt := 207) dX5_lineHere_197 (by decide) r_12 (fun c => ?_) (fun c => ?_)
            · replace h := h.1 c
              refine ww_iload_n dX5_lineHere_207 2 rfl ?_
              refine ww_iconst dX5_lineHere_208 ?_
              obtain ⟨r_19, h⟩ := h
              refine ww_icmp_ne (tgt := 219) dX5_lineHere_209 (by decide) r_19 (by decide) (fun c => ?_) (fun c => ?_)
              · replace h := h.1 c
                refine ww_iload_n dX5_lineHere_219 2 rfl ?_
                refine ww_iconst dX5_lineHere_220 ?_
                obtain ⟨r_20, h⟩ := h
                refine ww_icmp_ne (tgt := 231) dX5_lineHere_221 (by decide) r_20 (by decide) (fun c => ?_) (fun c => ?_)
                · replace h := h.1 c
                  refine ww_iload_n dX5_lineHere_231 2 rfl ?_
                  refine ww_iconst dX5_lineHere_232 ?_
                  obtain ⟨r_21, h⟩ := h
                  refine ww_icmp_ne (tgt := 243) dX5_lineHere_233 (by decide) r_21 (by decide) (fun c => ?_) (fun c => ?_)
                  · replace h := h.1 c
                    refine ww_aload_n dX5_lineHere_243 1 rfl ?_
                    refine tc_wireLine h ⟨Nat.le_of_ble_eq_true rfl, Nat.le_of_ble_eq_true rfl⟩ ⟨Nat.le_refl _, Nat.le_refl _⟩ (Nat.le_of_ble_eq_true rfl) dX5_lineHere_244 (fun y_22 σ_23 z_24 h => ?_)
                    refine ww_lv [1] rfl ?_
                    exact kJ247 _ _ h
                  · replace h := h.2 c
                    refine ww_aload_n dX5_lineHere_236 1 rfl ?_
                    refine tc_nodeLine h ⟨Nat.le_of_ble_eq_true rfl, Nat.le_of_ble_eq_true rfl⟩ ⟨Nat.le_refl _, Nat.le_refl _⟩ (Nat.le_of_ble_eq_true rfl) dX5_lineHere_237 (fun y_25 σ_26 z_27 h => ?_)
                    refine ww_goto (tgt := 247) dX5_lineHere_240 (by decide) ?_
                    refine ww_lv [1] rfl ?_
                    exact kJ247 _ _ h
                · replace h := h.2 c
                  refine ww_aload_n dX5_lineHere_224 1 rfl ?_
                  refine tc_baseLine h ⟨Nat.le_of_ble_eq_true rfl, Nat.le_of_ble_eq_true rfl⟩ ⟨Nat.le_refl _, Nat.le_refl _⟩ (Nat.le_of_ble_eq_true rfl) dX5_lineHere_225 (fun y_28 σ_29 z_30 h => ?_)
                  refine ww_goto (tgt := 247) dX5_lineHere_228 (by decide) ?_
                  refine ww_lv [1] rfl ?_
                  exact kJ247 _ _ h
              · replace h := h.2 c
                refine ww_aload_n dX5_lineHere_212 1 rfl ?_
                refine tc_gateLine h ⟨Nat.le_of_ble_eq_true rfl, Nat.le_of_ble_eq_true rfl⟩ ⟨Nat.le_refl _, Nat.le_refl _⟩ (Nat.le_of_ble_eq_true rfl) dX5_lineHere_213 (fun y_31 σ_32 z_33 h => ?_)
                refine ww_goto (tgt := 247) dX5_lineHere_216 (by decide) ?_
                refine ww_lv [1] rfl ?_
                exact kJ247 _ _ h
            · replace h := h.2 c
              refine ww_aload_n dX5_lineHere_200 1 rfl ?_
              refine tc_tableLine h ⟨Nat.le_of_ble_eq_true rfl, Nat.le_of_ble_eq_true rfl⟩ ⟨Nat.le_refl _, Nat.le_refl _⟩ (Nat.le_of_ble_eq_true rfl) dX5_lineHere_201 (fun y_34 σ_35 z_36 h => ?_)
              refine ww_goto (tgt := 247) dX5_lineHere_204 (by decide) ?_
              refine ww_lv [1] rfl ?_
              exact kJ247 _ _ h
          · replace h := h.2 c
            refine ww_iconst dX5_lineHere_190 ?_
            exact ww_zret (0, σ_9) rfl (Or.inl rfl) ⟨rfl, (Or.inl rfl), h⟩ rfl (Nat.le_refl _) (Nat.le_refl _) dX5_lineHere_191
        refine ww_icmp_ge (tgt := 113) dX5_lineHere_88 (by decide) r_7 (by decide) (fun c => ?_) (fun c => ?_)
        · replace h := h.1 c
          refine ww_iload_n dX5_lineHere_113 1 rfl ?_
          refine ww_iconst dX5_lineHere_114 ?_
          obtain ⟨r_37, h⟩ := h
          refine ww_icmp_ne (tgt := 139) dX5_lineHere_115 (by decide) r_37 (by decide) (fun c => ?_) (fun c => ?_)
          · replace h := h.1 c
            refine ww_iload_n dX5_lineHere_139 1 rfl ?_
            refine ww_iconst dX5_lineHere_140 ?_
            obtain ⟨r_38, h⟩ := h
            refine ww_icmp_ne (tgt := 166) dX5_lineHere_141 (by decide) r_38 (by decide) (fun c => ?_) (fun c => ?_)
            · replace h := h.1 c
              refine ww_aload_n dX5_lineHere_166 0 rfl ?_
              refine tg_24 dX5_lineHere_167 ?_
              refine ww_bipush (v := 10) dX5_lineHere_170 rfl ?_
              obtain ⟨r_39, h⟩ := h
              refine ww_icmp_ge (tgt := 179) dX5_lineHere_172 (by decide) r_39 (by decide) (fun c => ?_) (fun c => ?_)
              · replace h := h.1 c
                refine ww_iconst dX5_lineHere_179 ?_
                exact kJ180 _ h
              · replace h := h.2 (Int.not_le.mp c)
                refine ww_iconst dX5_lineHere_175 ?_
                refine ww_goto (tgt := 180) dX5_lineHere_176 (by decide) ?_
                exact kJ180 _ h
            · replace h := h.2 c
              refine ww_aload_n dX5_lineHere_144 0 rfl ?_
              refine tg_16 dX5_lineHere_145 ?_
              refine ww_aload_n dX5_lineHere_148 0 rfl ?_
              refine tg_12 dX5_lineHere_149 ?_
              obtain ⟨r_40, h⟩ := h
              refine ta_16 r_40 dX5_lineHere_152 ?_
              refine ww_bipush (v := 6) dX5_lineHere_153 rfl ?_
              obtain ⟨r_41, h⟩ := h
              refine ww_icmp_ge (tgt := 162) dX5_lineHere_155 (by decide) r_41 (by decide) (fun c => ?_) (fun c => ?_)
              · replace h := h.1 c
                refine ww_iconst dX5_lineHere_162 ?_
                refine ww_goto (tgt := 180) dX5_lineHere_163 (by decide) ?_
                exact kJ180 _ h
              · replace h := h.2 (Int.not_le.mp c)
                refine ww_iconst dX5_lineHere_158 ?_
                refine ww_goto (tgt := 180) dX5_lineHere_159 (by decide) ?_
                exact kJ180 _ h
          · replace h := h.2 c
            refine ww_aload_n dX5_lineHere_118 0 rfl ?_
            refine tg_15 dX5_lineHere_119 ?_
            refine ww_aload_n dX5_lineHere_122 0 rfl ?_
            refine tg_12 dX5_lineHere_123 ?_
            obtain ⟨r_42, h⟩ := h
            refine ta_15 r_42 dX5_lineHere_126 ?_
            refine ww_iconst dX5_lineHere_127 ?_
            obtain ⟨r_43, h⟩ := h
            refine ww_icmp_ge (tgt := 135) dX5_lineHere_128 (by decide) r_43 (by decide) (fun c => ?_) (fun c => ?_)
            · replace h := h.1 c
              refine ww_iconst dX5_lineHere_135 ?_
              refine ww_goto (tgt := 180) dX5_lineHere_136 (by decide) ?_
              exact kJ180 _ h
            · replace h := h.2 (Int.not_le.mp c)
              refine ww_iconst dX5_lineHere_131 ?_
              refine ww_goto (tgt := 180) dX5_lineHere_132 (by decide) ?_
              exact kJ180 _ h
        · replace h := h.2 (Int.not_le.mp c)
          refine ww_aload_n dX5_lineHere_91 0 rfl ?_
          refine tg_14 dX5_lineHere_92 ?_
          refine ww_aload_n dX5_lineHere_95 0 rfl ?_
          refine tg_12 dX5_lineHere_96 ?_
          obtain ⟨r_44, h⟩ := h
          refine ta_14 r_44 dX5_lineHere_99 ?_
          refine ww_bipush (v := 8) dX5_lineHere_100 rfl ?_
          obtain ⟨r_45, h⟩ := h
          refine ww_icmp_ge (tgt := 109) dX5_lineHere_102 (by decide) r_45 (by decide) (fun c => ?_) (fun c => ?_)
          · replace h := h.1 c
            refine ww_iconst dX5_lineHere_109 ?_
            refine ww_goto (tgt := 180) dX5_lineHere_110 (by decide) ?_
            exact kJ180 _ h
          · replace h := h.2 (Int.not_le.mp c)
            refine ww_iconst dX5_lineHere_105 ?_
            refine ww_goto (tgt := 180) dX5_lineHere_106 (by decide) ?_
            exact kJ180 _ h
      · replace h := h.2 c
        refine ww_iconst dX5_lineHere_84 ?_
        exact ww_zret (0, σ_5) rfl (Or.inl rfl) ⟨rfl, (Or.inl rfl), h⟩ rfl (Nat.le_refl _) (Nat.le_refl _) dX5_lineHere_85
    refine ww_if_lt (tgt := 76) dX5_lineHere_69 (by decide) r_3 (fun c => ?_) (fun c => ?_)
    · replace h := h.1 c
      refine ww_iconst dX5_lineHere_76 ?_
      refine ww_lv [1, 0] rfl ?_
      exact kJ77 _ h
    · replace h := h.2 (Int.not_lt.mp c)
      refine ww_iconst dX5_lineHere_72 ?_
      refine ww_goto (tgt := 77) dX5_lineHere_73 (by decide) ?_
      refine ww_lv [1, 0] rfl ?_
      exact kJ77 _ h
  refine ww_if_eq (tgt := 13) dX5_lineHere_6 (by decide) (z01 z_2) (fun c => ?_) (fun c => ?_)
  · replace h := h.1 c
    refine ww_aload_n dX5_lineHere_13 0 rfl ?_
    refine ww_ldcS 9 rfl dX5_lineHere_14 ?_
    refine tc_is h ⟨Nat.le_of_ble_eq_true rfl, Nat.le_of_ble_eq_true rfl⟩ ⟨Nat.le_refl _, Nat.le_refl _⟩ (Nat.le_of_ble_eq_true rfl) dX5_lineHere_16 (fun y_46 z_47 h => ?_)
    refine ww_if_eq (tgt := 26) dX5_lineHere_19 (by decide) (z01 z_47) (fun c => ?_) (fun c => ?_)
    · replace h := h.1 c
      refine ww_aload_n dX5_lineHere_26 0 rfl ?_
      refine ww_ldcS 10 rfl dX5_lineHere_27 ?_
      refine tc_is h ⟨Nat.le_of_ble_eq_true rfl, Nat.le_of_ble_eq_true rfl⟩ ⟨Nat.le_refl _, Nat.le_refl _⟩ (Nat.le_of_ble_eq_true rfl) dX5_lineHere_29 (fun y_48 z_49 h => ?_)
      refine ww_if_eq (tgt := 39) dX5_lineHere_32 (by decide) (z01 z_49) (fun c => ?_) (fun c => ?_)
      · replace h := h.1 c
        refine ww_aload_n dX5_lineHere_39 0 rfl ?_
        refine ww_ldcS 11 rfl dX5_lineHere_40 ?_
        refine tc_is h ⟨Nat.le_of_ble_eq_true rfl, Nat.le_of_ble_eq_true rfl⟩ ⟨Nat.le_refl _, Nat.le_refl _⟩ (Nat.le_of_ble_eq_true rfl) dX5_lineHere_42 (fun y_50 z_51 h => ?_)
        refine ww_if_eq (tgt := 52) dX5_lineHere_45 (by decide) (z01 z_51) (fun c => ?_) (fun c => ?_)
        · replace h := h.1 c
          refine ww_aload_n dX5_lineHere_52 0 rfl ?_
          refine ww_ldcS 12 rfl dX5_lineHere_53 ?_
          refine tc_is h ⟨Nat.le_of_ble_eq_true rfl, Nat.le_of_ble_eq_true rfl⟩ ⟨Nat.le_refl _, Nat.le_refl _⟩ (Nat.le_of_ble_eq_true rfl) dX5_lineHere_55 (fun y_52 z_53 h => ?_)
          refine ww_if_eq (tgt := 65) dX5_lineHere_58 (by decide) (z01 z_53) (fun c => ?_) (fun c => ?_)
          · replace h := h.1 c
            refine ww_iconst dX5_lineHere_65 ?_
            exact kJ66 _ h
          · replace h := h.2 c
            refine ww_iconst dX5_lineHere_61 ?_
            refine ww_goto (tgt := 66) dX5_lineHere_62 (by decide) ?_
            exact kJ66 _ h
        · replace h := h.2 c
          refine ww_iconst dX5_lineHere_48 ?_
          refine ww_goto (tgt := 66) dX5_lineHere_49 (by decide) ?_
          exact kJ66 _ h
      · replace h := h.2 c
        refine ww_iconst dX5_lineHere_35 ?_
        refine ww_goto (tgt := 66) dX5_lineHere_36 (by decide) ?_
        exact kJ66 _ h
    · replace h := h.2 c
      refine ww_iconst dX5_lineHere_22 ?_
      refine ww_goto (tgt := 66) dX5_lineHere_23 (by decide) ?_
      exact kJ66 _ h
  · replace h := h.2 c
    refine ww_iconst dX5_lineHere_9 ?_
    refine ww_goto (tgt := 66) dX5_lineHere_10 (by decide) ?_
    exact kJ66 _ h
theorem tc_lineHere {S : Type} {G : g_G} {l : Launch} {cc : ByteArray} {nL : Nat} {ret : Option FieldType} {mn : String} {d mc ms : Nat} {R : Option Value → S → Prop} {sh : S → List va_W} {cells slots pc : Nat} {lv : List (Nat × Value)} {st : List Value} {q : Nat → Nat} {fr : va_W} {σ : TS} {P : Int → TS → Prop} (h : w_lineHere σ P) (hR : 12 + 1 ≤ d ∧ 16 + (4 + 11) + 100 * 12 ≤ 100 * d) (hc : cells ≤ mc ∧ slots ≤ ms) (hst : (st.map fun v => v.category).sum ≤ 16) (hdg : decode cc pc = .ok (.invokevirtual 248, 3)) (k : ∀ r, ∀ σ2, (r = 0 ∨ r = 1) → P r σ2 → WW G l cc RX5 nL ret mn d mc ms R sh cells slots [tw G q σ2, fr] (pc + 3) lv (vI r :: st)) : WW G l cc RX5 nL ret mn d mc ms R sh cells slots [tw G q σ, fr] pc lv (.ref (q 100) :: st) := by
  refine tw_call2 (n := 0) (t_lineHere (q := q) h) (lw_V q2343 q2345 qs62 q117 q2346) ⟨rfl, by decide, by decide, by decide +kernel⟩ rfl hR hc rfl hst hdg ?_
  exact fun r σ2 z h => k r σ2 z h
/-! net -/
def w_net (σ : TS) (a1 : Int) (P : Int → TS → Prop) : Prop :=
  rI a1 ∧
  rI (tF σ 2) ∧
  w_within a1 0 (tF σ 2) (fun y_3 =>
    ((¬ y_3 = 0 →
      ∀ σ_5 : TS, σ_5 = sA (sA (sA (sF (sF (sF (sF (sF (sF σ 0 0) 2 0) 3 a1) 5 0) 9 0) 12 1) 13 1 7) 14 1 0) 15 1 0 →
      ∃ I84 : Nat → Int → TS → Prop, (∀ (n84 : Nat) (v2_84 : Int) (σ84 : TS), I84 n84 v2_84 σ84 →
        rI v2_84 ∧
        ((256 ≤ v2_84 →
          w_steps σ84 (fun σ_7 =>
            w_is σ_7 1 (fun y_8 =>
              ∃ I129 : Nat → Int → Int → TS → Prop, (∀ (n129 : Nat) (v2_129 : Int) (v3_129 : Int) (σ129 : TS), I129 n129 v2_129 v3_129 σ129 →
                rI v3_129 ∧
                ∃ J151 : Prop, (J151 →
                  rI v3_129 ∧
                  ((¬ v3_129 = 0 →
                    w_copies (sF σ129 12 0) (fun σ_12 =>
                      P v2_129 (sA (sA (sF σ_12 32 0) 34 0 0) 34 1 0))) ∧
                  (v3_129 = 0 →
                    P ((-2) - ((8 * (tF σ129 10)) + (tF σ129 9))) (sF σ129 12 0)))) ∧
                ((v3_129 = 0 →
                  J151) ∧
                (¬ v3_129 = 0 →
                  rI (tF σ129 6) ∧
                  (((tF σ129 6) = 0 →
                    J151) ∧
                  (¬ (tF σ129 6) = 0 →
                    w_lineHere σ129 (fun y_14 σ_15 =>
                      ∃ m : Nat, m < n129 ∧ I129 m (v2_129 + 1) y_14 σ_15)))))) ∧
              ((y_8 = 0 →
                ∃ m : Nat, I129 m 0 1 σ_7) ∧
              (¬ y_8 = 0 →
                w_fieldLine σ_7 (fun y_17 σ_18 =>
                  ∃ m : Nat, I129 m (0 + 1) y_17 σ_18)))))) ∧
        (v2_84 < 256 →
          (0 ≤ v2_84 ∧ v2_84 < 256) ∧
          ∃ m : Nat, m < n84 ∧ I84 m (v2_84 + 1) (sA σ84 21 v2_84 0)))) ∧
      ∃ m : Nat, I84 m 128 (sF (sA σ_5 16 1 0) 24 0)) ∧
    (y_3 = 0 →
      P (-1) (sF σ 0 0))))
set_option maxHeartbeats 4000000 in
theorem t_net {G : g_G} {l : Launch} {q : Nat → Nat} {σ : TS} {a1 : Int} {P : Int → TS → Prop} (h : w_net σ a1 P) : CT G l yX5_net cX5_net 4 (Option.some Jvm.ClassFile.FieldType.int) 13 0 0 [.ref (q 100), vI a1] [tw G q σ] (tR1 (P)) (fun u => [tw G q u.2]) := by
  unfold w_net at h
  refine ww_of (by decide) (Nat.le_of_ble_eq_true rfl) (fun fr => ?_)
  show WW G l cX5_net RX5 4 (Option.some Jvm.ClassFile.FieldType.int) "net" 13 0 0 (tR1 (P)) (tS G q fr) 0 0 [tw G q σ, fr] 0 [(0, .ref (q 100)), (1, vI a1)] []
  refine ww_aload_n dX5_net_0 0 rfl ?_
  refine ww_iconst dX5_net_1 ?_
  refine tp_0 dX5_net_2 ?_
  refine ww_iload_n dX5_net_5 1 rfl ?_
  obtain ⟨r_1, h⟩ := h
  refine ww_i2l dX5_net_6 r_1 ?_
  refine ww_lconst (v := 0) dX5_net_7 rfl ?_
  refine ww_aload_n dX5_net_8 0 rfl ?_
  refine tg_2 dX5_net_9 ?_
  obtain ⟨r_2, h⟩ := h
  refine ww_i2l dX5_net_12 r_2 ?_
  refine tc_within h ⟨Nat.le_of_ble_eq_true rfl, Nat.le_of_ble_eq_true rfl⟩ ⟨Nat.le_refl _, Nat.le_refl _⟩ (Nat.le_of_ble_eq_true rfl) dX5_net_13 (fun y_3 z_4 h => ?_)
  refine ww_if_ne (tgt := 21) dX5_net_16 (by decide) (z01 z_4) (fun c => ?_) (fun c => ?_)
  · replace h := h.1 c
    refine ww_aload_n dX5_net_21 0 rfl ?_
    refine ww_iconst dX5_net_22 ?_
    refine tp_2 dX5_net_23 ?_
    refine ww_aload_n dX5_net_26 0 rfl ?_
    refine ww_iload_n dX5_net_27 1 rfl ?_
    refine tp_3 dX5_net_28 ?_
    refine ww_aload_n dX5_net_31 0 rfl ?_
    refine ww_iconst dX5_net_32 ?_
    refine tp_5 dX5_net_33 ?_
    refine ww_aload_n dX5_net_36 0 rfl ?_
    refine ww_iconst dX5_net_37 ?_
    refine tp_9 dX5_net_38 ?_
    refine ww_aload_n dX5_net_41 0 rfl ?_
    refine ww_iconst dX5_net_42 ?_
    refine tp_12 dX5_net_43 ?_
    refine ww_aload_n dX5_net_46 0 rfl ?_
    refine tg_13 dX5_net_47 ?_
    refine ww_iconst dX5_net_50 ?_
    refine ww_bipush (v := 7) dX5_net_51 rfl ?_
    refine ts_13 ⟨by decide, by decide⟩ dX5_net_53 ?_
    refine ww_aload_n dX5_net_54 0 rfl ?_
    refine tg_14 dX5_net_55 ?_
    refine ww_iconst dX5_net_58 ?_
    refine ww_iconst dX5_net_59 ?_
    refine ts_14 ⟨by decide, by decide⟩ dX5_net_60 ?_
    refine ww_aload_n dX5_net_61 0 rfl ?_
    refine tg_15 dX5_net_62 ?_
    refine ww_iconst dX5_net_65 ?_
    refine ww_iconst dX5_net_66 ?_
    refine ts_15 ⟨by decide, by decide⟩ dX5_net_67 ?_
    refine tw_nm (fun σ_5 eσ_5 => ?_)
    have h := h σ_5 eσ_5
    refine ww_aload_n dX5_net_68 0 rfl ?_
    refine tg_16 dX5_net_69 ?_
    refine ww_iconst dX5_net_72 ?_
    refine ww_iconst dX5_net_73 ?_
    refine ts_16 ⟨by decide, by decide⟩ dX5_net_74 ?_
    refine ww_aload_n dX5_net_75 0 rfl ?_
    refine ww_iconst dX5_net_76 ?_
    refine tp_24 dX5_net_77 ?_
    refine ww_sipush (v := 128) dX5_net_80 rfl ?_
    refine ww_istore_n dX5_net_83 rfl (Nat.le_of_ble_eq_true rfl) rfl ?_
    obtain ⟨I84, hI84, h⟩ := h
    have kI84 : ∀ (n84 : Nat), ∀ (v2_84 : Int), ∀ (σ84 : TS), I84 n84 v2_84 σ84 → WW G l cX5_net RX5 4 (Option.some Jvm.ClassFile.FieldType.int) "net" 13 0 0 (tR1 (P)) (tS G q fr) 0 0 [tw G q σ84, fr] 84 [(0, .ref (q 100)), (2, vI v2_84)] [] := by
      intro n84
      induction n84 using Nat.strongRecOn with
      | ind n84 ih84 =>
        intro v2_84 σ84 hj
        have h := hI84 n84 v2_84 σ84 hj
        refine ww_iload_n dX5_net_84 1 rfl ?_
        refine ww_sipush (v := 256) dX5_net_85 rfl ?_
        obtain ⟨r_6, h⟩ := h
        refine ww_icmp_ge (tgt := 104) dX5_net_88 (by decide) r_6 (by decide) (fun c => ?_) (fun c => ?_)
        · replace h := h.1 c
          refine ww_aload_n dX5_net_104 0 rfl ?_
          refine tc_steps h ⟨Nat.le_of_ble_eq_true rfl, Nat.le_of_ble_eq_true rfl⟩ ⟨Nat.le_refl _, Nat.le_refl _⟩ (Nat.le_of_ble_eq_true rfl) dX5_net_105 (fun σ_7 h => ?_)
          refine ww_iconst dX5_net_108 ?_
          refine ww_istore_n dX5_net_109 rfl (Nat.le_of_ble_eq_true rfl) rfl ?_
          refine ww_iconst dX5_net_110 ?_
          refine ww_istore_n dX5_net_111 rfl (Nat.le_of_ble_eq_true rfl) rfl ?_
          refine ww_aload_n dX5_net_112 2 rfl ?_
          refine ww_ldcS 7 rfl dX5_net_113 ?_
          refine tc_is h ⟨Nat.le_of_ble_eq_true rfl, Nat.le_of_ble_eq_true rfl⟩ ⟨Nat.le_refl _, Nat.le_refl _⟩ (Nat.le_of_ble_eq_true rfl) dX5_net_115 (fun y_8 z_9 h => ?_)
          obtain ⟨I129, hI129, h⟩ := h
          have kI129 : ∀ (n129 : Nat), ∀ (v2_129 : Int), ∀ (v3_129 : Int), ∀ (σ129 : TS), I129 n129 v2_129 v3_129 σ129 → WW G l cX5_net RX5 4 (Option.some Jvm.ClassFile.FieldType.int) "net" 13 0 0 (tR1 (P)) (tS G q fr) 0 0 [tw G q σ129, fr] 129 [(0, .ref (q 100)), (2, vI v2_129), (3, vI v3_129)] [] := by
            intro n129
            induction n129 using Nat.strongRecOn with
            | ind n129 ih129 =>
              intro v2_129 v3_129 σ129 hj
              have h := hI129 n129 v2_129 v3_129 σ129 hj
              refine ww_iload_n dX5_net_129 2 rfl ?_
              obtain ⟨r_10, h⟩ := h
              obtain ⟨J151, hJ151, h⟩ := h
              have kJ151 : J151 → WW G l cX5_net RX5 4 (Option.some Jvm.ClassFile.FieldType.int) "net" 13 0 0 (tR1 (P)) (tS G q fr) 0 0 [tw G q σ129, fr] 151 [(0, .ref (q 100)), (2, vI v2_129), (3, vI v3_129)] [] := by
                intro hj
                have h := hJ151 hj
                refine ww_aload_n dX5_net_151 0 rfl ?_
                refine ww_iconst dX5_net_152 ?_
                refine tp_12 dX5_net_153 ?_
                refine ww_iload_n dX5_net_156 2 rfl ?_
                obtain ⟨r_11, h⟩ := h
                refine ww_if_ne (tgt := 176) dX5_net_157 (by decide) r_11 (fun c => ?_) (fun c => ?_)
                · replace h := h.1 c
                  refine ww_aload_n dX5_net_176 0 rfl ?_
                  refine tc_copies h ⟨Nat.le_of_ble_eq_true rfl, Nat.le_of_ble_eq_true rfl⟩ ⟨Nat.le_refl _, Nat.le_refl _⟩ (Nat.le_of_ble_eq_true rfl) dX5_net_177 (fun σ_12 h => ?_)
                  refine ww_aload_n dX5_net_180 0 rfl ?_
                  refine ww_iconst dX5_net_181 ?_
                  refine tp_32 dX5_net_182 ?_
                  refine ww_aload_n dX5_net_185 0 rfl ?_
                  refine tg_34 dX5_net_186 ?_
                  refine ww_iconst dX5_net_189 ?_
                  refine ww_iconst dX5_net_190 ?_
                  refine ts_34 ⟨by decide, by decide⟩ (by decide) dX5_net_191 ?_
                  refine ww_aload_n dX5_net_192 0 rfl ?_
                  refine tg_34 dX5_net_193 ?_
                  refine ww_iconst dX5_net_196 ?_
                  refine ww_iconst dX5_net_197 ?_
                  refine ts_34 ⟨by decide, by decide⟩ (by decide) dX5_net_198 ?_
                  refine ww_iload_n dX5_net_199 1 rfl ?_
                  exact ww_iret (v2_129, sA (sA (sF σ_12 32 0) 34 0 0) 34 1 0) rfl ⟨rfl, h⟩ rfl (Nat.le_refl _) (Nat.le_refl _) dX5_net_200
                · replace h := h.2 c
                  refine ww_bipush (v := (-2)) dX5_net_160 rfl ?_
                  refine ww_bipush (v := 8) dX5_net_162 rfl ?_
                  refine ww_aload_n dX5_net_164 0 rfl ?_
                  refine tg_10 dX5_net_165 ?_
                  refine ww_imul dX5_net_168 ?_
                  refine ww_aload_n dX5_net_169 0 rfl ?_
                  refine tg_9 dX5_net_170 ?_
                  refine ww_iadd dX5_net_173 ?_
                  refine ww_isub dX5_net_174 ?_
                  exact ww_iret ((-2) - ((8 * (tF σ129 10)) + (tF σ129 9)), sF σ129 12 0) rfl ⟨rfl, h⟩ rfl (Nat.le_refl _) (Nat.le_refl _) dX5_net_175
              refine ww_if_eq (tgt := 151) dX5_net_130 (by decide) r_10 (fun c => ?_) (fun c => ?_)
              · replace h := h.1 c
                exact kJ151 h
              · replace h := h.2 c
                refine ww_aload_n dX5_net_133 0 rfl ?_
                refine tg_6 dX5_net_134 ?_
                obtain ⟨r_13, h⟩ := h
                refine ww_if_eq (tgt := 151) dX5_net_137 (by decide) r_13 (fun c => ?_) (fun c => ?_)
                · replace h := h.1 c
                  exact kJ151 h
                · replace h := h.2 c
                  refine ww_aload_n dX5_net_140 0 rfl ?_
                  refine tc_lineHere h ⟨Nat.le_of_ble_eq_true rfl, Nat.le_of_ble_eq_true rfl⟩ ⟨Nat.le_refl _, Nat.le_refl _⟩ (Nat.le_of_ble_eq_true rfl) dX5_net_141 (fun y_14 σ_15 z_16 h => ?_)
                  refine ww_istore_n dX5_net_144 rfl (Nat.le_of_ble_eq_true rfl) rfl ?_
                  refine ww_iinc dX5_net_145 2 rfl (Nat.le_of_ble_eq_true rfl) rfl ?_
                  refine ww_goto (tgt := 129) dX5_net_148 (by decide) ?_
                  refine ww_lv [2, 0, 1] rfl ?_
                  obtain ⟨m, hm, h⟩ := h
                  exact ih129 m hm _ _ _ h
          refine ww_if_eq (tgt := 129) dX5_net_118 (by decide) (z01 z_9) (fun c => ?_) (fun c => ?_)
          · replace h := h.1 c
            refine ww_lv [2, 1, 0] rfl ?_
            obtain ⟨m, h⟩ := h
            exact kI129 m _ _ _ h
          · replace h := h.2 c
            refine ww_aload_n dX5_net_121 2 rfl ?_
            refine tc_fieldLine h ⟨Nat.le_of_ble_eq_true rfl, Nat.le_of_ble_eq_true rfl⟩ ⟨Nat.le_refl _, Nat.le_refl _⟩ (Nat.le_of_ble_eq_true rfl) dX5_net_122 (fun y_17 σ_18 z_19 h => ?_)
            refine ww_istore_n dX5_net_125 rfl (Nat.le_of_ble_eq_true rfl) rfl ?_
            refine ww_iinc dX5_net_126 1 rfl (Nat.le_of_ble_eq_true rfl) rfl ?_
            refine ww_lv [2, 0, 1] rfl ?_
            obtain ⟨m, h⟩ := h
            exact kI129 m _ _ _ h
        · replace h := h.2 (Int.not_le.mp c)
          refine ww_aload_n dX5_net_91 0 rfl ?_
          refine tg_21 dX5_net_92 ?_
          refine ww_iload_n dX5_net_95 1 rfl ?_
          refine ww_iconst dX5_net_96 ?_
          obtain ⟨r_20, h⟩ := h
          refine ts_21 r_20 dX5_net_97 ?_
          refine ww_iinc dX5_net_98 1 rfl (Nat.le_of_ble_eq_true rfl) rfl ?_
          refine ww_goto (tgt := 84) dX5_net_101 (by decide) ?_
          refine ww_lv [1, 0] rfl ?_
          obtain ⟨m, hm, h⟩ := h
          exact ih84 m hm _ _ h
    refine ww_lv [1, 0] rfl ?_
    obtain ⟨m, h⟩ := h
    exact kI84 m _ _ h
  · replace h := h.2 c
    refine ww_iconst dX5_net_19 ?_
    exact ww_iret ((-1), sF σ 0 0) rfl ⟨rfl, h⟩ rfl (Nat.le_refl _) (Nat.le_refl _) dX5_net_20

