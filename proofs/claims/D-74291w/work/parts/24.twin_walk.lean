/-! THE TWIN: weakest preconditions and walks (printed by tools/twin.py) -/
set_option maxRecDepth 100000
/-! laysMatchings -/
def w_laysMatchings (σ : TS) (a1 : Int) (a2 : Int) (P : TS → Prop) : Prop :=
  ∃ I9 : Nat → Int → TS → Prop, (∀ (n9 : Nat) (v3_9 : Int) (σ9 : TS), I9 n9 v3_9 σ9 →
    rI v3_9 ∧
    (((bL 1 a1) ≤ v3_9 →
      P σ9) ∧
    (v3_9 < (bL 1 a1) →
      ∃ I19 : Nat → Int → Prop, (∀ (n19 : Nat) (v4_19 : Int), I19 n19 v4_19 →
        ((¬ (bA (bR v3_9 v4_19) 1) = 0 →
          ∃ I43 : Nat → Int → Int → Prop, (∀ (n43 : Nat) (v5_43 : Int) (v6_43 : Int), I43 n43 v5_43 v6_43 →
            rI v6_43 ∧
            rI a1 ∧
            ((a1 ≤ v6_43 →
              (0 ≤ v5_43 ∧ v5_43 < 2147483648 ∧ (0 : Int) < a2 ∧ (a2 : Int) < 2147483648) ∧
              (0 ≤ v3_9 ∧ v3_9 < 256) ∧
              ∃ m : Nat, m < n9 ∧ I9 m (v3_9 + 1) (sA σ9 28 v3_9 (v5_43 % a2))) ∧
            (v6_43 < a1 →
              ∃ J116 : Int → Prop, (∀ (v5_116 : Int), J116 v5_116 →
                ∃ m : Nat, m < n43 ∧ I43 m v5_116 (v6_43 + 1)) ∧
              (((bA (bR v3_9 v6_43) 1) = 0 →
                J116 v5_43) ∧
              (¬ (bA (bR v3_9 v6_43) 1) = 0 →
                (0 ≤ (8 * v4_19) + v6_43 ∧ (8 * v4_19) + v6_43 < 64) ∧
                rI (tA σ9 27 ((8 * v4_19) + v6_43)) ∧
                ((¬ (tA σ9 27 ((8 * v4_19) + v6_43)) = 0 →
                  (0 ≤ (8 * v4_19) + v6_43 ∧ (8 * v4_19) + v6_43 < 64) ∧
                  (0 ≤ bA (bA v3_9 (bX (bL 1 v4_19) (-1))) (bX (bL 1 v6_43) (-1)) ∧ bA (bA v3_9 (bX (bL 1 v4_19) (-1))) (bX (bL 1 v6_43) (-1)) < 256) ∧
                  ∀ x_10 : Int, x_10 = v5_43 + ((tA σ9 27 ((8 * v4_19) + v6_43)) * (tA σ9 28 (bA (bA v3_9 (bX (bL 1 v4_19) (-1))) (bX (bL 1 v6_43) (-1))))) →
                  J116 x_10) ∧
                ((tA σ9 27 ((8 * v4_19) + v6_43)) = 0 →
                  J116 v5_43))))))) ∧
          ∃ m : Nat, I43 m 0 (v4_19 + 1)) ∧
        ((bA (bR v3_9 v4_19) 1) = 0 →
          ∃ m : Nat, m < n19 ∧ I19 m (v4_19 + 1)))) ∧
      ∃ m : Nat, I19 m 0))) ∧
  ∃ m : Nat, I9 m 1 (sA σ 28 0 1)
set_option maxHeartbeats 4000000 in
theorem t_laysMatchings {G : g_G} {l : Launch} {q : Nat → Nat} {σ : TS} {a1 : Int} {a2 : Int} {P : TS → Prop} (h : w_laysMatchings σ a1 a2 P) : CT G l yX5_laysMatchings cX5_laysMatchings 7 (Option.none : Option Jvm.ClassFile.FieldType) 0 0 0 [.ref (q 100), vI a1, vI a2] [tw G q σ] (tR0 (fun _ s => P s)) (fun u => [tw G q u.2]) := by
  unfold w_laysMatchings at h
  refine ww_of (by decide) (Nat.le_of_ble_eq_true rfl) (fun fr => ?_)
  show WW G l cX5_laysMatchings RX5 7 (Option.none : Option Jvm.ClassFile.FieldType) "laysMatchings" 0 0 0 (tR0 (fun _ s => P s)) (tS G q fr) 0 0 [tw G q σ, fr] 0 [(0, .ref (q 100)), (1, vI a1), (2, vI a2)] []
  refine ww_aload_n dX5_laysMatchings_0 0 rfl ?_
  refine tg_28 dX5_laysMatchings_1 ?_
  refine ww_iconst dX5_laysMatchings_4 ?_
  refine ww_iconst dX5_laysMatchings_5 ?_
  refine ts_28 ⟨by decide, by decide⟩ dX5_laysMatchings_6 ?_
  refine ww_iconst dX5_laysMatchings_7 ?_
  refine ww_istore_n dX5_laysMatchings_8 rfl (Nat.le_of_ble_eq_true rfl) rfl ?_
  obtain ⟨I9, hI9, h⟩ := h
  have kI9 : ∀ (n9 : Nat), ∀ (v3_9 : Int), ∀ (σ9 : TS), I9 n9 v3_9 σ9 → WW G l cX5_laysMatchings RX5 7 (Option.none : Option Jvm.ClassFile.FieldType) "laysMatchings" 0 0 0 (tR0 (fun _ s => P s)) (tS G q fr) 0 0 [tw G q σ9, fr] 9 [(0, .ref (q 100)), (1, vI a1), (2, vI a2), (3, vI v3_9)] [] := by
    intro n9
    induction n9 using Nat.strongRecOn with
    | ind n9 ih9 =>
      intro v3_9 σ9 hj
      have h := hI9 n9 v3_9 σ9 hj
      refine ww_iload_n dX5_laysMatchings_9 3 rfl ?_
      refine ww_iconst dX5_laysMatchings_10 ?_
      refine ww_iload_n dX5_laysMatchings_11 1 rfl ?_
      refine ww_ishl dX5_laysMatchings_12 ?_
      obtain ⟨r_1, h⟩ := h
      refine ww_icmp_ge (tgt := 138) dX5_laysMatchings_13 (by decide) r_1 (rI_bL _ _) (fun c => ?_) (fun c => ?_)
      · replace h := h.1 c
        exact ww_vret (0, σ9) rfl ⟨rfl, h⟩ rfl (Nat.le_refl _) (Nat.le_refl _) dX5_laysMatchings_138
      · replace h := h.2 (Int.not_le.mp c)
        refine ww_iconst dX5_laysMatchings_16 ?_
        refine ww_istore dX5_laysMatchings_17 (Nat.le_of_ble_eq_true rfl) rfl ?_
        obtain ⟨I19, hI19, h⟩ := h
        have kI19 : ∀ (n19 : Nat), ∀ (v4_19 : Int), I19 n19 v4_19 → WW G l cX5_laysMatchings RX5 7 (Option.none : Option Jvm.ClassFile.FieldType) "laysMatchings" 0 0 0 (tR0 (fun _ s => P s)) (tS G q fr) 0 0 [tw G q σ9, fr] 19 [(0, .ref (q 100)), (1, vI a1), (2, vI a2), (3, vI v3_9), (4, vI v4_19)] [] := by
          intro n19
          induction n19 using Nat.strongRecOn with
          | ind n19 ih19 =>
            intro v4_19 hj
            have h := hI19 n19 v4_19 hj
            refine ww_iload_n dX5_laysMatchings_19 3 rfl ?_
            refine ww_iload dX5_laysMatchings_20 4 rfl ?_
            refine ww_ishr dX5_laysMatchings_22 ?_
            refine ww_iconst dX5_laysMatchings_23 ?_
            refine ww_iand dX5_laysMatchings_24 ?_
            refine ww_if_ne (tgt := 34) dX5_laysMatchings_25 (by decide) (rI_bA _ _) (fun c => ?_) (fun c => ?_)
            · replace h := h.1 c
              refine ww_iconst dX5_laysMatchings_34 ?_
              refine ww_istore dX5_laysMatchings_35 (Nat.le_of_ble_eq_true rfl) rfl ?_
              refine ww_iload dX5_laysMatchings_37 5 rfl ?_
              refine ww_iconst dX5_laysMatchings_39 ?_
              refine ww_iadd dX5_laysMatchings_40 ?_
              refine ww_istore dX5_laysMatchings_41 (Nat.le_of_ble_eq_true rfl) rfl ?_
              obtain ⟨I43, hI43, h⟩ := h
              have kI43 : ∀ (n43 : Nat), ∀ (v5_43 : Int), ∀ (v6_43 : Int), I43 n43 v5_43 v6_43 → WW G l cX5_laysMatchings RX5 7 (Option.none : Option Jvm.ClassFile.FieldType) "laysMatchings" 0 0 0 (tR0 (fun _ s => P s)) (tS G q fr) 0 0 [tw G q σ9, fr] 43 [(0, .ref (q 100)), (1, vI a1), (2, vI a2), (3, vI v3_9), (4, vI v4_19), (5, vI v5_43), (6, vI v6_43)] [] := by
                intro n43
                induction n43 using Nat.strongRecOn with
                | ind n43 ih43 =>
                  intro v5_43 v6_43 hj
                  have h := hI43 n43 v5_43 v6_43 hj
                  refine ww_iload dX5_laysMatchings_43 6 rfl ?_
                  refine ww_iload_n dX5_laysMatchings_45 1 rfl ?_
                  obtain ⟨r_2, r_3, h⟩ := h
                  refine ww_icmp_ge (tgt := 122) dX5_laysMatchings_46 (by decide) r_2 r_3 (fun c => ?_) (fun c => ?_)
                  · replace h := h.1 c
                    refine ww_aload_n dX5_laysMatchings_122 0 rfl ?_
                    refine tg_28 dX5_laysMatchings_123 ?_
                    refine ww_iload_n dX5_laysMatchings_126 3 rfl ?_
                    refine ww_iload dX5_laysMatchings_127 5 rfl ?_
                    refine ww_iload_n dX5_laysMatchings_129 2 rfl ?_
                    obtain ⟨r_4, h⟩ := h
                    refine ww_irem dX5_laysMatchings_130 r_4 ?_
                    obtain ⟨r_5, h⟩ := h
                    refine ts_28 r_5 dX5_laysMatchings_131 ?_
                    refine ww_iinc dX5_laysMatchings_132 3 rfl (Nat.le_of_ble_eq_true rfl) rfl ?_
                    refine ww_goto (tgt := 9) dX5_laysMatchings_135 (by decide) ?_
                    refine ww_lv [1, 2, 3, 0] rfl ?_
                    obtain ⟨m, hm, h⟩ := h
                    exact ih9 m hm _ _ h
                  · replace h := h.2 (Int.not_le.mp c)
                    refine ww_iload_n dX5_laysMatchings_49 3 rfl ?_
                    refine ww_iload dX5_laysMatchings_50 6 rfl ?_
                    refine ww_ishr dX5_laysMatchings_52 ?_
                    refine ww_iconst dX5_laysMatchings_53 ?_
                    refine ww_iand dX5_laysMatchings_54 ?_
                    obtain ⟨J116, hJ116, h⟩ := h
                    have kJ116 : ∀ (v5_116 : Int), J116 v5_116 → WW G l cX5_laysMatchings RX5 7 (Option.none : Option Jvm.ClassFile.FieldType) "laysMatchings" 0 0 0 (tR0 (fun _ s => P s)) (tS G q fr) 0 0 [tw G q σ9, fr] 116 [(0, .ref (q 100)), (1, vI a1), (2, vI a2), (3, vI v3_9), (4, vI v4_19), (5, vI v5_116), (6, vI v6_43)] [] := by
                      intro v5_116 hj
                      have h := hJ116 v5_116 hj
                      refine ww_iinc dX5_laysMatchings_116 6 rfl (Nat.le_of_ble_eq_true rfl) rfl ?_
                      refine ww_goto (tgt := 43) dX5_laysMatchings_119 (by decide) ?_
                      refine ww_lv [1, 2, 3, 4, 5, 6, 0] rfl ?_
                      obtain ⟨m, hm, h⟩ := h
                      exact ih43 m hm _ _ h
                    refine ww_if_eq (tgt := 116) dX5_laysMatchings_55 (by decide) (rI_bA _ _) (fun c => ?_) (fun c => ?_)
                    · replace h := h.1 c
                      exact kJ116 _ h
                    · replace h := h.2 c
                      refine ww_aload_n dX5_laysMatchings_58 0 rfl ?_
                      refine tg_27 dX5_laysMatchings_59 ?_
                      refine ww_bipush (v := 8) dX5_laysMatchings_62 rfl ?_
                      refine ww_iload dX5_laysMatchings_64 4 rfl ?_
                      refine ww_imul dX5_laysMatchings_66 ?_
                      refine ww_iload dX5_laysMatchings_67 6 rfl ?_
                      refine ww_iadd dX5_laysMatchings_69 ?_
                      obtain ⟨r_6, h⟩ := h
                      refine ta_27 r_6 dX5_laysMatchings_70 ?_
                      obtain ⟨r_7, h⟩ := h
                      refine ww_if_ne (tgt := 77) dX5_laysMatchings_71 (by decide) r_7 (fun c => ?_) (fun c => ?_)
                      · replace h := h.1 c
                        refine ww_iload dX5_laysMatchings_77 5 rfl ?_
                        refine ww_aload_n dX5_laysMatchings_79 0 rfl ?_
                        refine tg_27 dX5_laysMatchings_80 ?_
                        refine ww_bipush (v := 8) dX5_laysMatchings_83 rfl ?_
                        refine ww_iload dX5_laysMatchings_85 4 rfl ?_
                        refine ww_imul dX5_laysMatchings_87 ?_
                        refine ww_iload dX5_laysMatchings_88 6 rfl ?_
                        refine ww_iadd dX5_laysMatchings_90 ?_
                        obtain ⟨r_8, h⟩ := h
                        refine ta_27 r_8 dX5_laysMatchings_91 ?_
                        refine ww_aload_n dX5_laysMatchings_92 0 rfl ?_
                        refine tg_28 dX5_laysMatchings_93 ?_
                        refine ww_iload_n dX5_laysMatchings_96 3 rfl ?_
                        refine ww_iconst dX5_laysMatchings_97 ?_
                        refine ww_iload dX5_laysMatchings_98 4 rfl ?_
                        refine ww_ishl dX5_laysMatchings_100 ?_
                        refine ww_iconst dX5_laysMatchings_101 ?_
                        refine ww_ixor dX5_laysMatchings_102 ?_
                        refine ww_iand dX5_laysMatchings_103 ?_
                        refine ww_iconst dX5_laysMatchings_104 ?_
                        refine ww_iload dX5_laysMatchings_105 6 rfl ?_
                        refine ww_ishl dX5_laysMatchings_107 ?_
                        refine ww_iconst dX5_laysMatchings_108 ?_
                        refine ww_ixor dX5_laysMatchings_109 ?_
                        refine ww_iand dX5_laysMatchings_110 ?_
                        obtain ⟨r_9, h⟩ := h
                        refine ta_28 r_9 dX5_laysMatchings_111 ?_
                        refine ww_imul dX5_laysMatchings_112 ?_
                        refine ww_iadd dX5_laysMatchings_113 ?_
                        refine ww_nmI (fun x_10 ex_10 => ?_)
                        replace h := h x_10 ex_10
                        refine ww_istore dX5_laysMatchings_114 (Nat.le_of_ble_eq_true rfl) rfl ?_
                        refine ww_lv [1, 2, 3, 4, 5, 0, 6] rfl ?_
                        exact kJ116 _ h
                      · replace h := h.2 c
                        refine ww_goto (tgt := 116) dX5_laysMatchings_74 (by decide) ?_
                        exact kJ116 _ h
              refine ww_lv [2, 3, 4, 5, 6, 1, 0] rfl ?_
              obtain ⟨m, h⟩ := h
              exact kI43 m _ _ h
            · replace h := h.2 c
              refine ww_iinc dX5_laysMatchings_28 4 rfl (Nat.le_of_ble_eq_true rfl) rfl ?_
              refine ww_goto (tgt := 19) dX5_laysMatchings_31 (by decide) ?_
              refine ww_lv [1, 2, 3, 4, 0] rfl ?_
              obtain ⟨m, hm, h⟩ := h
              exact ih19 m hm _ h
        refine ww_lv [1, 2, 3, 4, 0] rfl ?_
        obtain ⟨m, h⟩ := h
        exact kI19 m _ h
  refine ww_lv [1, 2, 3, 0] rfl ?_
  obtain ⟨m, h⟩ := h
  exact kI9 m _ _ h
theorem tc_laysMatchings {S : Type} {G : g_G} {l : Launch} {cc : ByteArray} {nL : Nat} {ret : Option FieldType} {mn : String} {d mc ms : Nat} {R : Option Value → S → Prop} {sh : S → List va_W} {cells slots pc : Nat} {lv : List (Nat × Value)} {st : List Value} {q : Nat → Nat} {fr : va_W} {σ : TS} {a1 : Int} {a2 : Int} {P : TS → Prop} (h : w_laysMatchings σ a1 a2 P) (hR : 0 + 1 ≤ d ∧ 16 + (7 + 11) + 100 * 0 ≤ 100 * d) (hc : cells ≤ mc ∧ slots ≤ ms) (hst : (st.map fun v => v.category).sum ≤ 16) (hdg : decode cc pc = .ok (.invokevirtual 207, 3)) (k : ∀ σ2, P σ2 → WW G l cc RX5 nL ret mn d mc ms R sh cells slots [tw G q σ2, fr] (pc + 3) lv (st)) : WW G l cc RX5 nL ret mn d mc ms R sh cells slots [tw G q σ, fr] pc lv (vI a2 :: vI a1 :: .ref (q 100) :: st) := by
  refine tw_call0 (n := 2) (t_laysMatchings (q := q) h) (lw_V q2384 q2386 qs71 q117 q2387) ⟨rfl, by decide, by decide, by decide +kernel⟩ rfl hR hc rfl hst hdg ?_
  exact k
/-! gateLine -/
def w_gateLine (σ : TS) (P : Int → TS → Prop) : Prop :=
  w_newName σ (fun y_1 σ_2 =>
    ((¬ y_1 = 0 →
      (0 ≤ tF σ_2 12 ∧ tF σ_2 12 < 2) ∧
      ∀ x_5 : Int, x_5 = (8 * (tF σ_2 12)) + (tA σ_2 14 (tF σ_2 12)) →
      w_takesNumber σ_2 1 8 (fun y_6 σ_7 =>
        ((¬ y_6 = 0 →
          rI (tF σ_7 11) ∧
          ∃ J64 : Int → Prop, (∀ (s2_64 : Int), J64 s2_64 →
            w_takesNumber σ_7 1 s2_64 (fun y_10 σ_11 =>
              ((¬ y_10 = 0 →
                (0 ≤ x_5 ∧ x_5 < 16) ∧
                ∃ I85 : Nat → Int → TS → Prop, (∀ (n85 : Nat) (v5_85 : Int) (σ85 : TS), I85 n85 v5_85 σ85 →
                  rI v5_85 ∧
                  ((64 ≤ v5_85 →
                    ∃ I109 : Nat → Int → TS → Prop, (∀ (n109 : Nat) (v5_109 : Int) (σ109 : TS), I109 n109 v5_109 σ109 →
                      rI (tF σ109 6) ∧
                      ((¬ (tF σ109 6) = 2 →
                        (0 ≤ tF σ109 12 ∧ tF σ109 12 < 2) ∧
                        w_laysMatchings σ109 (tF σ_7 11) (tA σ109 13 (tF σ109 12)) (fun σ_17 =>
                          ∃ I348 : Nat → Int → TS → Prop, (∀ (n348 : Nat) (v6_348 : Int) (σ348 : TS), I348 n348 v6_348 σ348 →
                            (0 ≤ x_5 ∧ x_5 < 16) ∧
                            rI v6_348 ∧
                            (((bL 1 (tA σ348 20 x_5)) ≤ v6_348 →
                              (0 ≤ x_5 ∧ x_5 < 16) ∧
                              (0 ≤ tF σ348 12 ∧ tF σ348 12 < 2) ∧
                              (0 ≤ tF σ348 12 ∧ tF σ348 12 < 2) ∧
                              P 1 (sA (sA σ348 17 x_5 (tF σ_2 26)) 14 (tF σ348 12) ((tA σ348 14 (tF σ348 12)) + 1))) ∧
                            (v6_348 < (bL 1 (tA σ348 20 x_5)) →
                              (0 ≤ bA ((bL 1 (tF σ_7 11)) - 1) (bX v6_348 (-1)) ∧ bA ((bL 1 (tF σ_7 11)) - 1) (bX v6_348 (-1)) < 256) ∧
                              (0 ≤ (16 * x_5) + v6_348 ∧ (16 * x_5) + v6_348 < 256) ∧
                              ∃ m : Nat, m < n348 ∧ I348 m (v6_348 + 1) (sA σ348 21 ((16 * x_5) + v6_348) (tA σ348 28 (bA ((bL 1 (tF σ_7 11)) - 1) (bX v6_348 (-1)))))))) ∧
                          ∃ m : Nat, I348 m 0 σ_17)) ∧
                      ((tF σ109 6) = 2 →
                        rI (tF σ109 7) ∧
                        rI (tF σ_7 11) ∧
                        ∃ J132 : Int → Prop, (∀ (s1_132 : Int), J132 s1_132 →
                          w_must σ109 s1_132 4 (fun y_27 σ_28 =>
                            ((y_27 = 0 →
                              P 0 σ_28) ∧
                            (¬ y_27 = 0 →
                              rI v5_109 ∧
                              ∃ J152 : Int → Prop, (∀ (s1_152 : Int), J152 s1_152 →
                                w_must σ_28 s1_152 5 (fun y_31 σ_32 =>
                                  ((¬ y_31 = 0 →
                                    w_steps σ_32 (fun σ_34 =>
                                      rI (tF σ_34 6) ∧
                                      ∃ J185 : Int → Prop, (∀ (s1_185 : Int), J185 s1_185 →
                                        w_must σ_34 s1_185 1 (fun y_36 σ_37 =>
                                          ((¬ y_36 = 0 →
                                            rI (tF σ_37 7) ∧
                                            rI (tF σ_7 11) ∧
                                            ∃ J229 : Int → Prop, (∀ (s1_229 : Int), J229 s1_229 →
                                              w_must σ_37 s1_229 2 (fun y_41 σ_42 =>
                                                ((y_41 = 0 →
                                                  P 0 σ_42) ∧
                                                (¬ y_41 = 0 →
                                                  rI (tF σ_37 7) ∧
                                                  rI (tF σ_7 11) ∧
                                                  ∃ J256 : Int → Prop, (∀ (s1_256 : Int), J256 s1_256 →
                                                    w_must σ_42 s1_256 4 (fun y_46 σ_47 =>
                                                      ((¬ y_46 = 0 →
                                                        w_steps σ_47 (fun σ_49 =>
                                                          (0 ≤ tF σ_49 12 ∧ tF σ_49 12 < 2) ∧
                                                          w_takesNumber σ_49 1 ((tA σ_49 13 (tF σ_49 12)) - 1) (fun y_51 σ_52 =>
                                                            ((¬ y_51 = 0 →
                                                              (0 ≤ (8 * (tF σ_32 7)) + (tF σ_37 7) ∧ (8 * (tF σ_32 7)) + (tF σ_37 7) < 64) ∧
                                                              (0 ≤ (8 * (tF σ_37 7)) + (tF σ_32 7) ∧ (8 * (tF σ_37 7)) + (tF σ_32 7) < 64) ∧
                                                              ∃ m : Nat, m < n109 ∧ I109 m (v5_109 + 1) (sA (sA σ_52 27 ((8 * (tF σ_32 7)) + (tF σ_37 7)) (tF σ_52 11)) 27 ((8 * (tF σ_37 7)) + (tF σ_32 7)) (tF σ_52 11))) ∧
                                                            (y_51 = 0 →
                                                              P 0 σ_52))))) ∧
                                                      (y_46 = 0 →
                                                        P 0 σ_47)))) ∧
                                                  ∃ J255 : Prop, (J255 →
                                                    J256 0) ∧
                                                  (((tF σ_7 11) ≤ (tF σ_37 7) →
                                                    J255) ∧
                                                  ((tF σ_37 7) < (tF σ_7 11) →
                                                    rI (tF σ_37 7) ∧
                                                    rI (tF σ_32 7) ∧
                                                    (((tF σ_37 7) = (tF σ_32 7) →
                                                      J255) ∧
                                                    (¬ (tF σ_37 7) = (tF σ_32 7) →
                                                      J256 1)))))))) ∧
                                            ∃ J224 : Prop, (J224 →
                                              J229 1) ∧
                                            (((tF σ_7 11) ≤ (tF σ_37 7) →
                                              J224) ∧
                                            ((tF σ_37 7) < (tF σ_7 11) →
                                              (0 ≤ (8 * (tF σ_32 7)) + (tF σ_37 7) ∧ (8 * (tF σ_32 7)) + (tF σ_37 7) < 64) ∧
                                              rI (tA σ_37 27 ((8 * (tF σ_32 7)) + (tF σ_37 7))) ∧
                                              ((¬ (tA σ_37 27 ((8 * (tF σ_32 7)) + (tF σ_37 7))) = 0 →
                                                J229 0) ∧
                                              ((tA σ_37 27 ((8 * (tF σ_32 7)) + (tF σ_37 7))) = 0 →
                                                J224))))) ∧
                                          (y_36 = 0 →
                                            P 0 σ_37)))) ∧
                                      ((¬ (tF σ_34 6) = 2 →
                                        J185 0) ∧
                                      ((tF σ_34 6) = 2 →
                                        J185 1)))) ∧
                                  (y_31 = 0 →
                                    P 0 σ_32)))) ∧
                              ((12 ≤ v5_109 →
                                J152 0) ∧
                              (v5_109 < 12 →
                                J152 1)))))) ∧
                        (((tF σ_7 11) ≤ (tF σ109 7) →
                          J132 0) ∧
                        ((tF σ109 7) < (tF σ_7 11) →
                          J132 1))))) ∧
                    ∃ m : Nat, I109 m 0 σ85) ∧
                  (v5_85 < 64 →
                    (0 ≤ v5_85 ∧ v5_85 < 64) ∧
                    ∃ m : Nat, m < n85 ∧ I85 m (v5_85 + 1) (sA σ85 27 v5_85 0)))) ∧
                ∃ m : Nat, I85 m 0 (sA σ_11 20 x_5 (tF σ_11 11))) ∧
              (y_10 = 0 →
                P 0 σ_11)))) ∧
          ((4 ≤ (tF σ_7 11) →
            J64 4) ∧
          ((tF σ_7 11) < 4 →
            J64 (tF σ_7 11)))) ∧
        (y_6 = 0 →
          P 0 σ_7)))) ∧
    (y_1 = 0 →
      P 0 σ_2)))
set_option maxHeartbeats 4000000 in
theorem t_gateLine {G : g_G} {l : Launch} {q : Nat → Nat} {σ : TS} {P : Int → TS → Prop} (h : w_gateLine σ P) : CT G l yX5_gateLine cX5_gateLine 8 (Option.some Jvm.ClassFile.FieldType.boolean) 11 0 0 [.ref (q 100)] [tw G q σ] (tR2 (P)) (fun u => [tw G q u.2]) := by
  unfold w_gateLine at h
  refine ww_of (by decide) (Nat.le_of_ble_eq_true rfl) (fun fr => ?_)
  show WW G l cX5_gateLine RX5 8 (Option.some Jvm.ClassFile.FieldType.boolean) "gateLine" 11 0 0 (tR2 (P)) (tS G q fr) 0 0 [tw G q σ, fr] 0 [(0, .ref (q 100))] []
  refine ww_aload_n dX5_gateLine_0 0 rfl ?_
  refine tc_newName h ⟨Nat.le_of_ble_eq_true rfl, Nat.le_of_ble_eq_true rfl⟩ ⟨Nat.le_refl _, Nat.le_refl _⟩ (Nat.le_of_ble_eq_true rfl) dX5_gateLine_1 (fun y_1 σ_2 z_3 h => ?_)
  refine ww_if_ne (tgt := 9) dX5_gateLine_4 (by decide) (z01 z_3) (fun c => ?_) (fun c => ?_)
  · replace h := h.1 c
    refine ww_bipush (v := 8) dX5_gateLine_9 rfl ?_
    refine ww_aload_n dX5_gateLine_11 0 rfl ?_
    refine tg_12 dX5_gateLine_12 ?_
    refine ww_imul dX5_gateLine_15 ?_
    refine ww_aload_n dX5_gateLine_16 0 rfl ?_
    refine tg_14 dX5_gateLine_17 ?_
    refine ww_aload_n dX5_gateLine_20 0 rfl ?_
    refine tg_12 dX5_gateLine_21 ?_
    obtain ⟨r_4, h⟩ := h
    refine ta_14 r_4 dX5_gateLine_24 ?_
    refine ww_iadd dX5_gateLine_25 ?_
    refine ww_nmI (fun x_5 ex_5 => ?_)
    replace h := h x_5 ex_5
    refine ww_istore_n dX5_gateLine_26 rfl (Nat.le_of_ble_eq_true rfl) rfl ?_
    refine ww_aload_n dX5_gateLine_27 1 rfl ?_
    refine tg_26 dX5_gateLine_28 ?_
    refine ww_lstore_n dX5_gateLine_31 rfl (Nat.le_of_ble_eq_true rfl) rfl ?_
    refine ww_aload_n dX5_gateLine_32 2 rfl ?_
    refine ww_iconst dX5_gateLine_33 ?_
    refine ww_bipush (v := 8) dX5_gateLine_34 rfl ?_
    refine tc_takesNumber h ⟨Nat.le_of_ble_eq_true rfl, Nat.le_of_ble_eq_true rfl⟩ ⟨Nat.le_refl _, Nat.le_refl _⟩ (Nat.le_of_ble_eq_true rfl) dX5_gateLine_36 (fun y_6 σ_7 z_8 h => ?_)
    refine ww_if_ne (tgt := 44) dX5_gateLine_39 (by decide) (z01 z_8) (fun c => ?_) (fun c => ?_)
    · replace h := h.1 c
      refine ww_aload_n dX5_gateLine_44 2 rfl ?_
      refine tg_11 dX5_gateLine_45 ?_
      refine ww_istore dX5_gateLine_48 (Nat.le_of_ble_eq_true rfl) rfl ?_
      refine ww_aload_n dX5_gateLine_50 3 rfl ?_
      refine ww_iconst dX5_gateLine_51 ?_
      refine ww_iload dX5_gateLine_52 0 rfl ?_
      refine ww_iconst dX5_gateLine_54 ?_
      obtain ⟨r_9, h⟩ := h
      obtain ⟨J64, hJ64, h⟩ := h
      have kJ64 : ∀ (s2_64 : Int), J64 s2_64 → WW G l cX5_gateLine RX5 8 (Option.some Jvm.ClassFile.FieldType.boolean) "gateLine" 11 0 0 (tR2 (P)) (tS G q fr) 0 0 [tw G q σ_7, fr] 64 [(0, .ref (q 100)), (1, vI x_5), (2, vL (tF σ_2 26)), (4, vI (tF σ_7 11))] [vI s2_64, vI 1, .ref (q 100)] := by
        intro s2_64 hj
        have h := hJ64 s2_64 hj
        refine tc_takesNumber h ⟨Nat.le_of_ble_eq_true rfl, Nat.le_of_ble_eq_true rfl⟩ ⟨Nat.le_refl _, Nat.le_refl _⟩ (Nat.le_of_ble_eq_true rfl) dX5_gateLine_64 (fun y_10 σ_11 z_12 h => ?_)
        refine ww_if_ne (tgt := 72) dX5_gateLine_67 (by decide) (z01 z_12) (fun c => ?_) (fun c => ?_)
        · replace h := h.1 c
          refine ww_aload_n dX5_gateLine_72 0 rfl ?_
          refine tg_20 dX5_gateLine_73 ?_
          refine ww_iload_n dX5_gateLine_76 1 rfl ?_
          refine ww_aload_n dX5_gateLine_77 0 rfl ?_
          refine tg_11 dX5_gateLine_78 ?_
          obtain ⟨r_13, h⟩ := h
          refine ts_20 r_13 dX5_gateLine_81 ?_
          refine ww_iconst dX5_gateLine_82 ?_
          refine ww_istore dX5_gateLine_83 (Nat.le_of_ble_eq_true rfl) rfl ?_
          obtain ⟨I85, hI85, h⟩ := h
          have kI85 : ∀ (n85 : Nat), ∀ (v5_85 : Int), ∀ (σ85 : TS), I85 n85 v5_85 σ85 → WW G l cX5_gateLine RX5 8 (Option.some Jvm.ClassFile.FieldType.boolean) "gateLine" 11 0 0 (tR2 (P)) (tS G q fr) 0 0 [tw G q σ85, fr] 85 [(0, .ref (q 100)), (1, vI x_5), (2, vL (tF σ_2 26)), (4, vI (tF σ_7 11)), (5, vI v5_85)] [] := by
            intro n85
            induction n85 using Nat.strongRecOn with
            | ind n85 ih85 =>
              intro v5_85 σ85 hj
              have h := hI85 n85 v5_85 σ85 hj
              refine ww_iload dX5_gateLine_85 4 rfl ?_
              refine ww_bipush (v := 64) dX5_gateLine_87 rfl ?_
              obtain ⟨r_14, h⟩ := h
              refine ww_icmp_ge (tgt := 106) dX5_gateLine_89 (by decide) r_14 (by decide) (fun c => ?_) (fun c => ?_)
              · replace h := h.1 c
                refine ww_iconst dX5_gateLine_106 ?_
                refine ww_istore dX5_gateLine_107 (Nat.le_of_ble_eq_true rfl) rfl ?_
                obtain ⟨I109, hI109, h⟩ := h
                have kI109 : ∀ (n109 : Nat), ∀ (v5_109 : Int), ∀ (σ109 : TS), I109 n109 v5_109 σ109 → WW G l cX5_gateLine RX5 8 (Option.some Jvm.ClassFile.FieldType.boolean) "gateLine" 11 0 0 (tR2 (P)) (tS G q fr) 0 0 [tw G q σ109, fr] 109 [(0, .ref (q 100)), (1, vI x_5), (2, vL (tF σ_2 26)), (4, vI (tF σ_7 11)), (5, vI v5_109)] [] := by
                  intro n109
                  induction n109 using Nat.strongRecOn with
                  | ind n109 ih109 =>
                    intro v5_109 σ109 hj
                    have h := hI109 n109 v5_109 σ109 hj
                    refine ww_aload_n dX5_gateLine_109 0 rfl ?_
                    refine tg_6 dX5_gateLine_110 ?_
                    refine ww_iconst dX5_gateLine_113 ?_
                    obtain ⟨r_15, h⟩ := h
                    refine ww_icmp_ne (tgt := 330) dX5_gateLine_114 (by decide) r_15 (by decide) (fun c => ?_) (fun c => ?_)
                    · replace h := h.1 c
                      refine ww_aload_n dX5_gateLine_330 0 rfl ?_
                      refine ww_iload dX5_gateLine_331 3 rfl ?_
                      refine ww_aload_n dX5_gateLine_333 0 rfl ?_
                      refine tg_13 dX5_gateLine_334 ?_
                      refine ww_aload_n dX5_gateLine_337 0 rfl ?_
                      refine tg_12 dX5_gateLine_338 ?_
                      obtain ⟨r_16, h⟩ := h
                      refine ta_13 r_16 dX5_gateLine_341 ?_
                      refine tc_laysMatchings h ⟨Nat.le_of_ble_eq_true rfl, Nat.le_of_ble_eq_true rfl⟩ ⟨Nat.le_refl _, Nat.le_refl _⟩ (Nat.le_of_ble_eq_true rfl) dX5_gateLine_342 (fun σ_17 h => ?_)
                      refine ww_iconst dX5_gateLine_345 ?_
                      refine ww_istore dX5_gateLine_346 (Nat.le_of_ble_eq_true rfl) rfl ?_
                      obtain ⟨I348, hI348, h⟩ := h
                      have kI348 : ∀ (n348 : Nat), ∀ (v6_348 : Int), ∀ (σ348 : TS), I348 n348 v6_348 σ348 → WW G l cX5_gateLine RX5 8 (Option.some Jvm.ClassFile.FieldType.boolean) "gateLine" 11 0 0 (tR2 (P)) (tS G q fr) 0 0 [tw G q σ348, fr] 348 [(0, .ref (q 100)), (1, vI x_5), (2, vL (tF σ_2 26)), (4, vI (tF σ_7 11)), (6, vI v6_348)] [] := by
                        intro n348
                        induction n348 using Nat.strongRecOn with
                        | ind n348 ih348 =>
                          intro v6_348 σ348 hj
                          have h := hI348 n348 v6_348 σ348 hj
                          refine ww_iload dX5_gateLine_348 4 rfl ?_
                          refine ww_iconst dX5_gateLine_350 ?_
                          refine ww_aload_n dX5_gateLine_351 0 rfl ?_
                          refine tg_20 dX5_gateLine_352 ?_
                          refine ww_iload_n dX5_gateLine_355 1 rfl ?_
                          obtain ⟨r_18, h⟩ := h
                          refine ta_20 r_18 dX5_gateLine_356 ?_
                          refine ww_ishl dX5_gateLine_357 ?_
                          obtain ⟨r_19, h⟩ := h
                          refine ww_icmp_ge (tgt := 395) dX5_gateLine_358 (by decide) r_19 (rI_bL _ _) (fun c => ?_) (fun c => ?_)
                          · replace h := h.1 c
                            refine ww_aload_n dX5_gateLine_395 0 rfl ?_
                            refine tg_17 dX5_gateLine_396 ?_
                            refine ww_iload_n dX5_gateLine_399 1 rfl ?_
                            refine ww_lload_n dX5_gateLine_400 2 rfl ?_
                            obtain ⟨r_20, h⟩ := h
                            refine ts_17 r_20 dX5_gateLine_401 ?_
                            refine ww_aload_n dX5_gateLine_402 0 rfl ?_
                            refine tg_14 dX5_gateLine_403 ?_
                            refine ww_aload_n dX5_gateLine_406 0 rfl ?_
                            refine tg_12 dX5_gateLine_407 ?_
                            refine ww_dup2 dX5_gateLine_410 rfl rfl ?_
                            obtain ⟨r_21, h⟩ := h
                            refine ta_14 r_21 dX5_gateLine_411 ?_
                            refine ww_iconst dX5_gateLine_412 ?_
                            refine ww_iadd dX5_gateLine_413 ?_
                            obtain ⟨r_22, h⟩ := h
                            refine ts_14 r_22 dX5_gateLine_414 ?_
                            refine ww_iconst dX5_gateLine_415 ?_
                            exact ww_zret (1, sA (sA σ348 17 x_5 (tF σ_2 26)) 14 (tF σ348 12) ((tA σ348 14 (tF σ348 12)) + 1)) rfl (Or.inr rfl) ⟨rfl, (Or.inr rfl), h⟩ rfl (Nat.le_refl _) (Nat.le_refl _) dX5_gateLine_416
                          · replace h := h.2 (Int.not_le.mp c)
                            refine ww_aload_n dX5_gateLine_361 0 rfl ?_
                            refine tg_21 dX5_gateLine_362 ?_
                            refine ww_bipush (v := 16) dX5_gateLine_365 rfl ?_
                            refine ww_iload_n dX5_gateLine_367 1 rfl ?_
                            refine ww_imul dX5_gateLine_368 ?_
                            refine ww_iload dX5_gateLine_369 4 rfl ?_
                            refine ww_iadd dX5_gateLine_371 ?_
                            refine ww_aload_n dX5_gateLine_372 0 rfl ?_
                            refine tg_28 dX5_gateLine_373 ?_
                            refine ww_iconst dX5_gateLine_376 ?_
                            refine ww_iload dX5_gateLine_377 3 rfl ?_
                            refine ww_ishl dX5_gateLine_379 ?_
                            refine ww_iconst dX5_gateLine_380 ?_
                            refine ww_isub dX5_gateLine_381 ?_
                            refine ww_iload dX5_gateLine_382 4 rfl ?_
                            refine ww_iconst dX5_gateLine_384 ?_
                            refine ww_ixor dX5_gateLine_385 ?_
                            refine ww_iand dX5_gateLine_386 ?_
                            obtain ⟨r_23, h⟩ := h
                            refine ta_28 r_23 dX5_gateLine_387 ?_
                            obtain ⟨r_24, h⟩ := h
                            refine ts_21 r_24 dX5_gateLine_388 ?_
                            refine ww_iinc dX5_gateLine_389 4 rfl (Nat.le_of_ble_eq_true rfl) rfl ?_
                            refine ww_goto (tgt := 348) dX5_gateLine_392 (by decide) ?_
                            refine ww_lv [1, 2, 3, 4, 0] rfl ?_
                            obtain ⟨m, hm, h⟩ := h
                            exact ih348 m hm _ _ h
                      refine ww_lv [1, 2, 3, 4, 0] rfl ?_
                      obtain ⟨m, h⟩ := h
                      exact kI348 m _ _ h
                    · replace h := h.2 c
                      refine ww_aload_n dX5_gateLine_117 0 rfl ?_
                      refine ww_aload_n dX5_gateLine_118 0 rfl ?_
                      refine tg_7 dX5_gateLine_119 ?_
                      refine ww_iload dX5_gateLine_122 3 rfl ?_
                      obtain ⟨r_25, r_26, h⟩ := h
                      obtain ⟨J132, hJ132, h⟩ := h
                      have kJ132 : ∀ (s1_132 : Int), J132 s1_132 → WW G l cX5_gateLine RX5 8 (Option.some Jvm.ClassFile.FieldType.boolean) "gateLine" 11 0 0 (tR2 (P)) (tS G q fr) 0 0 [tw G q σ109, fr] 132 [(0, .ref (q 100)), (1, vI x_5), (2, vL (tF σ_2 26)), (4, vI (tF σ_7 11)), (5, vI v5_109)] [vI s1_132, .ref (q 100)] := by
                        intro s1_132 hj
                        have h := hJ132 s1_132 hj
                        refine ww_iconst dX5_gateLine_132 ?_
                        refine tc_must h ⟨Nat.le_of_ble_eq_true rfl, Nat.le_of_ble_eq_true rfl⟩ ⟨Nat.le_refl _, Nat.le_refl _⟩ (Nat.le_of_ble_eq_true rfl) dX5_gateLine_133 (fun y_27 σ_28 z_29 h => ?_)
                        refine ww_if_eq (tgt := 159) dX5_gateLine_136 (by decide) (z01 z_29) (fun c => ?_) (fun c => ?_)
                        · replace h := h.1 c
                          refine ww_iconst dX5_gateLine_159 ?_
                          exact ww_zret (0, σ_28) rfl (Or.inl rfl) ⟨rfl, (Or.inl rfl), h⟩ rfl (Nat.le_refl _) (Nat.le_refl _) dX5_gateLine_160
                        · replace h := h.2 c
                          refine ww_aload_n dX5_gateLine_139 0 rfl ?_
                          refine ww_iload dX5_gateLine_140 4 rfl ?_
                          refine ww_bipush (v := 12) dX5_gateLine_142 rfl ?_
                          obtain ⟨r_30, h⟩ := h
                          obtain ⟨J152, hJ152, h⟩ := h
                          have kJ152 : ∀ (s1_152 : Int), J152 s1_152 → WW G l cX5_gateLine RX5 8 (Option.some Jvm.ClassFile.FieldType.boolean) "gateLine" 11 0 0 (tR2 (P)) (tS G q fr) 0 0 [tw G q σ_28, fr] 152 [(0, .ref (q 100)), (1, vI x_5), (2, vL (tF σ_2 26)), (4, vI (tF σ_7 11)), (5, vI v5_109)] [vI s1_152, .ref (q 100)] := by
                            intro s1_152 hj
                            have h := hJ152 s1_152 hj
                            refine ww_iconst dX5_gateLine_152 ?_
                            refine tc_must h ⟨Nat.le_of_ble_eq_true rfl, Nat.le_of_ble_eq_true rfl⟩ ⟨Nat.le_refl _, Nat.le_refl _⟩ (Nat.le_of_ble_eq_true rfl) dX5_gateLine_153 (fun y_31 σ_32 z_33 h => ?_)
                            refine ww_if_ne (tgt := 161) dX5_gateLine_156 (by decide) (z01 z_33) (fun c => ?_) (fun c => ?_)
                            · replace h := h.1 c
                              refine ww_aload_n dX5_gateLine_161 0 rfl ?_
                              refine tg_7 dX5_gateLine_162 ?_
                              refine ww_istore dX5_gateLine_165 (Nat.le_of_ble_eq_true rfl) rfl ?_
                              refine ww_aload_n dX5_gateLine_167 1 rfl ?_
                              refine tc_steps h ⟨Nat.le_of_ble_eq_true rfl, Nat.le_of_ble_eq_true rfl⟩ ⟨Nat.le_refl _, Nat.le_refl _⟩ (Nat.le_of_ble_eq_true rfl) dX5_gateLine_168 (fun σ_34 h => ?_)
                              refine ww_aload_n dX5_gateLine_171 1 rfl ?_
                              refine ww_aload_n dX5_gateLine_172 1 rfl ?_
                              refine tg_6 dX5_gateLine_173 ?_
                              refine ww_iconst dX5_gateLine_176 ?_
                              obtain ⟨r_35, h⟩ := h
                              obtain ⟨J185, hJ185, h⟩ := h
                              have kJ185 : ∀ (s1_185 : Int), J185 s1_185 → WW G l cX5_gateLine RX5 8 (Option.some Jvm.ClassFile.FieldType.boolean) "gateLine" 11 0 0 (tR2 (P)) (tS G q fr) 0 0 [tw G q σ_34, fr] 185 [(0, .ref (q 100)), (1, vI x_5), (2, vL (tF σ_2 26)), (4, vI (tF σ_7 11)), (5, vI v5_109), (6, vI (tF σ_32 7))] [vI s1_185, .ref (q 100)] := by
                                intro s1_185 hj
                                have h := hJ185 s1_185 hj
                                refine ww_iconst dX5_gateLine_185 ?_
                                refine tc_must h ⟨Nat.le_of_ble_eq_true rfl, Nat.le_of_ble_eq_true rfl⟩ ⟨Nat.le_refl _, Nat.le_refl _⟩ (Nat.le_of_ble_eq_true rfl) dX5_gateLine_186 (fun y_36 σ_37 z_38 h => ?_)
                                refine ww_if_ne (tgt := 194) dX5_gateLine_189 (by decide) (z01 z_38) (fun c => ?_) (fun c => ?_)
                                · replace h := h.1 c
                                  refine ww_aload_n dX5_gateLine_194 0 rfl ?_
                                  refine tg_7 dX5_gateLine_195 ?_
                                  refine ww_istore dX5_gateLine_198 (Nat.le_of_ble_eq_true rfl) rfl ?_
                                  refine ww_aload_n dX5_gateLine_200 1 rfl ?_
                                  refine ww_iload dX5_gateLine_201 0 rfl ?_
                                  refine ww_iload dX5_gateLine_203 4 rfl ?_
                                  obtain ⟨r_39, r_40, h⟩ := h
                                  obtain ⟨J229, hJ229, h⟩ := h
                                  have kJ229 : ∀ (s1_229 : Int), J229 s1_229 → WW G l cX5_gateLine RX5 8 (Option.some Jvm.ClassFile.FieldType.boolean) "gateLine" 11 0 0 (tR2 (P)) (tS G q fr) 0 0 [tw G q σ_37, fr] 229 [(0, .ref (q 100)), (1, vI x_5), (2, vL (tF σ_2 26)), (4, vI (tF σ_7 11)), (5, vI v5_109), (6, vI (tF σ_32 7)), (7, vI (tF σ_37 7))] [vI s1_229, .ref (q 100)] := by
                                    intro s1_229 hj
                                    have h := hJ229 s1_229 hj
                                    refine ww_iconst dX5_gateLine_229 ?_
                                    refine tc_must h ⟨Nat.le_of_ble_eq_true rfl, Nat.le_of_ble_eq_true rfl⟩ ⟨Nat.le_refl _, Nat.le_refl _⟩ (Nat.le_of_ble_eq_true rfl) dX5_gateLine_230 (fun y_41 σ_42 z_43 h => ?_)
                                    refine ww_if_eq (tgt := 263) dX5_gateLine_233 (by decide) (z01 z_43) (fun c => ?_) (fun c => ?_)
                                    · replace h := h.1 c
                                      refine ww_iconst dX5_gateLine_263 ?_
                                      exact ww_zret (0, σ_42) rfl (Or.inl rfl) ⟨rfl, (Or.inl rfl), h⟩ rfl (Nat.le_refl _) (Nat.le_refl _) dX5_gateLine_264
                                    · replace h := h.2 c
                                      refine ww_aload_n dX5_gateLine_236 0 rfl ?_
                                      refine ww_iload dX5_gateLine_237 6 rfl ?_
                                      refine ww_iload dX5_gateLine_239 3 rfl ?_
                                      obtain ⟨r_44, r_45, h⟩ := h
                                      obtain ⟨J256, hJ256, h⟩ := h
                                      have kJ256 : ∀ (s1_256 : Int), J256 s1_256 → WW G l cX5_gateLine RX5 8 (Option.some Jvm.ClassFile.FieldType.boolean) "gateLine" 11 0 0 (tR2 (P)) (tS G q fr) 0 0 [tw G q σ_42, fr] 256 [(0, .ref (q 100)), (1, vI x_5), (2, vL (tF σ_2 26)), (4, vI (tF σ_7 11)), (5, vI v5_109), (6, vI (tF σ_32 7)), (7, vI (tF σ_37 7))] [vI s1_256, .ref (q 100)] := by
                                        intro s1_256 hj
                                        have h := hJ256 s1_256 hj
                                        refine ww_iconst dX5_gateLine_256 ?_
                                        refine tc_must h ⟨Nat.le_of_ble_eq_true rfl, Nat.le_of_ble_eq_true rfl⟩ ⟨Nat.le_refl _, Nat.le_refl _⟩ (Nat.le_of_ble_eq_true rfl) dX5_gateLine_257 (fun y_46 σ_47 z_48 h => ?_)
                                        refine ww_if_ne (tgt := 265) dX5_gateLine_260 (by decide) (z01 z_48) (fun c => ?_) (fun c => ?_)
                                        · replace h := h.1 c
                                          refine ww_aload_n dX5_gateLine_265 0 rfl ?_
                                          refine tc_steps h ⟨Nat.le_of_ble_eq_true rfl, Nat.le_of_ble_eq_true rfl⟩ ⟨Nat.le_refl _, Nat.le_refl _⟩ (Nat.le_of_ble_eq_true rfl) dX5_gateLine_266 (fun σ_49 h => ?_)
                                          refine ww_aload_n dX5_gateLine_269 0 rfl ?_
                                          refine ww_iconst dX5_gateLine_270 ?_
                                          refine ww_aload_n dX5_gateLine_271 0 rfl ?_
                                          refine tg_13 dX5_gateLine_272 ?_
                                          refine ww_aload_n dX5_gateLine_275 0 rfl ?_
                                          refine tg_12 dX5_gateLine_276 ?_
                                          obtain ⟨r_50, h⟩ := h
                                          refine ta_13 r_50 dX5_gateLine_279 ?_
                                          refine ww_iconst dX5_gateLine_280 ?_
                                          refine ww_isub dX5_gateLine_281 ?_
                                          refine tc_takesNumber h ⟨Nat.le_of_ble_eq_true rfl, Nat.le_of_ble_eq_true rfl⟩ ⟨Nat.le_refl _, Nat.le_refl _⟩ (Nat.le_of_ble_eq_true rfl) dX5_gateLine_282 (fun y_51 σ_52 z_53 h => ?_)
                                          refine ww_if_ne (tgt := 290) dX5_gateLine_285 (by decide) (z01 z_53) (fun c => ?_) (fun c => ?_)
                                          · replace h := h.1 c
                                            refine ww_aload_n dX5_gateLine_290 0 rfl ?_
                                            refine tg_27 dX5_gateLine_291 ?_
                                            refine ww_bipush (v := 8) dX5_gateLine_294 rfl ?_
                                            refine ww_iload dX5_gateLine_296 5 rfl ?_
                                            refine ww_imul dX5_gateLine_298 ?_
                                            refine ww_iload dX5_gateLine_299 6 rfl ?_
                                            refine ww_iadd dX5_gateLine_301 ?_
                                            refine ww_aload_n dX5_gateLine_302 0 rfl ?_
                                            refine tg_11 dX5_gateLine_303 ?_
                                            obtain ⟨r_54, h⟩ := h
                                            refine ts_27 r_54 dX5_gateLine_306 ?_
                                            refine ww_aload_n dX5_gateLine_307 0 rfl ?_
                                            refine tg_27 dX5_gateLine_308 ?_
                                            refine ww_bipush (v := 8) dX5_gateLine_311 rfl ?_
                                            refine ww_iload dX5_gateLine_313 6 rfl ?_
                                            refine ww_imul dX5_gateLine_315 ?_
                                            refine ww_iload dX5_gateLine_316 5 rfl ?_
                                            refine ww_iadd dX5_gateLine_318 ?_
                                            refine ww_aload_n dX5_gateLine_319 0 rfl ?_
                                            refine tg_11 dX5_gateLine_320 ?_
                                            obtain ⟨r_55, h⟩ := h
                                            refine ts_27 r_55 dX5_gateLine_323 ?_
                                            refine ww_iinc dX5_gateLine_324 4 rfl (Nat.le_of_ble_eq_true rfl) rfl ?_
                                            refine ww_goto (tgt := 109) dX5_gateLine_327 (by decide) ?_
                                            refine ww_lv [1, 2, 3, 4, 0] rfl ?_
                                            obtain ⟨m, hm, h⟩ := h
                                            exact ih109 m hm _ _ h
                                          · replace h := h.2 c
                                            refine ww_iconst dX5_gateLine_288 ?_
                                            exact ww_zret (0, σ_52) rfl (Or.inl rfl) ⟨rfl, (Or.inl rfl), h⟩ rfl (Nat.le_refl _) (Nat.le_refl _) dX5_gateLine_289
                                        · replace h := h.2 c
                                          refine ww_iconst dX5_gateLine_263 ?_
                                          exact ww_zret (0, σ_47) rfl (Or.inl rfl) ⟨rfl, (Or.inl rfl), h⟩ rfl (Nat.le_refl _) (Nat.le_refl _) dX5_gateLine_264
                                      obtain ⟨J255, hJ255, h⟩ := h
                                      have kJ255 : J255 → WW G l cX5_gateLine RX5 8 (Option.some Jvm.ClassFile.FieldType.boolean) "gateLine" 11 0 0 (tR2 (P)) (tS G q fr) 0 0 [tw G q σ_42, fr] 255 [(0, .ref (q 100)), (1, vI x_5), (2, vL (tF σ_2 26)), (4, vI (tF σ_7 11)), (5, vI v5_109), (6, vI (tF σ_32 7)), (7, vI (tF σ_37 7))] [.ref (q 100)] := by
                                        intro hj
                                        have h := hJ255 hj
                                        refine ww_iconst dX5_gateLine_255 ?_
                                        exact kJ256 _ h
                                      refine ww_icmp_ge (tgt := 255) dX5_gateLine_241 (by decide) r_44 r_45 (fun c => ?_) (fun c => ?_)
                                      · replace h := h.1 c
                                        exact kJ255 h
                                      · replace h := h.2 (Int.not_le.mp c)
                                        refine ww_iload dX5_gateLine_244 6 rfl ?_
                                        refine ww_iload dX5_gateLine_246 5 rfl ?_
                                        obtain ⟨r_56, r_57, h⟩ := h
                                        refine ww_icmp_eq (tgt := 255) dX5_gateLine_248 (by decide) r_56 r_57 (fun c => ?_) (fun c => ?_)
                                        · replace h := h.1 c
                                          exact kJ255 h
                                        · replace h := h.2 c
                                          refine ww_iconst dX5_gateLine_251 ?_
                                          refine ww_goto (tgt := 256) dX5_gateLine_252 (by decide) ?_
                                          exact kJ256 _ h
                                  obtain ⟨J224, hJ224, h⟩ := h
                                  have kJ224 : J224 → WW G l cX5_gateLine RX5 8 (Option.some Jvm.ClassFile.FieldType.boolean) "gateLine" 11 0 0 (tR2 (P)) (tS G q fr) 0 0 [tw G q σ_37, fr] 224 [(0, .ref (q 100)), (1, vI x_5), (2, vL (tF σ_2 26)), (4, vI (tF σ_7 11)), (5, vI v5_109), (6, vI (tF σ_32 7)), (7, vI (tF σ_37 7))] [.ref (q 100)] := by
                                    intro hj
                                    have h := hJ224 hj
                                    refine ww_iconst dX5_gateLine_224 ?_
                                    refine ww_goto (tgt := 229) dX5_gateLine_225 (by decide) ?_
                                    exact kJ229 _ h
                                  refine ww_icmp_ge (tgt := 224) dX5_gateLine_205 (by decide) r_39 r_40 (fun c => ?_) (fun c => ?_)
                                  · replace h := h.1 c
                                    refine ww_lv [1, 2, 3, 4, 5, 6, 0] rfl ?_
                                    exact kJ224 h
                                  · replace h := h.2 (Int.not_le.mp c)
                                    refine ww_aload_n dX5_gateLine_208 1 rfl ?_
                                    refine tg_27 dX5_gateLine_209 ?_
                                    refine ww_bipush (v := 8) dX5_gateLine_212 rfl ?_
                                    refine ww_iload dX5_gateLine_214 6 rfl ?_
                                    refine ww_imul dX5_gateLine_216 ?_
                                    refine ww_iload dX5_gateLine_217 0 rfl ?_
                                    refine ww_iadd dX5_gateLine_219 ?_
                                    obtain ⟨r_58, h⟩ := h
                                    refine ta_27 r_58 dX5_gateLine_220 ?_
                                    obtain ⟨r_59, h⟩ := h
                                    refine ww_if_ne (tgt := 228) dX5_gateLine_221 (by decide) r_59 (fun c => ?_) (fun c => ?_)
                                    · replace h := h.1 c
                                      refine ww_iconst dX5_gateLine_228 ?_
                                      refine ww_lv [1, 2, 3, 4, 5, 6, 0] rfl ?_
                                      exact kJ229 _ h
                                    · replace h := h.2 c
                                      refine ww_lv [1, 2, 3, 4, 5, 6, 0] rfl ?_
                                      exact kJ224 h
                                · replace h := h.2 c
                                  refine ww_iconst dX5_gateLine_192 ?_
                                  exact ww_zret (0, σ_37) rfl (Or.inl rfl) ⟨rfl, (Or.inl rfl), h⟩ rfl (Nat.le_refl _) (Nat.le_refl _) dX5_gateLine_193
                              refine ww_icmp_ne (tgt := 184) dX5_gateLine_177 (by decide) r_35 (by decide) (fun c => ?_) (fun c => ?_)
                              · replace h := h.1 c
                                refine ww_iconst dX5_gateLine_184 ?_
                                refine ww_lv [1, 2, 3, 4, 5, 0] rfl ?_
                                exact kJ185 _ h
                              · replace h := h.2 c
                                refine ww_iconst dX5_gateLine_180 ?_
                                refine ww_goto (tgt := 185) dX5_gateLine_181 (by decide) ?_
                                refine ww_lv [1, 2, 3, 4, 5, 0] rfl ?_
                                exact kJ185 _ h
                            · replace h := h.2 c
                              refine ww_iconst dX5_gateLine_159 ?_
                              exact ww_zret (0, σ_32) rfl (Or.inl rfl) ⟨rfl, (Or.inl rfl), h⟩ rfl (Nat.le_refl _) (Nat.le_refl _) dX5_gateLine_160
                          refine ww_icmp_ge (tgt := 151) dX5_gateLine_144 (by decide) r_30 (by decide) (fun c => ?_) (fun c => ?_)
                          · replace h := h.1 c
                            refine ww_iconst dX5_gateLine_151 ?_
                            exact kJ152 _ h
                          · replace h := h.2 (Int.not_le.mp c)
                            refine ww_iconst dX5_gateLine_147 ?_
                            refine ww_goto (tgt := 152) dX5_gateLine_148 (by decide) ?_
                            exact kJ152 _ h
                      refine ww_icmp_ge (tgt := 131) dX5_gateLine_124 (by decide) r_25 r_26 (fun c => ?_) (fun c => ?_)
                      · replace h := h.1 c
                        refine ww_iconst dX5_gateLine_131 ?_
                        exact kJ132 _ h
                      · replace h := h.2 (Int.not_le.mp c)
                        refine ww_iconst dX5_gateLine_127 ?_
                        refine ww_goto (tgt := 132) dX5_gateLine_128 (by decide) ?_
                        exact kJ132 _ h
                refine ww_lv [1, 2, 3, 4, 0] rfl ?_
                obtain ⟨m, h⟩ := h
                exact kI109 m _ _ h
              · replace h := h.2 (Int.not_le.mp c)
                refine ww_aload_n dX5_gateLine_92 0 rfl ?_
                refine tg_27 dX5_gateLine_93 ?_
                refine ww_iload dX5_gateLine_96 4 rfl ?_
                refine ww_iconst dX5_gateLine_98 ?_
                obtain ⟨r_60, h⟩ := h
                refine ts_27 r_60 dX5_gateLine_99 ?_
                refine ww_iinc dX5_gateLine_100 4 rfl (Nat.le_of_ble_eq_true rfl) rfl ?_
                refine ww_goto (tgt := 85) dX5_gateLine_103 (by decide) ?_
                refine ww_lv [1, 2, 3, 4, 0] rfl ?_
                obtain ⟨m, hm, h⟩ := h
                exact ih85 m hm _ _ h
          refine ww_lv [1, 2, 3, 4, 0] rfl ?_
          obtain ⟨m, h⟩ := h
          exact kI85 m _ _ h
        · replace h := h.2 c
          refine ww_iconst dX5_gateLine_70 ?_
          exact ww_zret (0, σ_11) rfl (Or.inl rfl) ⟨rfl, (Or.inl rfl), h⟩ rfl (Nat.le_refl _) (Nat.le_refl _) dX5_gateLine_71
      refine ww_icmp_ge (tgt := 63) dX5_gateLine_55 (by decide) r_9 (by decide) (fun c => ?_) (fun c => ?_)
      · replace h := h.1 c
        refine ww_iconst dX5_gateLine_63 ?_
        refine ww_lv [3, 2, 1, 0] rfl ?_
        exact kJ64 _ h
      · replace h := h.2 (Int.not_le.mp c)
        refine ww_iload dX5_gateLine_58 0 rfl ?_
        refine ww_goto (tgt := 64) dX5_gateLine_60 (by decide) ?_
        refine ww_lv [3, 2, 1, 0] rfl ?_
        exact kJ64 _ h
    · replace h := h.2 c
      refine ww_iconst dX5_gateLine_42 ?_
      exact ww_zret (0, σ_7) rfl (Or.inl rfl) ⟨rfl, (Or.inl rfl), h⟩ rfl (Nat.le_refl _) (Nat.le_refl _) dX5_gateLine_43
  · replace h := h.2 c
    refine ww_iconst dX5_gateLine_7 ?_
    exact ww_zret (0, σ_2) rfl (Or.inl rfl) ⟨rfl, (Or.inl rfl), h⟩ rfl (Nat.le_refl _) (Nat.le_refl _) dX5_gateLine_8
theorem tc_gateLine {S : Type} {G : g_G} {l : Launch} {cc : ByteArray} {nL : Nat} {ret : Option FieldType} {mn : String} {d mc ms : Nat} {R : Option Value → S → Prop} {sh : S → List va_W} {cells slots pc : Nat} {lv : List (Nat × Value)} {st : List Value} {q : Nat → Nat} {fr : va_W} {σ : TS} {P : Int → TS → Prop} (h : w_gateLine σ P) (hR : 11 + 1 ≤ d ∧ 16 + (8 + 11) + 100 * 11 ≤ 100 * d) (hc : cells ≤ mc ∧ slots ≤ ms) (hst : (st.map fun v => v.category).sum ≤ 16) (hdg : decode cc pc = .ok (.invokevirtual 228, 3)) (k : ∀ r, ∀ σ2, (r = 0 ∨ r = 1) → P r σ2 → WW G l cc RX5 nL ret mn d mc ms R sh cells slots [tw G q σ2, fr] (pc + 3) lv (vI r :: st)) : WW G l cc RX5 nL ret mn d mc ms R sh cells slots [tw G q σ, fr] pc lv (.ref (q 100) :: st) := by
  refine tw_call2 (n := 0) (t_gateLine (q := q) h) (lw_V q2380 q2382 qs70 q117 q2383) ⟨rfl, by decide, by decide, by decide +kernel⟩ rfl hR hc rfl hst hdg ?_
  exact fun r σ2 z h => k r σ2 z h
/-! nodeLine -/
def w_nodeLine (σ : TS) (P : Int → TS → Prop) : Prop :=
  w_newName σ (fun y_1 σ_2 =>
    ((¬ y_1 = 0 →
      w_isName σ_2 (fun y_4 =>
        w_must σ_2 y_4 1 (fun y_6 σ_7 =>
          ((y_6 = 0 →
            P 0 σ_7) ∧
          (¬ y_6 = 0 →
            w_tableNamed σ_7 (fun y_9 =>
              rI y_9 ∧
              ∃ J39 : Int → Prop, (∀ (s1_39 : Int), J39 s1_39 →
                w_must σ_7 s1_39 3 (fun y_11 σ_12 =>
                  ((¬ y_11 = 0 →
                    (0 ≤ tF σ_12 12 ∧ tF σ_12 12 < 2) ∧
                    w_tableNamed σ_12 (fun y_15 =>
                      (0 ≤ (6 * (tF σ_12 12)) + (tA σ_12 16 (tF σ_12 12)) ∧ (6 * (tF σ_12 12)) + (tA σ_12 16 (tF σ_12 12)) < 12) ∧
                      w_steps (sA σ_12 23 ((6 * (tF σ_12 12)) + (tA σ_12 16 (tF σ_12 12))) y_15) (fun σ_17 =>
                        (0 ≤ tF σ_17 12 ∧ tF σ_17 12 < 2) ∧
                        (0 ≤ (6 * (tF σ_17 12)) + (tA σ_17 16 (tF σ_17 12)) ∧ (6 * (tF σ_17 12)) + (tA σ_17 16 (tF σ_17 12)) < 12) ∧
                        (0 ≤ tF σ_17 12 ∧ tF σ_17 12 < 2) ∧
                        (0 ≤ tF σ_17 12 ∧ tF σ_17 12 < 2) ∧
                        P 1 (sA (sA σ_17 19 ((6 * (tF σ_17 12)) + (tA σ_17 16 (tF σ_17 12))) (tF σ_2 26)) 16 (tF σ_17 12) ((tA σ_17 16 (tF σ_17 12)) + 1))))) ∧
                  (y_11 = 0 →
                    P 0 σ_12)))) ∧
              ((y_9 < 0 →
                J39 0) ∧
              (0 ≤ y_9 →
                J39 1)))))))) ∧
    (y_1 = 0 →
      P 0 σ_2)))
set_option maxHeartbeats 4000000 in
theorem t_nodeLine {G : g_G} {l : Launch} {q : Nat → Nat} {σ : TS} {P : Int → TS → Prop} (h : w_nodeLine σ P) : CT G l yX5_nodeLine cX5_nodeLine 3 (Option.some Jvm.ClassFile.FieldType.boolean) 11 0 0 [.ref (q 100)] [tw G q σ] (tR2 (P)) (fun u => [tw G q u.2]) := by
  unfold w_nodeLine at h
  refine ww_of (by decide) (Nat.le_of_ble_eq_true rfl) (fun fr => ?_)
  show WW G l cX5_nodeLine RX5 3 (Option.some Jvm.ClassFile.FieldType.boolean) "nodeLine" 11 0 0 (tR2 (P)) (tS G q fr) 0 0 [tw G q σ, fr] 0 [(0, .ref (q 100))] []
  refine ww_aload_n dX5_nodeLine_0 0 rfl ?_
  refine tc_newName h ⟨Nat.le_of_ble_eq_true rfl, Nat.le_of_ble_eq_true rfl⟩ ⟨Nat.le_refl _, Nat.le_refl _⟩ (Nat.le_of_ble_eq_true rfl) dX5_nodeLine_1 (fun y_1 σ_2 z_3 h => ?_)
  refine ww_if_ne (tgt := 9) dX5_nodeLine_4 (by decide) (z01 z_3) (fun c => ?_) (fun c => ?_)
  · replace h := h.1 c
    refine ww_aload_n dX5_nodeLine_9 0 rfl ?_
    refine tg_26 dX5_nodeLine_10 ?_
    refine ww_lstore_n dX5_nodeLine_13 rfl (Nat.le_of_ble_eq_true rfl) rfl ?_
    refine ww_aload_n dX5_nodeLine_14 1 rfl ?_
    refine ww_aload_n dX5_nodeLine_15 1 rfl ?_
    refine tc_isName h ⟨Nat.le_of_ble_eq_true rfl, Nat.le_of_ble_eq_true rfl⟩ ⟨Nat.le_refl _, Nat.le_refl _⟩ (Nat.le_of_ble_eq_true rfl) dX5_nodeLine_16 (fun y_4 z_5 h => ?_)
    refine ww_iconst dX5_nodeLine_19 ?_
    refine tc_must h ⟨Nat.le_of_ble_eq_true rfl, Nat.le_of_ble_eq_true rfl⟩ ⟨Nat.le_refl _, Nat.le_refl _⟩ (Nat.le_of_ble_eq_true rfl) dX5_nodeLine_20 (fun y_6 σ_7 z_8 h => ?_)
    refine ww_if_eq (tgt := 46) dX5_nodeLine_23 (by decide) (z01 z_8) (fun c => ?_) (fun c => ?_)
    · replace h := h.1 c
      refine ww_iconst dX5_nodeLine_46 ?_
      exact ww_zret (0, σ_7) rfl (Or.inl rfl) ⟨rfl, (Or.inl rfl), h⟩ rfl (Nat.le_refl _) (Nat.le_refl _) dX5_nodeLine_47
    · replace h := h.2 c
      refine ww_aload_n dX5_nodeLine_26 1 rfl ?_
      refine ww_aload_n dX5_nodeLine_27 1 rfl ?_
      refine tc_tableNamed h ⟨Nat.le_of_ble_eq_true rfl, Nat.le_of_ble_eq_true rfl⟩ ⟨Nat.le_refl _, Nat.le_refl _⟩ (Nat.le_of_ble_eq_true rfl) dX5_nodeLine_28 (fun y_9 h => ?_)
      obtain ⟨r_10, h⟩ := h
      obtain ⟨J39, hJ39, h⟩ := h
      have kJ39 : ∀ (s1_39 : Int), J39 s1_39 → WW G l cX5_nodeLine RX5 3 (Option.some Jvm.ClassFile.FieldType.boolean) "nodeLine" 11 0 0 (tR2 (P)) (tS G q fr) 0 0 [tw G q σ_7, fr] 39 [(0, .ref (q 100)), (1, vL (tF σ_2 26))] [vI s1_39, .ref (q 100)] := by
        intro s1_39 hj
        have h := hJ39 s1_39 hj
        refine ww_iconst dX5_nodeLine_39 ?_
        refine tc_must h ⟨Nat.le_of_ble_eq_true rfl, Nat.le_of_ble_eq_true rfl⟩ ⟨Nat.le_refl _, Nat.le_refl _⟩ (Nat.le_of_ble_eq_true rfl) dX5_nodeLine_40 (fun y_11 σ_12 z_13 h => ?_)
        refine ww_if_ne (tgt := 48) dX5_nodeLine_43 (by decide) (z01 z_13) (fun c => ?_) (fun c => ?_)
        · replace h := h.1 c
          refine ww_aload_n dX5_nodeLine_48 0 rfl ?_
          refine tg_23 dX5_nodeLine_49 ?_
          refine ww_bipush (v := 6) dX5_nodeLine_52 rfl ?_
          refine ww_aload_n dX5_nodeLine_54 0 rfl ?_
          refine tg_12 dX5_nodeLine_55 ?_
          refine ww_imul dX5_nodeLine_58 ?_
          refine ww_aload_n dX5_nodeLine_59 0 rfl ?_
          refine tg_16 dX5_nodeLine_60 ?_
          refine ww_aload_n dX5_nodeLine_63 0 rfl ?_
          refine tg_12 dX5_nodeLine_64 ?_
          obtain ⟨r_14, h⟩ := h
          refine ta_16 r_14 dX5_nodeLine_67 ?_
          refine ww_iadd dX5_nodeLine_68 ?_
          refine ww_aload_n dX5_nodeLine_69 0 rfl ?_
          refine tc_tableNamed h ⟨Nat.le_of_ble_eq_true rfl, Nat.le_of_ble_eq_true rfl⟩ ⟨Nat.le_refl _, Nat.le_refl _⟩ (Nat.le_of_ble_eq_true rfl) dX5_nodeLine_70 (fun y_15 h => ?_)
          obtain ⟨r_16, h⟩ := h
          refine ts_23 r_16 dX5_nodeLine_73 ?_
          refine ww_aload_n dX5_nodeLine_74 0 rfl ?_
          refine tc_steps h ⟨Nat.le_of_ble_eq_true rfl, Nat.le_of_ble_eq_true rfl⟩ ⟨Nat.le_refl _, Nat.le_refl _⟩ (Nat.le_of_ble_eq_true rfl) dX5_nodeLine_75 (fun σ_17 h => ?_)
          refine ww_aload_n dX5_nodeLine_78 0 rfl ?_
          refine tg_19 dX5_nodeLine_79 ?_
          refine ww_bipush (v := 6) dX5_nodeLine_82 rfl ?_
          refine ww_aload_n dX5_nodeLine_84 0 rfl ?_
          refine tg_12 dX5_nodeLine_85 ?_
          refine ww_imul dX5_nodeLine_88 ?_
          refine ww_aload_n dX5_nodeLine_89 0 rfl ?_
          refine tg_16 dX5_nodeLine_90 ?_
          refine ww_aload_n dX5_nodeLine_93 0 rfl ?_
          refine tg_12 dX5_nodeLine_94 ?_
          obtain ⟨r_18, h⟩ := h
          refine ta_16 r_18 dX5_nodeLine_97 ?_
          refine ww_iadd dX5_nodeLine_98 ?_
          refine ww_lload_n dX5_nodeLine_99 1 rfl ?_
          obtain ⟨r_19, h⟩ := h
          refine ts_19 r_19 dX5_nodeLine_100 ?_
          refine ww_aload_n dX5_nodeLine_101 0 rfl ?_
          refine tg_16 dX5_nodeLine_102 ?_
          refine ww_aload_n dX5_nodeLine_105 0 rfl ?_
          refine tg_12 dX5_nodeLine_106 ?_
          refine ww_dup2 dX5_nodeLine_109 rfl rfl ?_
          obtain ⟨r_20, h⟩ := h
          refine ta_16 r_20 dX5_nodeLine_110 ?_
          refine ww_iconst dX5_nodeLine_111 ?_
          refine ww_iadd dX5_nodeLine_112 ?_
          obtain ⟨r_21, h⟩ := h
          refine ts_16 r_21 dX5_nodeLine_113 ?_
          refine ww_iconst dX5_nodeLine_114 ?_
          exact ww_zret (1, sA (sA σ_17 19 ((6 * (tF σ_17 12)) + (tA σ_17 16 (tF σ_17 12))) (tF σ_2 26)) 16 (tF σ_17 12) ((tA σ_17 16 (tF σ_17 12)) + 1)) rfl (Or.inr rfl) ⟨rfl, (Or.inr rfl), h⟩ rfl (Nat.le_refl _) (Nat.le_refl _) dX5_nodeLine_115
        · replace h := h.2 c
          refine ww_iconst dX5_nodeLine_46 ?_
          exact ww_zret (0, σ_12) rfl (Or.inl rfl) ⟨rfl, (Or.inl rfl), h⟩ rfl (Nat.le_refl _) (Nat.le_refl _) dX5_nodeLine_47
      refine ww_if_lt (tgt := 38) dX5_nodeLine_31 (by decide) r_10 (fun c => ?_) (fun c => ?_)
      · replace h := h.1 c
        refine ww_iconst dX5_nodeLine_38 ?_
        refine ww_lv [1, 0] rfl ?_
        exact kJ39 _ h
      · replace h := h.2 (Int.not_lt.mp c)
        refine ww_iconst dX5_nodeLine_34 ?_
        refine ww_goto (tgt := 39) dX5_nodeLine_35 (by decide) ?_
        refine ww_lv [1, 0] rfl ?_
        exact kJ39 _ h
  · replace h := h.2 c
    refine ww_iconst dX5_nodeLine_7 ?_
    exact ww_zret (0, σ_2) rfl (Or.inl rfl) ⟨rfl, (Or.inl rfl), h⟩ rfl (Nat.le_refl _) (Nat.le_refl _) dX5_nodeLine_8
theorem tc_nodeLine {S : Type} {G : g_G} {l : Launch} {cc : ByteArray} {nL : Nat} {ret : Option FieldType} {mn : String} {d mc ms : Nat} {R : Option Value → S → Prop} {sh : S → List va_W} {cells slots pc : Nat} {lv : List (Nat × Value)} {st : List Value} {q : Nat → Nat} {fr : va_W} {σ : TS} {P : Int → TS → Prop} (h : w_nodeLine σ P) (hR : 11 + 1 ≤ d ∧ 16 + (3 + 11) + 100 * 11 ≤ 100 * d) (hc : cells ≤ mc ∧ slots ≤ ms) (hst : (st.map fun v => v.category).sum ≤ 16) (hdg : decode cc pc = .ok (.invokevirtual 234, 3)) (k : ∀ r, ∀ σ2, (r = 0 ∨ r = 1) → P r σ2 → WW G l cc RX5 nL ret mn d mc ms R sh cells slots [tw G q σ2, fr] (pc + 3) lv (vI r :: st)) : WW G l cc RX5 nL ret mn d mc ms R sh cells slots [tw G q σ, fr] pc lv (.ref (q 100) :: st) := by
  refine tw_call2 (n := 0) (t_nodeLine (q := q) h) (lw_V q2395 q2397 qs73 q117 q2398) ⟨rfl, by decide, by decide, by decide +kernel⟩ rfl hR hc rfl hst hdg ?_
  exact fun r σ2 z h => k r σ2 z h
