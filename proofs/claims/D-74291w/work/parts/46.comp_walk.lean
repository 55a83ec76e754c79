/-! THE COMPONENT and what it calls: weakest preconditions and walks (printed by tools/comp.py) -/
set_option maxRecDepth 100000
/-! X1_changes: HoloNet changes ([IIIIIII)V; flags (True, False, False), depth 2 -/
def wc_X1_changes (ad : Nat → Nat) (μ : HM) (b : Nat) (o1 : Option Nat) (a2 : Int) (a3 : Int) (a4 : Int) (a5 : Int) (a6 : Int) (a7 : Int) (P : HM → Prop) : Prop :=
  ∃ I3 : Nat → Int → HM → Prop, (∀ (n3 : Nat) (v8_3 : Int) (μ3 : HM), I3 n3 v8_3 μ3 →
    rI v8_3 ∧
    rI a2 ∧
    ((a2 ≤ v8_3 →
      P μ3) ∧
    (v8_3 < a2 →
      wc_X1_has ad μ3 v8_3 a3 (fun y_3 =>
        ∃ J93 : HM → Prop, (∀ (μ93 : HM), J93 μ93 →
          ∃ m : Nat, m < n3 ∧ I3 m (v8_3 + 1) μ93) ∧
        ((y_3 = 0 →
          ∃ a_5 : Nat, o1 = some a_5 ∧
          ∃ x_6 : Int, gA μ3 a_5 0 v8_3 = some x_6 ∧
          ∃ x_7 : Int, gA μ3 a_5 0 (bO v8_3 (bL 1 a3)) = some x_7 ∧
          ∃ x_8 : Option Nat, gQ μ3 b 1 2 = some x_8 ∧
          rI a4 ∧
          rI x_6 ∧
          rI a5 ∧
          rI x_7 ∧
          ∃ a_13 : Nat, x_8 = some a_13 ∧
          gC μ3 a_13 = some 2 ∧
          wc_X2_mod ad μ3 a_13 ((a4 * x_6) + (a5 * x_7)) (fun y_14 =>
            ∃ (n_16 : Nat) (f_17 : Int → Int), μ3 a_5 = some (hA 0 n_16 f_17) ∧ ((0 : Int) ≤ v8_3 ∧ v8_3 < (n_16 : Int) ∧ (n_16 : Int) < 2147483648) ∧ 
            ∃ x_18 : Option Nat, gQ (hs μ3 a_5 (hA 0 n_16 (updI f_17 v8_3 y_14))) b 1 2 = some x_18 ∧
            rI a6 ∧
            rI x_6 ∧
            rI a7 ∧
            rI x_7 ∧
            ∃ a_23 : Nat, x_18 = some a_23 ∧
            gC (hs μ3 a_5 (hA 0 n_16 (updI f_17 v8_3 y_14))) a_23 = some 2 ∧
            wc_X2_mod ad (hs μ3 a_5 (hA 0 n_16 (updI f_17 v8_3 y_14))) a_23 ((a6 * x_6) + (a7 * x_7)) (fun y_24 =>
              ∃ (n_26 : Nat) (f_27 : Int → Int), (hs μ3 a_5 (hA 0 n_16 (updI f_17 v8_3 y_14))) a_5 = some (hA 0 n_26 f_27) ∧ ((0 : Int) ≤ bO v8_3 (bL 1 a3) ∧ bO v8_3 (bL 1 a3) < (n_26 : Int) ∧ (n_26 : Int) < 2147483648) ∧ 
              J93 (hs (hs μ3 a_5 (hA 0 n_16 (updI f_17 v8_3 y_14))) a_5 (hA 0 n_26 (updI f_27 (bO v8_3 (bL 1 a3)) y_24)))))) ∧
        (¬ y_3 = 0 →
          J93 μ3)))))) ∧
  ∃ m : Nat, I3 m 0 μ
set_option maxHeartbeats 4000000 in
theorem tm_X1_changes {G : g_G} {l : Launch} {μ : HM} {b : Nat} {o1 : Option Nat} {a2 : Int} {a3 : Int} {a4 : Int} {a5 : Int} {a6 : Int} {a7 : Int} {P : HM → Prop} (h : wc_X1_changes (g_ad G) μ b o1 a2 a3 a4 a5 a6 a7 P) : CM G l yX1_changes cX1_changes 11 (Option.none : Option Jvm.ClassFile.FieldType) 2 0 0 [.ref b, va_rf o1, vI a2, vI a3, vI a4, vI a5, vI a6, vI a7] μ (hR0 P) := by
  unfold wc_X1_changes at h
  refine wm_of (lvs := [(0, va_rf (some b)), (1, va_rf o1), (2, vI a2), (3, vI a3), (4, vI a4), (5, vI a5), (6, vI a6), (7, vI a7)]) (by decide) (by simp [lg_sl, rf_cat, vI_cat, vL_cat, ref_cat]) (by simp [lv_args, rf_cat, vI_cat, vL_cat, ref_cat, rf_some]) (fun fr ws hM1 => ?_)
  show WW G l cX1_changes RX1 11 (Option.none : Option Jvm.ClassFile.FieldType) "changes" 2 0 0 (hMR G (hR0 P)) (fun u => [u.1, fr]) 0 0 [ws, fr] 0 [(0, va_rf (some b)), (1, va_rf o1), (2, vI a2), (3, vI a3), (4, vI a4), (5, vI a5), (6, vI a6), (7, vI a7)] []
  refine ww_iconst dX1_changes_0 ?_
  refine ww_istore (i := 8) (lv2 := [(8, vI 0), (0, va_rf (some b)), (1, va_rf o1), (2, vI a2), (3, vI a3), (4, vI a4), (5, vI a5), (6, vI a6), (7, vI a7)]) dX1_changes_1 (Nat.le_of_ble_eq_true rfl) rfl ?_
  obtain ⟨I3, hI3, h⟩ := h
  have kI3 : ∀ (n3 : Nat), ∀ (v8_3 : Int), ∀ (μ3 : HM), I3 n3 v8_3 μ3 → ∀ ws : va_W, Mrep G ws μ3 → WW G l cX1_changes RX1 11 (Option.none : Option Jvm.ClassFile.FieldType) "changes" 2 0 0 (hMR G (hR0 P)) (fun u => [u.1, fr]) 0 0 [ws, fr] 3 [(0, va_rf (some b)), (1, va_rf o1), (2, vI a2), (3, vI a3), (4, vI a4), (5, vI a5), (6, vI a6), (7, vI a7), (8, vI v8_3)] [] := by
    clear h
    intro n3
    induction n3 using Nat.strongRecOn with
    | ind n3 ih3 =>
      intro v8_3 μ3 hj ws hM2
      have h := hI3 n3 v8_3 μ3 hj
      refine ww_iload dX1_changes_3 8 rfl ?_
      refine ww_iload_n dX1_changes_5 2 rfl ?_
      obtain ⟨r_1, r_2, h⟩ := h
      refine ww_icmp_ge (tgt := 99) dX1_changes_6 (by decide) r_1 r_2 (fun c => ?_) (fun c => ?_)
      · replace h := h.1 c
        exact ww_vret (ws, μ3) rfl ⟨hM2, ⟨rfl, h⟩⟩ rfl (Nat.le_refl _) (Nat.le_refl _) dX1_changes_99
      · replace h := h.2 (Int.not_le.mp c)
        refine ww_iload dX1_changes_9 8 rfl ?_
        refine ww_iload_n dX1_changes_11 3 rfl ?_
        refine wm_callS (n := 2) hM2 (tm_X1_has h) (lw_S q1572 q1346 q108 q1347) ⟨by decide, by decide, by decide +kernel⟩ rfl ⟨Nat.le_of_ble_eq_true rfl, Nat.le_of_ble_eq_true rfl⟩ rfl (Nat.le_of_ble_eq_true rfl) dX1_changes_12 ⟨Nat.le_refl _, Nat.le_refl _⟩ ?_
        clear h
        rintro _ _ ws ⟨rfl, y_3, rfl, z_4, h⟩ hM3
        refine ww_st1 ?_
        obtain ⟨J93, hJ93, h⟩ := h
        have kJ93 : ∀ (μ93 : HM), J93 μ93 → ∀ ws : va_W, Mrep G ws μ93 → WW G l cX1_changes RX1 11 (Option.none : Option Jvm.ClassFile.FieldType) "changes" 2 0 0 (hMR G (hR0 P)) (fun u => [u.1, fr]) 0 0 [ws, fr] 93 [(0, va_rf (some b)), (1, va_rf o1), (2, vI a2), (3, vI a3), (4, vI a4), (5, vI a5), (6, vI a6), (7, vI a7), (8, vI v8_3)] [] := by
          clear h
          intro μ93 hj ws hM4
          have h := hJ93 μ93 hj
          refine ww_iinc (lv2 := [(8, vI (v8_3 + 1)), (0, va_rf (some b)), (1, va_rf o1), (2, vI a2), (3, vI a3), (4, vI a4), (5, vI a5), (6, vI a6), (7, vI a7)]) dX1_changes_93 8 rfl (Nat.le_of_ble_eq_true rfl) rfl ?_
          refine ww_goto (tgt := 3) dX1_changes_96 (by decide) ?_
          refine ww_lv [1, 2, 3, 4, 5, 6, 7, 8, 0] rfl ?_
          obtain ⟨m, hm, h⟩ := h
          exact ih3 m hm _ _ h _ hM4
        refine ww_if_eq (tgt := 21) dX1_changes_15 (by decide) (r_z z_4) (fun c => ?_) (fun c => ?_)
        · replace h := h.1 c
          refine ww_aloadQ_n dX1_changes_21 1 rfl ?_
          refine ww_iload dX1_changes_22 8 rfl ?_
          obtain ⟨a_5, ea_5, h⟩ := h
          subst ea_5
          obtain ⟨x_6, hx, h⟩ := h
          refine wm_iald hM3 rfl hx dX1_changes_24 ?_
          refine ww_istore (i := 9) (lv2 := [(9, vI x_6), (0, va_rf (some b)), (1, va_rf (some a_5)), (2, vI a2), (3, vI a3), (4, vI a4), (5, vI a5), (6, vI a6), (7, vI a7), (8, vI v8_3)]) dX1_changes_25 (Nat.le_of_ble_eq_true rfl) rfl ?_
          refine ww_aloadQ_n dX1_changes_27 2 rfl ?_
          refine ww_iload dX1_changes_28 9 rfl ?_
          refine ww_iconst dX1_changes_30 ?_
          refine ww_iload_n dX1_changes_31 4 rfl ?_
          refine ww_ishl dX1_changes_32 ?_
          refine ww_ior dX1_changes_33 ?_
          obtain ⟨x_7, hx, h⟩ := h
          refine wm_iald hM3 rfl hx dX1_changes_34 ?_
          refine ww_istore (i := 10) (lv2 := [(10, vI x_7), (9, vI x_6), (0, va_rf (some b)), (1, va_rf (some a_5)), (2, vI a2), (3, vI a3), (4, vI a4), (5, vI a5), (6, vI a6), (7, vI a7), (8, vI v8_3)]) dX1_changes_35 (Nat.le_of_ble_eq_true rfl) rfl ?_
          refine ww_aloadQ_n dX1_changes_37 3 rfl ?_
          refine ww_iload dX1_changes_38 10 rfl ?_
          refine ww_aloadQ_n dX1_changes_40 2 rfl ?_
          obtain ⟨x_8, hx, h⟩ := h
          refine wm_getQ hM3 rfl in_X1 (ci := 1) rfl (by decide) 2 (Nat.le_of_ble_eq_true rfl) hx (fun _ _ => rfl) q319 (fun _ _ h => h) dX1_changes_41 ?_
          refine ww_iload dX1_changes_44 6 rfl ?_
          obtain ⟨r_9, h⟩ := h
          refine ww_i2l dX1_changes_46 r_9 ?_
          refine ww_iload dX1_changes_47 1 rfl ?_
          obtain ⟨r_10, h⟩ := h
          refine ww_i2l dX1_changes_49 r_10 ?_
          refine ww_lmul dX1_changes_50 ?_
          refine ww_iload dX1_changes_51 7 rfl ?_
          obtain ⟨r_11, h⟩ := h
          refine ww_i2l dX1_changes_53 r_11 ?_
          refine ww_iload dX1_changes_54 0 rfl ?_
          obtain ⟨r_12, h⟩ := h
          refine ww_i2l dX1_changes_56 r_12 ?_
          refine ww_lmul dX1_changes_57 ?_
          refine ww_ladd dX1_changes_58 ?_
          obtain ⟨a_13, ea_13, h⟩ := h
          subst ea_13
          obtain ⟨hg, h⟩ := h
          refine wm_callV (n := 1) hM3 (tm_X2_mod h) rfl hg rfl (lw_V q1536 q1349 q1350 q109 q1351) ⟨by decide, by decide, by decide +kernel⟩ rfl ⟨Nat.le_of_ble_eq_true rfl, Nat.le_of_ble_eq_true rfl⟩ rfl (by simp only [List.map_cons, List.map_nil, rf_cat, vI_cat, vL_cat, List.sum_cons, List.sum_nil]; decide) dX1_changes_59 ⟨Nat.le_refl _, Nat.le_refl _⟩ ?_
          clear h
          rintro _ _ ws ⟨rfl, y_14, rfl, h⟩ hM5
          refine ww_st1 ?_
          obtain ⟨n_16, f_17, hc, hi, h⟩ := h
          refine wm_iast hM5 rfl hc hi.1 hi.2.1 hi.2.2 dX1_changes_62 (fun ws hM6 => ?_)
          refine ww_aloadQ_n dX1_changes_63 3 rfl ?_
          refine ww_iload dX1_changes_64 10 rfl ?_
          refine ww_iconst dX1_changes_66 ?_
          refine ww_iload_n dX1_changes_67 5 rfl ?_
          refine ww_ishl dX1_changes_68 ?_
          refine ww_ior dX1_changes_69 ?_
          refine ww_aloadQ_n dX1_changes_70 2 rfl ?_
          obtain ⟨x_18, hx, h⟩ := h
          refine wm_getQ hM6 rfl in_X1 (ci := 1) rfl (by decide) 2 (Nat.le_of_ble_eq_true rfl) hx (fun _ _ => rfl) q319 (fun _ _ h => h) dX1_changes_71 ?_
          refine ww_iload dX1_changes_74 8 rfl ?_
          obtain ⟨r_19, h⟩ := h
          refine ww_i2l dX1_changes_76 r_19 ?_
          refine ww_iload dX1_changes_77 1 rfl ?_
          obtain ⟨r_20, h⟩ := h
          refine ww_i2l dX1_changes_79 r_20 ?_
          refine ww_lmul dX1_changes_80 ?_
          refine ww_iload dX1_changes_81 9 rfl ?_
          obtain ⟨r_21, h⟩ := h
          refine ww_i2l dX1_changes_83 r_21 ?_
          refine ww_iload dX1_changes_84 0 rfl ?_
          obtain ⟨r_22, h⟩ := h
          refine ww_i2l dX1_changes_86 r_22 ?_
          refine ww_lmul dX1_changes_87 ?_
          refine ww_ladd dX1_changes_88 ?_
          obtain ⟨a_23, ea_23, h⟩ := h
          subst ea_23
          obtain ⟨hg, h⟩ := h
          refine wm_callV (n := 1) hM6 (tm_X2_mod h) rfl hg rfl (lw_V q1536 q1349 q1350 q109 q1351) ⟨by decide, by decide, by decide +kernel⟩ rfl ⟨Nat.le_of_ble_eq_true rfl, Nat.le_of_ble_eq_true rfl⟩ rfl (by simp only [List.map_cons, List.map_nil, rf_cat, vI_cat, vL_cat, List.sum_cons, List.sum_nil]; decide) dX1_changes_89 ⟨Nat.le_refl _, Nat.le_refl _⟩ ?_
          clear h
          rintro _ _ ws ⟨rfl, y_24, rfl, h⟩ hM7
          refine ww_st1 ?_
          obtain ⟨n_26, f_27, hc, hi, h⟩ := h
          refine wm_iast hM7 rfl hc hi.1 hi.2.1 hi.2.2 dX1_changes_92 (fun ws hM8 => ?_)
          refine ww_lv [2, 3, 4, 5, 6, 7, 8, 9, 10] rfl ?_
          exact kJ93 _ h _ hM8
        · replace h := h.2 c
          refine ww_goto (tgt := 93) dX1_changes_18 (by decide) ?_
          exact kJ93 _ h _ hM3
  refine ww_lv [1, 2, 3, 4, 5, 6, 7, 8, 0] rfl ?_
  obtain ⟨m, h⟩ := h
  exact kI3 m _ _ h _ hM1
/-! X1_lays_2: HoloNet lays (LHoloNet$Table;IIII)I; flags (True, False, False), depth 3 -/
def wc_X1_lays_2 (ad : Nat → Nat) (μ : HM) (b : Nat) (o1 : Option Nat) (a2 : Int) (a3 : Int) (a4 : Int) (a5 : Int) (P : Int → HM → Prop) : Prop :=
  ∃ a_2 : Nat, o1 = some a_2 ∧
  ∃ x_1 : Option Nat, gQ μ a_2 7 3 = some x_1 ∧
  ∃ a_3 : Nat, x_1 = some a_3 ∧
  ∃ n_4 : Nat, gL μ a_3 = some n_4 ∧
  ∃ x_5 : Option Nat, gQ μ a_2 7 3 = some x_5 ∧
  ∃ x_6 : Option Nat, gQ μ b 1 6 = some x_6 ∧
  ∃ a_7 : Nat, x_5 = some a_7 ∧
  ∃ a_8 : Nat, x_6 = some a_8 ∧
  ∃ (n_9 n_10 : Nat) (f_11 g_12 : Int → Int), μ a_7 = some (hA 0 n_9 f_11) ∧ μ a_8 = some (hA 0 n_10 g_12) ∧ ((0 : Int) ≤ (0 : Int) ∧ (0 : Int) ≤ (0 : Int) ∧ (0 : Int) ≤ (n_4 : Int) ∧ (0 : Int) + (n_4 : Int) ≤ (n_9 : Int) ∧ (0 : Int) + (n_4 : Int) ≤ (n_10 : Int) ∧ (n_9 : Int) < 2147483648 ∧ (n_10 : Int) < 2147483648) ∧ 
  ∃ I25 : Nat → Int → HM → Prop, (∀ (n25 : Nat) (v7_25 : Int) (μ25 : HM), I25 n25 v7_25 μ25 →
    ∃ x_13 : Int, gI μ25 a_2 7 2 = some x_13 ∧
    rI v7_25 ∧
    rI x_13 ∧
    ((x_13 ≤ v7_25 →
      P (n_4 : Int) μ25) ∧
    (v7_25 < x_13 →
      ∃ x_16 : Option Nat, gQ μ25 b 1 6 = some x_16 ∧
      gC μ25 b = some 1 ∧
      wc_X1_changes ad μ25 b x_16 (n_4 : Int) v7_25 a2 a3 a4 a5 (fun μ_17 =>
        ∃ m : Nat, m < n25 ∧ I25 m (v7_25 + 1) μ_17)))) ∧
  ∃ m : Nat, I25 m 0 (hs μ a_8 (hA 0 n_10 (cpyI f_11 g_12 (0 : Int) (0 : Int) (n_4 : Int))))
set_option maxHeartbeats 4000000 in
theorem tm_X1_lays_2 {G : g_G} {l : Launch} {μ : HM} {b : Nat} {o1 : Option Nat} {a2 : Int} {a3 : Int} {a4 : Int} {a5 : Int} {P : Int → HM → Prop} (h : wc_X1_lays_2 (g_ad G) μ b o1 a2 a3 a4 a5 P) : CM G l yX1_lays_2 cX1_lays_2 8 (Option.some Jvm.ClassFile.FieldType.int) 3 0 0 [.ref b, va_rf o1, vI a2, vI a3, vI a4, vI a5] μ (hR1 P) := by
  unfold wc_X1_lays_2 at h
  refine wm_of (lvs := [(0, va_rf (some b)), (1, va_rf o1), (2, vI a2), (3, vI a3), (4, vI a4), (5, vI a5)]) (by decide) (by simp [lg_sl, rf_cat, vI_cat, vL_cat, ref_cat]) (by simp [lv_args, rf_cat, vI_cat, vL_cat, ref_cat, rf_some]) (fun fr ws hM1 => ?_)
  show WW G l cX1_lays_2 RX1 8 (Option.some Jvm.ClassFile.FieldType.int) "lays" 3 0 0 (hMR G (hR1 P)) (fun u => [u.1, fr]) 0 0 [ws, fr] 0 [(0, va_rf (some b)), (1, va_rf o1), (2, vI a2), (3, vI a3), (4, vI a4), (5, vI a5)] []
  refine ww_aloadQ_n dX1_lays_2_0 1 rfl ?_
  obtain ⟨a_2, ea_2, h⟩ := h
  subst ea_2
  obtain ⟨x_1, hx, h⟩ := h
  refine wm_getQN hM1 rfl in_X9 (ci := 7) rfl (by decide) 3 (Nat.le_of_ble_eq_true rfl) hx (fun _ _ => rfl) q1156 (fun _ _ h => h) dX1_lays_2_1 ?_
  obtain ⟨a_3, ea_3, h⟩ := h
  subst ea_3
  obtain ⟨n_4, hn, h⟩ := h
  refine wm_alen hM1 rfl hn dX1_lays_2_4 ?_
  refine ww_istore (i := 6) (lv2 := [(6, vI (n_4 : Int)), (0, va_rf (some b)), (1, va_rf (some a_2)), (2, vI a2), (3, vI a3), (4, vI a4), (5, vI a5)]) dX1_lays_2_5 (Nat.le_of_ble_eq_true rfl) rfl ?_
  refine ww_aloadQ_n dX1_lays_2_7 2 rfl ?_
  obtain ⟨x_5, hx, h⟩ := h
  refine wm_getQN hM1 rfl in_X9 (ci := 7) rfl (by decide) 3 (Nat.le_of_ble_eq_true rfl) hx (fun _ _ => rfl) q1156 (fun _ _ h => h) dX1_lays_2_8 ?_
  refine ww_iconst dX1_lays_2_11 ?_
  refine ww_aloadQ_n dX1_lays_2_12 1 rfl ?_
  obtain ⟨x_6, hx, h⟩ := h
  refine wm_getQ hM1 rfl in_X1 (ci := 1) rfl (by decide) 6 (Nat.le_of_ble_eq_true rfl) hx (fun _ _ => rfl) q325 (fun _ _ h => h) dX1_lays_2_13 ?_
  refine ww_iconst dX1_lays_2_16 ?_
  refine ww_iload dX1_lays_2_17 0 rfl ?_
  obtain ⟨a_7, ea_7, h⟩ := h
  subst ea_7
  obtain ⟨a_8, ea_8, h⟩ := h
  subst ea_8
  obtain ⟨n_9, n_10, f_11, g_12, hc, hc1, hi, h⟩ := h
  refine wm_copyI 0 (ty := .int) hM1 rfl rfl hc hc1 (by decide) rfl rfl hi.1 hi.2.1 hi.2.2.1 hi.2.2.2.1 hi.2.2.2.2.1 hi.2.2.2.2.2.1 hi.2.2.2.2.2.2 (fun _ _ _ => rfl) q1614 q488 q487 q126 (Nat.le_of_ble_eq_true rfl) (Nat.le_of_ble_eq_true rfl) dX1_lays_2_19 (fun ws hM2 => ?_)
  refine ww_iconst dX1_lays_2_22 ?_
  refine ww_istore (i := 7) (lv2 := [(7, vI 0), (6, vI (n_4 : Int)), (0, va_rf (some b)), (1, va_rf (some a_2)), (2, vI a2), (3, vI a3), (4, vI a4), (5, vI a5)]) dX1_lays_2_23 (Nat.le_of_ble_eq_true rfl) rfl ?_
  obtain ⟨I25, hI25, h⟩ := h
  have kI25 : ∀ (n25 : Nat), ∀ (v7_25 : Int), ∀ (μ25 : HM), I25 n25 v7_25 μ25 → ∀ ws : va_W, Mrep G ws μ25 → WW G l cX1_lays_2 RX1 8 (Option.some Jvm.ClassFile.FieldType.int) "lays" 3 0 0 (hMR G (hR1 P)) (fun u => [u.1, fr]) 0 0 [ws, fr] 25 [(0, va_rf (some b)), (1, va_rf (some a_2)), (2, vI a2), (3, vI a3), (4, vI a4), (5, vI a5), (6, vI (n_4 : Int)), (7, vI v7_25)] [] := by
    clear h
    intro n25
    induction n25 using Nat.strongRecOn with
    | ind n25 ih25 =>
      intro v7_25 μ25 hj ws hM3
      have h := hI25 n25 v7_25 μ25 hj
      refine ww_iload dX1_lays_2_25 7 rfl ?_
      refine ww_aloadQ_n dX1_lays_2_27 1 rfl ?_
      obtain ⟨x_13, hx, h⟩ := h
      refine wm_getIN hM3 rfl in_X9 (ci := 7) rfl (by decide) 2 (Nat.le_of_ble_eq_true rfl) hx (fun _ _ => rfl) q1152 (fun _ _ h => h) dX1_lays_2_28 ?_
      obtain ⟨r_14, r_15, h⟩ := h
      refine ww_icmp_ge (tgt := 58) dX1_lays_2_31 (by decide) r_14 r_15 (fun c => ?_) (fun c => ?_)
      · replace h := h.1 c
        refine ww_iload dX1_lays_2_58 6 rfl ?_
        exact ww_iret (ws, μ25) rfl ⟨hM3, ⟨_, rfl, h⟩⟩ rfl (Nat.le_refl _) (Nat.le_refl _) dX1_lays_2_60
      · replace h := h.2 (Int.not_le.mp c)
        refine ww_aloadQ_n dX1_lays_2_34 0 rfl ?_
        refine ww_aloadQ_n dX1_lays_2_35 0 rfl ?_
        obtain ⟨x_16, hx, h⟩ := h
        refine wm_getQ hM3 rfl in_X1 (ci := 1) rfl (by decide) 6 (Nat.le_of_ble_eq_true rfl) hx (fun _ _ => rfl) q325 (fun _ _ h => h) dX1_lays_2_36 ?_
        refine ww_iload dX1_lays_2_39 6 rfl ?_
        refine ww_iload dX1_lays_2_41 7 rfl ?_
        refine ww_iload_n dX1_lays_2_43 2 rfl ?_
        refine ww_iload_n dX1_lays_2_44 3 rfl ?_
        refine ww_iload dX1_lays_2_45 4 rfl ?_
        refine ww_iload dX1_lays_2_47 5 rfl ?_
        obtain ⟨hg, h⟩ := h
        refine wm_callV (n := 7) hM3 (tm_X1_changes h) rfl hg rfl (lw_V q1615 q1617 qs38 q108 q1618) ⟨by decide, by decide, by decide +kernel⟩ rfl ⟨Nat.le_of_ble_eq_true rfl, Nat.le_of_ble_eq_true rfl⟩ rfl (Nat.le_of_ble_eq_true rfl) dX1_lays_2_49 ⟨Nat.le_refl _, Nat.le_refl _⟩ ?_
        clear h
        rintro _ μ_17 ws ⟨rfl, h⟩ hM4
        refine ww_st0 ?_
        refine ww_iinc (lv2 := [(7, vI (v7_25 + 1)), (0, va_rf (some b)), (1, va_rf (some a_2)), (2, vI a2), (3, vI a3), (4, vI a4), (5, vI a5), (6, vI (n_4 : Int))]) dX1_lays_2_52 7 rfl (Nat.le_of_ble_eq_true rfl) rfl ?_
        refine ww_goto (tgt := 25) dX1_lays_2_55 (by decide) ?_
        refine ww_lv [1, 2, 3, 4, 5, 6, 7, 0] rfl ?_
        obtain ⟨m, hm, h⟩ := h
        exact ih25 m hm _ _ h _ hM4
  refine ww_lv [2, 3, 4, 5, 6, 7, 1, 0] rfl ?_
  obtain ⟨m, h⟩ := h
  exact kI25 m _ _ h _ hM2
/-! X1_lays: HoloNet lays (II)I; flags (True, False, False), depth 5 -/
def wc_X1_lays (ad : Nat → Nat) (μ : HM) (b : Nat) (a1 : Int) (a2 : Int) (P : Int → HM → Prop) : Prop :=
  ∃ x_1 : Option Nat, gQ μ b 1 2 = some x_1 ∧
  ∃ a_3 : Nat, x_1 = some a_3 ∧
  ∃ x_2 : Option Nat, gQ μ a_3 2 2 = some x_2 ∧
  ∃ a_4 : Nat, x_2 = some a_4 ∧
  gC μ a_4 = some 3 ∧
  wc_X3_get ad μ a_4 a2 (fun y_5 =>
    (∀ z : Nat, y_5 = some z → ∃ ci, gC μ z = some ci ∧ (ci = 8)) ∧
    ∃ a_8 : Nat, y_5 = some a_8 ∧
    ∃ x_7 : Option Nat, gQ μ a_8 8 2 = some x_7 ∧
    gC μ b = some 1 ∧
    wc_X1_at ad μ b a1 (fun y_9 =>
      ∃ a_11 : Nat, x_7 = some a_11 ∧
      ∃ x_12 : Int, gA μ a_11 0 0 = some x_12 ∧
      ∃ x_13 : Int, gA μ a_11 0 1 = some x_13 ∧
      ∃ x_14 : Int, gA μ a_11 0 2 = some x_14 ∧
      ∃ x_15 : Int, gA μ a_11 0 3 = some x_15 ∧
      gC μ b = some 1 ∧
      wc_X1_lays_2 ad μ b y_9 x_12 x_13 x_14 x_15 (fun y_16 μ_18 =>
        P y_16 μ_18)))
set_option maxHeartbeats 4000000 in
theorem tm_X1_lays {G : g_G} {l : Launch} {μ : HM} {b : Nat} {a1 : Int} {a2 : Int} {P : Int → HM → Prop} (h : wc_X1_lays (g_ad G) μ b a1 a2 P) : CM G l yX1_lays cX1_lays 4 (Option.some Jvm.ClassFile.FieldType.int) 5 0 0 [.ref b, vI a1, vI a2] μ (hR1 P) := by
  unfold wc_X1_lays at h
  refine wm_of (lvs := [(0, va_rf (some b)), (1, vI a1), (2, vI a2)]) (by decide) (Nat.le_of_ble_eq_true rfl) rfl (fun fr ws hM1 => ?_)
  show WW G l cX1_lays RX1 4 (Option.some Jvm.ClassFile.FieldType.int) "lays" 5 0 0 (hMR G (hR1 P)) (fun u => [u.1, fr]) 0 0 [ws, fr] 0 [(0, va_rf (some b)), (1, vI a1), (2, vI a2)] []
  refine ww_aloadQ_n dX1_lays_0 0 rfl ?_
  obtain ⟨x_1, hx, h⟩ := h
  refine wm_getQ hM1 rfl in_X1 (ci := 1) rfl (by decide) 2 (Nat.le_of_ble_eq_true rfl) hx (fun _ _ => rfl) q319 (fun _ _ h => h) dX1_lays_1 ?_
  obtain ⟨a_3, ea_3, h⟩ := h
  subst ea_3
  obtain ⟨x_2, hx, h⟩ := h
  refine wm_getQN hM1 rfl in_X2 (ci := 2) rfl (by decide) 2 (Nat.le_of_ble_eq_true rfl) hx (fun _ _ => rfl) q264 (fun _ _ h => h) dX1_lays_4 ?_
  refine ww_iload_n dX1_lays_7 2 rfl ?_
  obtain ⟨a_4, ea_4, h⟩ := h
  subst ea_4
  obtain ⟨hg, h⟩ := h
  refine wm_callV (n := 1) hM1 (tm_X3_get h) rfl hg rfl (lw_V q1516 q1405 q1406 q110 q1407) ⟨by decide, by decide, by decide +kernel⟩ rfl ⟨Nat.le_of_ble_eq_true rfl, Nat.le_of_ble_eq_true rfl⟩ rfl (Nat.le_of_ble_eq_true rfl) dX1_lays_8 ⟨Nat.le_refl _, Nat.le_refl _⟩ ?_
  clear h
  rintro _ _ ws ⟨rfl, y_5, rfl, h⟩ hM2
  refine ww_st1 ?_
  obtain ⟨hc, h⟩ := h
  refine wm_cast hM2 hc cast_6 q1609 dX1_lays_11 ?_
  obtain ⟨a_8, ea_8, h⟩ := h
  subst ea_8
  obtain ⟨x_7, hx, h⟩ := h
  refine wm_getQN hM2 rfl in_X11 (ci := 8) rfl (by decide) 2 (Nat.le_of_ble_eq_true rfl) hx (fun _ _ => rfl) q1367 (fun _ _ h => h) dX1_lays_14 ?_
  refine ww_astoreQ_n (i := 3) (lv2 := [(3, va_rf x_7), (0, va_rf (some b)), (1, vI a1), (2, vI a2)]) dX1_lays_17 rfl (Nat.le_of_ble_eq_true rfl) rfl ?_
  refine ww_aloadQ_n dX1_lays_18 1 rfl ?_
  refine ww_aloadQ_n dX1_lays_19 1 rfl ?_
  refine ww_iload_n dX1_lays_20 2 rfl ?_
  obtain ⟨hg, h⟩ := h
  refine wm_callV (n := 1) hM2 (tm_X1_at h) rfl hg rfl (lw_V q1512 q1514 qs30 q108 q1515) ⟨by decide, by decide, by decide +kernel⟩ rfl ⟨Nat.le_of_ble_eq_true rfl, Nat.le_of_ble_eq_true rfl⟩ rfl (by simp only [List.map_cons, List.map_nil, rf_cat, vI_cat, vL_cat, List.sum_cons, List.sum_nil]; decide) dX1_lays_21 ⟨Nat.le_refl _, Nat.le_refl _⟩ ?_
  clear h
  rintro _ _ ws ⟨rfl, y_9, rfl, h⟩ hM3
  refine ww_st1 ?_
  refine ww_aloadQ_n dX1_lays_24 0 rfl ?_
  refine ww_iconst dX1_lays_25 ?_
  obtain ⟨a_11, ea_11, h⟩ := h
  subst ea_11
  obtain ⟨x_12, hx, h⟩ := h
  refine wm_iald hM3 rfl hx dX1_lays_26 ?_
  refine ww_aloadQ_n dX1_lays_27 0 rfl ?_
  refine ww_iconst dX1_lays_28 ?_
  obtain ⟨x_13, hx, h⟩ := h
  refine wm_iald hM3 rfl hx dX1_lays_29 ?_
  refine ww_aloadQ_n dX1_lays_30 0 rfl ?_
  refine ww_iconst dX1_lays_31 ?_
  obtain ⟨x_14, hx, h⟩ := h
  refine wm_iald hM3 rfl hx dX1_lays_32 ?_
  refine ww_aloadQ_n dX1_lays_33 0 rfl ?_
  refine ww_iconst dX1_lays_34 ?_
  obtain ⟨x_15, hx, h⟩ := h
  refine wm_iald hM3 rfl hx dX1_lays_35 ?_
  obtain ⟨hg, h⟩ := h
  refine wm_callV (n := 5) hM3 (tm_X1_lays_2 h) rfl hg rfl (lw_V q1610 q1612 qs37 q108 q1613) ⟨by decide, by decide, by decide +kernel⟩ rfl ⟨Nat.le_of_ble_eq_true rfl, Nat.le_of_ble_eq_true rfl⟩ rfl (Nat.le_of_ble_eq_true rfl) dX1_lays_36 ⟨Nat.le_refl _, Nat.le_refl _⟩ ?_
  clear h
  rintro _ μ_18 ws ⟨y_16, rfl, h⟩ hM4
  refine ww_st1 ?_
  exact ww_iret (ws, μ_18) rfl ⟨hM4, ⟨_, rfl, h⟩⟩ rfl (Nat.le_refl _) (Nat.le_refl _) dX1_lays_39
/-! X1_based: HoloNet based (III)I; flags (True, False, False), depth 6 -/
def wc_X1_based (ad : Nat → Nat) (μ : HM) (b : Nat) (a1 : Int) (a2 : Int) (a3 : Int) (P : Int → HM → Prop) : Prop :=
  gC μ b = some 1 ∧
  wc_X1_isTable ad μ b a1 (fun y_1 =>
    ((y_1 = 0 →
      P (-1) μ) ∧
    (¬ y_1 = 0 →
      gC μ b = some 1 ∧
      wc_X1_isBase ad μ b a2 (fun y_3 =>
        ((y_3 = 0 →
          P (-1) μ) ∧
        (¬ y_3 = 0 →
          rI a3 ∧
          gC μ b = some 1 ∧
          wc_X1_at ad μ b a1 (fun y_6 =>
            ∃ a_9 : Nat, y_6 = some a_9 ∧
            ∃ x_8 : Option Nat, gQ μ a_9 7 3 = some x_8 ∧
            ∃ a_10 : Nat, x_8 = some a_10 ∧
            ∃ n_11 : Nat, gL μ a_10 = some n_11 ∧
            rI ((n_11 : Int) - 1) ∧
            wc_X1_within ad μ a3 0 ((n_11 : Int) - 1) (fun y_13 =>
              ((¬ y_13 = 0 →
                gC μ b = some 1 ∧
                wc_X1_lays ad μ b a1 a2 (fun y_15 μ_17 =>
                  ∃ x_18 : Option Nat, gQ μ_17 b 1 6 = some x_18 ∧
                  ∃ a_19 : Nat, x_18 = some a_19 ∧
                  ∃ x_20 : Int, gA μ_17 a_19 0 a3 = some x_20 ∧
                  P x_20 μ_17)) ∧
              (y_13 = 0 →
                P (-1) μ))))))))))
set_option maxHeartbeats 4000000 in
theorem tm_X1_based {G : g_G} {l : Launch} {μ : HM} {b : Nat} {a1 : Int} {a2 : Int} {a3 : Int} {P : Int → HM → Prop} (h : wc_X1_based (g_ad G) μ b a1 a2 a3 P) : CM G l yX1_based cX1_based 4 (Option.some Jvm.ClassFile.FieldType.int) 6 0 0 [.ref b, vI a1, vI a2, vI a3] μ (hR1 P) := by
  unfold wc_X1_based at h
  refine wm_of (lvs := [(0, va_rf (some b)), (1, vI a1), (2, vI a2), (3, vI a3)]) (by decide) (Nat.le_of_ble_eq_true rfl) rfl (fun fr ws hM1 => ?_)
  show WW G l cX1_based RX1 4 (Option.some Jvm.ClassFile.FieldType.int) "based" 6 0 0 (hMR G (hR1 P)) (fun u => [u.1, fr]) 0 0 [ws, fr] 0 [(0, va_rf (some b)), (1, vI a1), (2, vI a2), (3, vI a3)] []
  refine ww_aloadQ_n dX1_based_0 0 rfl ?_
  refine ww_iload_n dX1_based_1 1 rfl ?_
  obtain ⟨hg, h⟩ := h
  refine wm_callV (n := 1) hM1 (tm_X1_isTable h) rfl hg rfl (lw_V q1503 q1505 qs29 q108 q1506) ⟨by decide, by decide, by decide +kernel⟩ rfl ⟨Nat.le_of_ble_eq_true rfl, Nat.le_of_ble_eq_true rfl⟩ rfl (Nat.le_of_ble_eq_true rfl) dX1_based_2 ⟨Nat.le_refl _, Nat.le_refl _⟩ ?_
  clear h
  rintro _ _ ws ⟨rfl, y_1, rfl, z_2, h⟩ hM2
  refine ww_st1 ?_
  refine ww_if_eq (tgt := 37) dX1_based_5 (by decide) (r_z z_2) (fun c => ?_) (fun c => ?_)
  · replace h := h.1 c
    refine ww_iconst dX1_based_37 ?_
    exact ww_iret (ws, μ) rfl ⟨hM2, ⟨_, rfl, h⟩⟩ rfl (Nat.le_refl _) (Nat.le_refl _) dX1_based_38
  · replace h := h.2 c
    refine ww_aloadQ_n dX1_based_8 0 rfl ?_
    refine ww_iload_n dX1_based_9 2 rfl ?_
    obtain ⟨hg, h⟩ := h
    refine wm_callV (n := 1) hM2 (tm_X1_isBase h) rfl hg rfl (lw_V q1601 q1603 qs35 q108 q1604) ⟨by decide, by decide, by decide +kernel⟩ rfl ⟨Nat.le_of_ble_eq_true rfl, Nat.le_of_ble_eq_true rfl⟩ rfl (Nat.le_of_ble_eq_true rfl) dX1_based_10 ⟨Nat.le_refl _, Nat.le_refl _⟩ ?_
    clear h
    rintro _ _ ws ⟨rfl, y_3, rfl, z_4, h⟩ hM3
    refine ww_st1 ?_
    refine ww_if_eq (tgt := 37) dX1_based_13 (by decide) (r_z z_4) (fun c => ?_) (fun c => ?_)
    · replace h := h.1 c
      refine ww_iconst dX1_based_37 ?_
      exact ww_iret (ws, μ) rfl ⟨hM3, ⟨_, rfl, h⟩⟩ rfl (Nat.le_refl _) (Nat.le_refl _) dX1_based_38
    · replace h := h.2 c
      refine ww_iload_n dX1_based_16 3 rfl ?_
      obtain ⟨r_5, h⟩ := h
      refine ww_i2l dX1_based_17 r_5 ?_
      refine ww_lconst (v := 0) dX1_based_18 rfl ?_
      refine ww_aloadQ_n dX1_based_19 0 rfl ?_
      refine ww_iload_n dX1_based_20 1 rfl ?_
      obtain ⟨hg, h⟩ := h
      refine wm_callV (n := 1) hM3 (tm_X1_at h) rfl hg rfl (lw_V q1512 q1514 qs30 q108 q1515) ⟨by decide, by decide, by decide +kernel⟩ rfl ⟨Nat.le_of_ble_eq_true rfl, Nat.le_of_ble_eq_true rfl⟩ rfl (Nat.le_of_ble_eq_true rfl) dX1_based_21 ⟨Nat.le_refl _, Nat.le_refl _⟩ ?_
      clear h
      rintro _ _ ws ⟨rfl, y_6, rfl, h⟩ hM4
      refine ww_st1 ?_
      obtain ⟨a_9, ea_9, h⟩ := h
      subst ea_9
      obtain ⟨x_8, hx, h⟩ := h
      refine wm_getQN hM4 rfl in_X9 (ci := 7) rfl (by decide) 3 (Nat.le_of_ble_eq_true rfl) hx (fun _ _ => rfl) q1156 (fun _ _ h => h) dX1_based_24 ?_
      obtain ⟨a_10, ea_10, h⟩ := h
      subst ea_10
      obtain ⟨n_11, hn, h⟩ := h
      refine wm_alen hM4 rfl hn dX1_based_27 ?_
      refine ww_iconst dX1_based_28 ?_
      refine ww_isub dX1_based_29 ?_
      obtain ⟨r_12, h⟩ := h
      refine ww_i2l dX1_based_30 r_12 ?_
      refine wm_callS (n := 3) hM4 (tm_X1_within h) (lw_S q353 q354 q108 q355) ⟨by decide, by decide, by decide +kernel⟩ rfl ⟨Nat.le_of_ble_eq_true rfl, Nat.le_of_ble_eq_true rfl⟩ rfl (Nat.le_of_ble_eq_true rfl) dX1_based_31 ⟨Nat.le_refl _, Nat.le_refl _⟩ ?_
      clear h
      rintro _ _ ws ⟨rfl, y_13, rfl, z_14, h⟩ hM5
      refine ww_st1 ?_
      refine ww_if_ne (tgt := 39) dX1_based_34 (by decide) (r_z z_14) (fun c => ?_) (fun c => ?_)
      · replace h := h.1 c
        refine ww_aloadQ_n dX1_based_39 0 rfl ?_
        refine ww_iload_n dX1_based_40 1 rfl ?_
        refine ww_iload_n dX1_based_41 2 rfl ?_
        obtain ⟨hg, h⟩ := h
        refine wm_callV (n := 2) hM5 (tm_X1_lays h) rfl hg rfl (lw_V q1605 q1607 qs36 q108 q1608) ⟨by decide, by decide, by decide +kernel⟩ rfl ⟨Nat.le_of_ble_eq_true rfl, Nat.le_of_ble_eq_true rfl⟩ rfl (Nat.le_of_ble_eq_true rfl) dX1_based_42 ⟨Nat.le_refl _, Nat.le_refl _⟩ ?_
        clear h
        rintro _ μ_17 ws ⟨y_15, rfl, h⟩ hM6
        refine ww_st1 ?_
        refine ww_pop dX1_based_45 rfl ?_
        refine ww_aloadQ_n dX1_based_46 0 rfl ?_
        obtain ⟨x_18, hx, h⟩ := h
        refine wm_getQ hM6 rfl in_X1 (ci := 1) rfl (by decide) 6 (Nat.le_of_ble_eq_true rfl) hx (fun _ _ => rfl) q325 (fun _ _ h => h) dX1_based_47 ?_
        refine ww_iload_n dX1_based_50 3 rfl ?_
        obtain ⟨a_19, ea_19, h⟩ := h
        subst ea_19
        obtain ⟨x_20, hx, h⟩ := h
        refine wm_iald hM6 rfl hx dX1_based_51 ?_
        exact ww_iret (ws, μ_17) rfl ⟨hM6, ⟨_, rfl, h⟩⟩ rfl (Nat.le_refl _) (Nat.le_refl _) dX1_based_52
      · replace h := h.2 c
        refine ww_iconst dX1_based_37 ?_
        exact ww_iret (ws, μ) rfl ⟨hM5, ⟨_, rfl, h⟩⟩ rfl (Nat.le_refl _) (Nat.le_refl _) dX1_based_38
/-! X1_doesFit: HoloNet doesFit (II)Z; flags (True, True, False), depth 6 -/
def wc_X1_doesFit (ad : Nat → Nat) (mc ms : Nat) (μ : HM) (b : Nat) (a1 : Int) (a2 : Int) (P : Int → HM → Prop) : Prop :=
  gC μ b = some 1 ∧
  wc_X1_lays ad μ b a1 a2 (fun y_1 μ_3 =>
    ∃ x_4 : Option Nat, gQ μ_3 b 1 6 = some x_4 ∧
    gC μ_3 b = some 1 ∧
    ∃ c_5 s_6 : Nat, (0 + c_5 ≤ mc ∧ 0 + s_6 ≤ ms) ∧
    wc_X1_isMade ad c_5 s_6 μ_3 b x_4 y_1 (fun y_8 μ_10 =>
      (y_8 = 0 ∨ y_8 = 1) ∧ P y_8 μ_10))
set_option maxHeartbeats 4000000 in
theorem tm_X1_doesFit {G : g_G} {l : Launch} {mc ms : Nat} {μ : HM} {b : Nat} {a1 : Int} {a2 : Int} {P : Int → HM → Prop} (h : wc_X1_doesFit (g_ad G) mc ms μ b a1 a2 P) : CM G l yX1_doesFit cX1_doesFit 4 (Option.some Jvm.ClassFile.FieldType.boolean) 6 mc ms [.ref b, vI a1, vI a2] μ (hR2 P) := by
  unfold wc_X1_doesFit at h
  refine wm_of (lvs := [(0, va_rf (some b)), (1, vI a1), (2, vI a2)]) (by decide) (Nat.le_of_ble_eq_true rfl) rfl (fun fr ws hM1 => ?_)
  show WW G l cX1_doesFit RX1 4 (Option.some Jvm.ClassFile.FieldType.boolean) "doesFit" 6 mc ms (hMR G (hR2 P)) (fun u => [u.1, fr]) 0 0 [ws, fr] 0 [(0, va_rf (some b)), (1, vI a1), (2, vI a2)] []
  have hB : 0 ≤ mc ∧ 0 ≤ ms := ⟨Nat.zero_le _, Nat.zero_le _⟩
  refine ww_aloadQ_n dX1_doesFit_0 0 rfl ?_
  refine ww_iload_n dX1_doesFit_1 1 rfl ?_
  refine ww_iload_n dX1_doesFit_2 2 rfl ?_
  obtain ⟨hg, h⟩ := h
  refine wm_callV (n := 2) hM1 (tm_X1_lays h) rfl hg rfl (lw_V q1605 q1607 qs36 q108 q1608) ⟨by decide, by decide, by decide +kernel⟩ rfl ⟨Nat.le_of_ble_eq_true rfl, Nat.le_of_ble_eq_true rfl⟩ rfl (Nat.le_of_ble_eq_true rfl) dX1_doesFit_3 hB ?_
  clear h
  rintro _ μ_3 ws ⟨y_1, rfl, h⟩ hM2
  refine ww_st1 ?_
  refine ww_istore_n (i := 3) (lv2 := [(3, vI y_1), (0, va_rf (some b)), (1, vI a1), (2, vI a2)]) dX1_doesFit_6 rfl (Nat.le_of_ble_eq_true rfl) rfl ?_
  refine ww_aloadQ_n dX1_doesFit_7 1 rfl ?_
  refine ww_aloadQ_n dX1_doesFit_8 1 rfl ?_
  obtain ⟨x_4, hx, h⟩ := h
  refine wm_getQ hM2 rfl in_X1 (ci := 1) rfl (by decide) 6 (Nat.le_of_ble_eq_true rfl) hx (fun _ _ => rfl) q325 (fun _ _ h => h) dX1_doesFit_9 ?_
  refine ww_iload_n dX1_doesFit_12 0 rfl ?_
  obtain ⟨hg, h⟩ := h
  obtain ⟨c_5, s_6, b_7, h⟩ := h
  refine wm_callV (n := 2) hM2 (tm_X1_isMade h) rfl hg rfl (lw_V q1541 q1543 qs32 q108 q1544) ⟨by decide, by decide, by decide +kernel⟩ rfl ⟨Nat.le_of_ble_eq_true rfl, Nat.le_of_ble_eq_true rfl⟩ rfl (Nat.le_of_ble_eq_true rfl) dX1_doesFit_13 b_7 ?_
  clear h
  rintro _ μ_10 ws ⟨y_8, rfl, z_9, h⟩ hM3
  have hB := b_7
  refine ww_st1 ?_
  obtain ⟨hz, h⟩ := h
  exact ww_zret (ws, μ_10) rfl hz ⟨hM3, ⟨_, rfl, hz, h⟩⟩ rfl hB.1 hB.2 dX1_doesFit_16
/-! X1_fits: HoloNet fits (II)I; flags (True, True, False), depth 7 -/
def wc_X1_fits (ad : Nat → Nat) (mc ms : Nat) (μ : HM) (b : Nat) (a1 : Int) (a2 : Int) (P : Int → HM → Prop) : Prop :=
  gC μ b = some 1 ∧
  wc_X1_isTable ad μ b a1 (fun y_1 =>
    ((y_1 = 0 →
      P (-1) μ) ∧
    (¬ y_1 = 0 →
      gC μ b = some 1 ∧
      wc_X1_isBase ad μ b a2 (fun y_3 =>
        ((y_3 = 0 →
          P (-1) μ) ∧
        (¬ y_3 = 0 →
          gC μ b = some 1 ∧
          ∃ c_5 s_6 : Nat, (0 + c_5 ≤ mc ∧ 0 + s_6 ≤ ms) ∧
          wc_X1_doesFit ad c_5 s_6 μ b a1 a2 (fun y_8 μ_10 =>
            ((y_8 = 0 →
              P 0 μ_10) ∧
            (¬ y_8 = 0 →
              P 1 μ_10)))))))))
set_option maxHeartbeats 4000000 in
theorem tm_X1_fits {G : g_G} {l : Launch} {mc ms : Nat} {μ : HM} {b : Nat} {a1 : Int} {a2 : Int} {P : Int → HM → Prop} (h : wc_X1_fits (g_ad G) mc ms μ b a1 a2 P) : CM G l yX1_fits cX1_fits 3 (Option.some Jvm.ClassFile.FieldType.int) 7 mc ms [.ref b, vI a1, vI a2] μ (hR1 P) := by
  unfold wc_X1_fits at h
  refine wm_of (lvs := [(0, va_rf (some b)), (1, vI a1), (2, vI a2)]) (by decide) (Nat.le_of_ble_eq_true rfl) rfl (fun fr ws hM1 => ?_)
  show WW G l cX1_fits RX1 3 (Option.some Jvm.ClassFile.FieldType.int) "fits" 7 mc ms (hMR G (hR1 P)) (fun u => [u.1, fr]) 0 0 [ws, fr] 0 [(0, va_rf (some b)), (1, vI a1), (2, vI a2)] []
  have hB : 0 ≤ mc ∧ 0 ≤ ms := ⟨Nat.zero_le _, Nat.zero_le _⟩
  refine ww_aloadQ_n dX1_fits_0 0 rfl ?_
  refine ww_iload_n dX1_fits_1 1 rfl ?_
  obtain ⟨hg, h⟩ := h
  refine wm_callV (n := 1) hM1 (tm_X1_isTable h) rfl hg rfl (lw_V q1503 q1505 qs29 q108 q1506) ⟨by decide, by decide, by decide +kernel⟩ rfl ⟨Nat.le_of_ble_eq_true rfl, Nat.le_of_ble_eq_true rfl⟩ rfl (Nat.le_of_ble_eq_true rfl) dX1_fits_2 hB ?_
  clear h
  rintro _ _ ws ⟨rfl, y_1, rfl, z_2, h⟩ hM2
  refine ww_st1 ?_
  refine ww_if_eq (tgt := 33) dX1_fits_5 (by decide) (r_z z_2) (fun c => ?_) (fun c => ?_)
  · replace h := h.1 c
    refine ww_iconst dX1_fits_33 ?_
    exact ww_iret (ws, μ) rfl ⟨hM2, ⟨_, rfl, h⟩⟩ rfl hB.1 hB.2 dX1_fits_34
  · replace h := h.2 c
    refine ww_aloadQ_n dX1_fits_8 0 rfl ?_
    refine ww_iload_n dX1_fits_9 2 rfl ?_
    obtain ⟨hg, h⟩ := h
    refine wm_callV (n := 1) hM2 (tm_X1_isBase h) rfl hg rfl (lw_V q1601 q1603 qs35 q108 q1604) ⟨by decide, by decide, by decide +kernel⟩ rfl ⟨Nat.le_of_ble_eq_true rfl, Nat.le_of_ble_eq_true rfl⟩ rfl (Nat.le_of_ble_eq_true rfl) dX1_fits_10 hB ?_
    clear h
    rintro _ _ ws ⟨rfl, y_3, rfl, z_4, h⟩ hM3
    refine ww_st1 ?_
    refine ww_if_eq (tgt := 33) dX1_fits_13 (by decide) (r_z z_4) (fun c => ?_) (fun c => ?_)
    · replace h := h.1 c
      refine ww_iconst dX1_fits_33 ?_
      exact ww_iret (ws, μ) rfl ⟨hM3, ⟨_, rfl, h⟩⟩ rfl hB.1 hB.2 dX1_fits_34
    · replace h := h.2 c
      refine ww_aloadQ_n dX1_fits_16 0 rfl ?_
      refine ww_iload_n dX1_fits_17 1 rfl ?_
      refine ww_iload_n dX1_fits_18 2 rfl ?_
      obtain ⟨hg, h⟩ := h
      obtain ⟨c_5, s_6, b_7, h⟩ := h
      refine wm_callV (n := 2) hM3 (tm_X1_doesFit h) rfl hg rfl (lw_V q1623 q1625 qs39 q108 q1626) ⟨by decide, by decide, by decide +kernel⟩ rfl ⟨Nat.le_of_ble_eq_true rfl, Nat.le_of_ble_eq_true rfl⟩ rfl (Nat.le_of_ble_eq_true rfl) dX1_fits_19 b_7 ?_
      clear h
      rintro _ μ_10 ws ⟨y_8, rfl, z_9, h⟩ hM4
      have hB := b_7
      refine ww_st1 ?_
      refine ww_if_eq (tgt := 29) dX1_fits_22 (by decide) (r_z z_9) (fun c => ?_) (fun c => ?_)
      · replace h := h.1 c
        refine ww_iconst dX1_fits_29 ?_
        refine ww_goto (tgt := 34) dX1_fits_30 (by decide) ?_
        exact ww_iret (ws, μ_10) rfl ⟨hM4, ⟨_, rfl, h⟩⟩ rfl hB.1 hB.2 dX1_fits_34
      · replace h := h.2 c
        refine ww_iconst dX1_fits_25 ?_
        refine ww_goto (tgt := 34) dX1_fits_26 (by decide) ?_
        exact ww_iret (ws, μ_10) rfl ⟨hM4, ⟨_, rfl, h⟩⟩ rfl hB.1 hB.2 dX1_fits_34
/-! X1_first: HoloNet first (I)I; flags (True, True, False), depth 7 -/
def wc_X1_first (ad : Nat → Nat) (mc ms : Nat) (μ : HM) (b : Nat) (a1 : Int) (P : Int → HM → Prop) : Prop :=
  gC μ b = some 1 ∧
  wc_X1_isTable ad μ b a1 (fun y_1 =>
    ((¬ y_1 = 0 →
      ∃ I12 : Nat → Int → HM → Nat → Nat → Prop, (∀ (n12 : Nat) (v2_12 : Int) (μ12 : HM) (uc12 : Nat) (us12 : Nat), I12 n12 v2_12 μ12 uc12 us12 →
        ∃ x_3 : Option Nat, gQ μ12 b 1 2 = some x_3 ∧
        ∃ a_5 : Nat, x_3 = some a_5 ∧
        ∃ x_4 : Option Nat, gQ μ12 a_5 2 2 = some x_4 ∧
        ∃ a_6 : Nat, x_4 = some a_6 ∧
        gC μ12 a_6 = some 3 ∧
        wc_X3_size ad μ12 a_6 (fun y_7 =>
          rI v2_12 ∧
          rI y_7 ∧
          ((y_7 ≤ v2_12 →
            P (-2) μ12) ∧
          (v2_12 < y_7 →
            gC μ12 b = some 1 ∧
            ∃ c_11 s_12 : Nat, (uc12 + c_11 ≤ mc ∧ us12 + s_12 ≤ ms) ∧
            wc_X1_doesFit ad c_11 s_12 μ12 b a1 v2_12 (fun y_14 μ_16 =>
              ((y_14 = 0 →
                ∃ m : Nat, m < n12 ∧ I12 m (v2_12 + 1) μ_16 (uc12 + c_11) (us12 + s_12)) ∧
              (¬ y_14 = 0 →
                P v2_12 μ_16))))))) ∧
      ∃ m : Nat, I12 m 0 μ 0 0) ∧
    (y_1 = 0 →
      P (-1) μ)))
set_option maxHeartbeats 4000000 in
theorem tm_X1_first {G : g_G} {l : Launch} {mc ms : Nat} {μ : HM} {b : Nat} {a1 : Int} {P : Int → HM → Prop} (h : wc_X1_first (g_ad G) mc ms μ b a1 P) : CM G l yX1_first cX1_first 3 (Option.some Jvm.ClassFile.FieldType.int) 7 mc ms [.ref b, vI a1] μ (hR1 P) := by
  unfold wc_X1_first at h
  refine wm_of (lvs := [(0, va_rf (some b)), (1, vI a1)]) (by decide) (Nat.le_of_ble_eq_true rfl) rfl (fun fr ws hM1 => ?_)
  show WW G l cX1_first RX1 3 (Option.some Jvm.ClassFile.FieldType.int) "first" 7 mc ms (hMR G (hR1 P)) (fun u => [u.1, fr]) 0 0 [ws, fr] 0 [(0, va_rf (some b)), (1, vI a1)] []
  have hB : 0 ≤ mc ∧ 0 ≤ ms := ⟨Nat.zero_le _, Nat.zero_le _⟩
  refine ww_aloadQ_n dX1_first_0 0 rfl ?_
  refine ww_iload_n dX1_first_1 1 rfl ?_
  obtain ⟨hg, h⟩ := h
  refine wm_callV (n := 1) hM1 (tm_X1_isTable h) rfl hg rfl (lw_V q1503 q1505 qs29 q108 q1506) ⟨by decide, by decide, by decide +kernel⟩ rfl ⟨Nat.le_of_ble_eq_true rfl, Nat.le_of_ble_eq_true rfl⟩ rfl (Nat.le_of_ble_eq_true rfl) dX1_first_2 hB ?_
  clear h
  rintro _ _ ws ⟨rfl, y_1, rfl, z_2, h⟩ hM2
  refine ww_st1 ?_
  refine ww_if_ne (tgt := 10) dX1_first_5 (by decide) (r_z z_2) (fun c => ?_) (fun c => ?_)
  · replace h := h.1 c
    refine ww_iconst dX1_first_10 ?_
    refine ww_istore_n (i := 2) (lv2 := [(2, vI 0), (0, va_rf (some b)), (1, vI a1)]) dX1_first_11 rfl (Nat.le_of_ble_eq_true rfl) rfl ?_
    obtain ⟨I12, hI12, h⟩ := h
    have kI12 : ∀ (n12 : Nat), ∀ (v2_12 : Int), ∀ (μ12 : HM), ∀ (uc12 : Nat), ∀ (us12 : Nat), I12 n12 v2_12 μ12 uc12 us12 → ∀ ws : va_W, Mrep G ws μ12 → (uc12 ≤ mc ∧ us12 ≤ ms) → WW G l cX1_first RX1 3 (Option.some Jvm.ClassFile.FieldType.int) "first" 7 mc ms (hMR G (hR1 P)) (fun u => [u.1, fr]) uc12 us12 [ws, fr] 12 [(0, va_rf (some b)), (1, vI a1), (2, vI v2_12)] [] := by
      clear h
      intro n12
      induction n12 using Nat.strongRecOn with
      | ind n12 ih12 =>
        intro v2_12 μ12 uc12 us12 hj ws hM3 hB
        have h := hI12 n12 v2_12 μ12 uc12 us12 hj
        refine ww_iload_n dX1_first_12 2 rfl ?_
        refine ww_aloadQ_n dX1_first_13 0 rfl ?_
        obtain ⟨x_3, hx, h⟩ := h
        refine wm_getQ hM3 rfl in_X1 (ci := 1) rfl (by decide) 2 (Nat.le_of_ble_eq_true rfl) hx (fun _ _ => rfl) q319 (fun _ _ h => h) dX1_first_14 ?_
        obtain ⟨a_5, ea_5, h⟩ := h
        subst ea_5
        obtain ⟨x_4, hx, h⟩ := h
        refine wm_getQN hM3 rfl in_X2 (ci := 2) rfl (by decide) 2 (Nat.le_of_ble_eq_true rfl) hx (fun _ _ => rfl) q264 (fun _ _ h => h) dX1_first_17 ?_
        obtain ⟨a_6, ea_6, h⟩ := h
        subst ea_6
        obtain ⟨hg, h⟩ := h
        refine wm_callV (n := 0) hM3 (tm_X3_size h) rfl hg rfl (lw_V q1631 q1140 q1141 q110 q1142) ⟨by decide, by decide, by decide +kernel⟩ rfl ⟨Nat.le_of_ble_eq_true rfl, Nat.le_of_ble_eq_true rfl⟩ rfl (Nat.le_of_ble_eq_true rfl) dX1_first_20 hB ?_
        clear h
        rintro _ _ ws ⟨rfl, y_7, rfl, h⟩ hM4
        refine ww_st1 ?_
        obtain ⟨r_9, r_10, h⟩ := h
        refine ww_icmp_ge (tgt := 43) dX1_first_23 (by decide) r_9 r_10 (fun c => ?_) (fun c => ?_)
        · replace h := h.1 c
          refine ww_bipush (v := (-2)) dX1_first_43 rfl ?_
          exact ww_iret (ws, μ12) rfl ⟨hM4, ⟨_, rfl, h⟩⟩ rfl hB.1 hB.2 dX1_first_45
        · replace h := h.2 (Int.not_le.mp c)
          refine ww_aloadQ_n dX1_first_26 0 rfl ?_
          refine ww_iload_n dX1_first_27 1 rfl ?_
          refine ww_iload_n dX1_first_28 2 rfl ?_
          obtain ⟨hg, h⟩ := h
          obtain ⟨c_11, s_12, b_13, h⟩ := h
          refine wm_callV (n := 2) hM4 (tm_X1_doesFit h) rfl hg rfl (lw_V q1623 q1625 qs39 q108 q1626) ⟨by decide, by decide, by decide +kernel⟩ rfl ⟨Nat.le_of_ble_eq_true rfl, Nat.le_of_ble_eq_true rfl⟩ rfl (Nat.le_of_ble_eq_true rfl) dX1_first_29 b_13 ?_
          clear h
          rintro _ μ_16 ws ⟨y_14, rfl, z_15, h⟩ hM5
          have hB := b_13
          refine ww_st1 ?_
          refine ww_if_eq (tgt := 37) dX1_first_32 (by decide) (r_z z_15) (fun c => ?_) (fun c => ?_)
          · replace h := h.1 c
            refine ww_iinc (lv2 := [(2, vI (v2_12 + 1)), (0, va_rf (some b)), (1, vI a1)]) dX1_first_37 2 rfl (Nat.le_of_ble_eq_true rfl) rfl ?_
            refine ww_goto (tgt := 12) dX1_first_40 (by decide) ?_
            refine ww_lv [1, 2, 0] rfl ?_
            obtain ⟨m, hm, h⟩ := h
            exact ih12 m hm _ _ _ _ h _ hM5 hB
          · replace h := h.2 c
            refine ww_iload_n dX1_first_35 2 rfl ?_
            exact ww_iret (ws, μ_16) rfl ⟨hM5, ⟨_, rfl, h⟩⟩ rfl hB.1 hB.2 dX1_first_36
    refine ww_lv [1, 2, 0] rfl ?_
    obtain ⟨m, h⟩ := h
    exact kI12 m _ _ _ _ h _ hM2 hB
  · replace h := h.2 c
    refine ww_iconst dX1_first_8 ?_
    exact ww_iret (ws, μ) rfl ⟨hM2, ⟨_, rfl, h⟩⟩ rfl hB.1 hB.2 dX1_first_9
/-! X1_seek: HoloNet seek (I)I; flags (True, True, False), depth 5 -/
def wc_X1_seek (ad : Nat → Nat) (mc ms : Nat) (μ : HM) (b : Nat) (a1 : Int) (P : Int → HM → Prop) : Prop :=
  gC μ b = some 1 ∧
  wc_X1_isTable ad μ b a1 (fun y_1 =>
    ((¬ y_1 = 0 →
      ∃ I12 : Nat → Int → HM → Nat → Nat → Prop, (∀ (n12 : Nat) (v2_12 : Int) (μ12 : HM) (uc12 : Nat) (us12 : Nat), I12 n12 v2_12 μ12 uc12 us12 →
        ∃ x_3 : Option Nat, gQ μ12 b 1 2 = some x_3 ∧
        ∃ a_5 : Nat, x_3 = some a_5 ∧
        ∃ x_4 : Int, gI μ12 a_5 2 0 = some x_4 ∧
        rI v2_12 ∧
        rI x_4 ∧
        ((x_4 ≤ v2_12 →
          P (-2) μ12) ∧
        (v2_12 < x_4 →
          ∃ I25 : Nat → Int → HM → Nat → Nat → Prop, (∀ (n25 : Nat) (v3_25 : Int) (μ25 : HM) (uc25 : Nat) (us25 : Nat), I25 n25 v3_25 μ25 uc25 us25 →
            ∃ x_8 : Option Nat, gQ μ25 b 1 2 = some x_8 ∧
            ∃ a_10 : Nat, x_8 = some a_10 ∧
            ∃ x_9 : Int, gI μ25 a_10 2 0 = some x_9 ∧
            rI v3_25 ∧
            rI x_9 ∧
            ((x_9 ≤ v3_25 →
              ∃ m : Nat, m < n12 ∧ I12 m (v2_12 + 1) μ25 uc25 us25) ∧
            (v3_25 < x_9 →
              rI v2_12 ∧
              rI v3_25 ∧
              ∃ J84 : HM → Nat → Nat → Prop, (∀ (μ84 : HM) (uc84 : Nat) (us84 : Nat), J84 μ84 uc84 us84 →
                ∃ m : Nat, m < n25 ∧ I25 m (v3_25 + 1) μ84 uc84 us84) ∧
              ((¬ v2_12 = v3_25 →
                gC μ25 b = some 1 ∧
                wc_X1_at ad μ25 b a1 (fun y_15 =>
                  gC μ25 b = some 1 ∧
                  wc_X1_lays_2 ad μ25 b y_15 1 1 v2_12 v3_25 (fun y_17 μ_19 =>
                    ∃ x_20 : Option Nat, gQ μ_19 b 1 6 = some x_20 ∧
                    gC μ_19 b = some 1 ∧
                    ∃ c_21 s_22 : Nat, (uc25 + c_21 ≤ mc ∧ us25 + s_22 ≤ ms) ∧
                    wc_X1_isMade ad c_21 s_22 μ_19 b x_20 y_17 (fun y_24 μ_26 =>
                      ((y_24 = 0 →
                        J84 μ_26 (uc25 + c_21) (us25 + s_22)) ∧
                      (¬ y_24 = 0 →
                        ∃ x_27 : Option Nat, gQ μ_26 b 1 2 = some x_27 ∧
                        ∃ a_29 : Nat, x_27 = some a_29 ∧
                        ∃ x_28 : Int, gI μ_26 a_29 2 0 = some x_28 ∧
                        P ((x_28 * v2_12) + v3_25) μ_26)))))) ∧
              (v2_12 = v3_25 →
                J84 μ25 uc25 us25))))) ∧
          ∃ m : Nat, I25 m 0 μ12 uc12 us12))) ∧
      ∃ m : Nat, I12 m 0 μ 0 0) ∧
    (y_1 = 0 →
      P (-1) μ)))
set_option maxHeartbeats 4000000 in
theorem tm_X1_seek {G : g_G} {l : Launch} {mc ms : Nat} {μ : HM} {b : Nat} {a1 : Int} {P : Int → HM → Prop} (h : wc_X1_seek (g_ad G) mc ms μ b a1 P) : CM G l yX1_seek cX1_seek 5 (Option.some Jvm.ClassFile.FieldType.int) 5 mc ms [.ref b, vI a1] μ (hR1 P) := by
  unfold wc_X1_seek at h
  refine wm_of (lvs := [(0, va_rf (some b)), (1, vI a1)]) (by decide) (Nat.le_of_ble_eq_true rfl) rfl (fun fr ws hM1 => ?_)
  show WW G l cX1_seek RX1 5 (Option.some Jvm.ClassFile.FieldType.int) "seek" 5 mc ms (hMR G (hR1 P)) (fun u => [u.1, fr]) 0 0 [ws, fr] 0 [(0, va_rf (some b)), (1, vI a1)] []
  have hB : 0 ≤ mc ∧ 0 ≤ ms := ⟨Nat.zero_le _, Nat.zero_le _⟩
  refine ww_aloadQ_n dX1_seek_0 0 rfl ?_
  refine ww_iload_n dX1_seek_1 1 rfl ?_
  obtain ⟨hg, h⟩ := h
  refine wm_callV (n := 1) hM1 (tm_X1_isTable h) rfl hg rfl (lw_V q1503 q1505 qs29 q108 q1506) ⟨by decide, by decide, by decide +kernel⟩ rfl ⟨Nat.le_of_ble_eq_true rfl, Nat.le_of_ble_eq_true rfl⟩ rfl (Nat.le_of_ble_eq_true rfl) dX1_seek_2 hB ?_
  clear h
  rintro _ _ ws ⟨rfl, y_1, rfl, z_2, h⟩ hM2
  refine ww_st1 ?_
  refine ww_if_ne (tgt := 10) dX1_seek_5 (by decide) (r_z z_2) (fun c => ?_) (fun c => ?_)
  · replace h := h.1 c
    refine ww_iconst dX1_seek_10 ?_
    refine ww_istore_n (i := 2) (lv2 := [(2, vI 0), (0, va_rf (some b)), (1, vI a1)]) dX1_seek_11 rfl (Nat.le_of_ble_eq_true rfl) rfl ?_
    obtain ⟨I12, hI12, h⟩ := h
    have kI12 : ∀ (n12 : Nat), ∀ (v2_12 : Int), ∀ (μ12 : HM), ∀ (uc12 : Nat), ∀ (us12 : Nat), I12 n12 v2_12 μ12 uc12 us12 → ∀ ws : va_W, Mrep G ws μ12 → (uc12 ≤ mc ∧ us12 ≤ ms) → WW G l cX1_seek RX1 5 (Option.some Jvm.ClassFile.FieldType.int) "seek" 5 mc ms (hMR G (hR1 P)) (fun u => [u.1, fr]) uc12 us12 [ws, fr] 12 [(0, va_rf (some b)), (1, vI a1), (2, vI v2_12)] [] := by
      clear h
      intro n12
      induction n12 using Nat.strongRecOn with
      | ind n12 ih12 =>
        intro v2_12 μ12 uc12 us12 hj ws hM3 hB
        have h := hI12 n12 v2_12 μ12 uc12 us12 hj
        refine ww_iload_n dX1_seek_12 2 rfl ?_
        refine ww_aloadQ_n dX1_seek_13 0 rfl ?_
        obtain ⟨x_3, hx, h⟩ := h
        refine wm_getQ hM3 rfl in_X1 (ci := 1) rfl (by decide) 2 (Nat.le_of_ble_eq_true rfl) hx (fun _ _ => rfl) q319 (fun _ _ h => h) dX1_seek_14 ?_
        obtain ⟨a_5, ea_5, h⟩ := h
        subst ea_5
        obtain ⟨x_4, hx, h⟩ := h
        refine wm_getIN hM3 rfl in_X2 (ci := 2) rfl (by decide) 0 (Nat.le_of_ble_eq_true rfl) hx (fun _ _ => rfl) q259 (fun _ _ h => h) dX1_seek_17 ?_
        obtain ⟨r_6, r_7, h⟩ := h
        refine ww_icmp_ge (tgt := 96) dX1_seek_20 (by decide) r_6 r_7 (fun c => ?_) (fun c => ?_)
        · replace h := h.1 c
          refine ww_bipush (v := (-2)) dX1_seek_96 rfl ?_
          exact ww_iret (ws, μ12) rfl ⟨hM3, ⟨_, rfl, h⟩⟩ rfl hB.1 hB.2 dX1_seek_98
        · replace h := h.2 (Int.not_le.mp c)
          refine ww_iconst dX1_seek_23 ?_
          refine ww_istore_n (i := 3) (lv2 := [(3, vI 0), (0, va_rf (some b)), (1, vI a1), (2, vI v2_12)]) dX1_seek_24 rfl (Nat.le_of_ble_eq_true rfl) rfl ?_
          obtain ⟨I25, hI25, h⟩ := h
          have kI25 : ∀ (n25 : Nat), ∀ (v3_25 : Int), ∀ (μ25 : HM), ∀ (uc25 : Nat), ∀ (us25 : Nat), I25 n25 v3_25 μ25 uc25 us25 → ∀ ws : va_W, Mrep G ws μ25 → (uc25 ≤ mc ∧ us25 ≤ ms) → WW G l cX1_seek RX1 5 (Option.some Jvm.ClassFile.FieldType.int) "seek" 5 mc ms (hMR G (hR1 P)) (fun u => [u.1, fr]) uc25 us25 [ws, fr] 25 [(0, va_rf (some b)), (1, vI a1), (2, vI v2_12), (3, vI v3_25)] [] := by
            clear h
            intro n25
            induction n25 using Nat.strongRecOn with
            | ind n25 ih25 =>
              intro v3_25 μ25 uc25 us25 hj ws hM4 hB
              have h := hI25 n25 v3_25 μ25 uc25 us25 hj
              refine ww_iload_n dX1_seek_25 3 rfl ?_
              refine ww_aloadQ_n dX1_seek_26 0 rfl ?_
              obtain ⟨x_8, hx, h⟩ := h
              refine wm_getQ hM4 rfl in_X1 (ci := 1) rfl (by decide) 2 (Nat.le_of_ble_eq_true rfl) hx (fun _ _ => rfl) q319 (fun _ _ h => h) dX1_seek_27 ?_
              obtain ⟨a_10, ea_10, h⟩ := h
              subst ea_10
              obtain ⟨x_9, hx, h⟩ := h
              refine wm_getIN hM4 rfl in_X2 (ci := 2) rfl (by decide) 0 (Nat.le_of_ble_eq_true rfl) hx (fun _ _ => rfl) q259 (fun _ _ h => h) dX1_seek_30 ?_
              obtain ⟨r_11, r_12, h⟩ := h
              refine ww_icmp_ge (tgt := 90) dX1_seek_33 (by decide) r_11 r_12 (fun c => ?_) (fun c => ?_)
              · replace h := h.1 c
                refine ww_iinc (lv2 := [(2, vI (v2_12 + 1)), (0, va_rf (some b)), (1, vI a1), (3, vI v3_25)]) dX1_seek_90 2 rfl (Nat.le_of_ble_eq_true rfl) rfl ?_
                refine ww_goto (tgt := 12) dX1_seek_93 (by decide) ?_
                refine ww_lv [1, 2, 0] rfl ?_
                obtain ⟨m, hm, h⟩ := h
                exact ih12 m hm _ _ _ _ h _ hM4 hB
              · replace h := h.2 (Int.not_le.mp c)
                refine ww_iload_n dX1_seek_36 2 rfl ?_
                refine ww_iload_n dX1_seek_37 3 rfl ?_
                obtain ⟨r_13, r_14, h⟩ := h
                obtain ⟨J84, hJ84, h⟩ := h
                have kJ84 : ∀ (μ84 : HM), ∀ (uc84 : Nat), ∀ (us84 : Nat), J84 μ84 uc84 us84 → ∀ ws : va_W, Mrep G ws μ84 → (uc84 ≤ mc ∧ us84 ≤ ms) → WW G l cX1_seek RX1 5 (Option.some Jvm.ClassFile.FieldType.int) "seek" 5 mc ms (hMR G (hR1 P)) (fun u => [u.1, fr]) uc84 us84 [ws, fr] 84 [(0, va_rf (some b)), (1, vI a1), (2, vI v2_12), (3, vI v3_25)] [] := by
                  clear h
                  intro μ84 uc84 us84 hj ws hM5 hB
                  have h := hJ84 μ84 uc84 us84 hj
                  refine ww_iinc (lv2 := [(3, vI (v3_25 + 1)), (0, va_rf (some b)), (1, vI a1), (2, vI v2_12)]) dX1_seek_84 3 rfl (Nat.le_of_ble_eq_true rfl) rfl ?_
                  refine ww_goto (tgt := 25) dX1_seek_87 (by decide) ?_
                  refine ww_lv [1, 2, 3, 0] rfl ?_
                  obtain ⟨m, hm, h⟩ := h
                  exact ih25 m hm _ _ _ _ h _ hM5 hB
                refine ww_icmp_ne (tgt := 44) dX1_seek_38 (by decide) r_13 r_14 (fun c => ?_) (fun c => ?_)
                · replace h := h.1 c
                  refine ww_aloadQ_n dX1_seek_44 0 rfl ?_
                  refine ww_aloadQ_n dX1_seek_45 0 rfl ?_
                  refine ww_iload_n dX1_seek_46 1 rfl ?_
                  obtain ⟨hg, h⟩ := h
                  refine wm_callV (n := 1) hM4 (tm_X1_at h) rfl hg rfl (lw_V q1512 q1514 qs30 q108 q1515) ⟨by decide, by decide, by decide +kernel⟩ rfl ⟨Nat.le_of_ble_eq_true rfl, Nat.le_of_ble_eq_true rfl⟩ rfl (by simp only [List.map_cons, List.map_nil, rf_cat, vI_cat, vL_cat, List.sum_cons, List.sum_nil]; decide) dX1_seek_47 hB ?_
                  clear h
                  rintro _ _ ws ⟨rfl, y_15, rfl, h⟩ hM6
                  refine ww_st1 ?_
                  refine ww_iconst dX1_seek_50 ?_
                  refine ww_iconst dX1_seek_51 ?_
                  refine ww_iload_n dX1_seek_52 2 rfl ?_
                  refine ww_iload_n dX1_seek_53 3 rfl ?_
                  obtain ⟨hg, h⟩ := h
                  refine wm_callV (n := 5) hM6 (tm_X1_lays_2 h) rfl hg rfl (lw_V q1610 q1612 qs37 q108 q1613) ⟨by decide, by decide, by decide +kernel⟩ rfl ⟨Nat.le_of_ble_eq_true rfl, Nat.le_of_ble_eq_true rfl⟩ rfl (Nat.le_of_ble_eq_true rfl) dX1_seek_54 hB ?_
                  clear h
                  rintro _ μ_19 ws ⟨y_17, rfl, h⟩ hM7
                  refine ww_st1 ?_
                  refine ww_istore (i := 4) (lv2 := [(4, vI y_17), (0, va_rf (some b)), (1, vI a1), (2, vI v2_12), (3, vI v3_25)]) dX1_seek_57 (Nat.le_of_ble_eq_true rfl) rfl ?_
                  refine ww_aloadQ_n dX1_seek_59 1 rfl ?_
                  refine ww_aloadQ_n dX1_seek_60 1 rfl ?_
                  obtain ⟨x_20, hx, h⟩ := h
                  refine wm_getQ hM7 rfl in_X1 (ci := 1) rfl (by decide) 6 (Nat.le_of_ble_eq_true rfl) hx (fun _ _ => rfl) q325 (fun _ _ h => h) dX1_seek_61 ?_
                  refine ww_iload dX1_seek_64 0 rfl ?_
                  obtain ⟨hg, h⟩ := h
                  obtain ⟨c_21, s_22, b_23, h⟩ := h
                  refine wm_callV (n := 2) hM7 (tm_X1_isMade h) rfl hg rfl (lw_V q1541 q1543 qs32 q108 q1544) ⟨by decide, by decide, by decide +kernel⟩ rfl ⟨Nat.le_of_ble_eq_true rfl, Nat.le_of_ble_eq_true rfl⟩ rfl (Nat.le_of_ble_eq_true rfl) dX1_seek_66 b_23 ?_
                  clear h
                  rintro _ μ_26 ws ⟨y_24, rfl, z_25, h⟩ hM8
                  have hB := b_23
                  refine ww_st1 ?_
                  refine ww_if_eq (tgt := 84) dX1_seek_69 (by decide) (r_z z_25) (fun c => ?_) (fun c => ?_)
                  · replace h := h.1 c
                    refine ww_lv [1, 2, 3, 4] rfl ?_
                    exact kJ84 _ _ _ h _ hM8 hB
                  · replace h := h.2 c
                    refine ww_aloadQ_n dX1_seek_72 1 rfl ?_
                    obtain ⟨x_27, hx, h⟩ := h
                    refine wm_getQ hM8 rfl in_X1 (ci := 1) rfl (by decide) 2 (Nat.le_of_ble_eq_true rfl) hx (fun _ _ => rfl) q319 (fun _ _ h => h) dX1_seek_73 ?_
                    obtain ⟨a_29, ea_29, h⟩ := h
                    subst ea_29
                    obtain ⟨x_28, hx, h⟩ := h
                    refine wm_getIN hM8 rfl in_X2 (ci := 2) rfl (by decide) 0 (Nat.le_of_ble_eq_true rfl) hx (fun _ _ => rfl) q259 (fun _ _ h => h) dX1_seek_76 ?_
                    refine ww_iload_n dX1_seek_79 3 rfl ?_
                    refine ww_imul dX1_seek_80 ?_
                    refine ww_iload_n dX1_seek_81 4 rfl ?_
                    refine ww_iadd dX1_seek_82 ?_
                    exact ww_iret (ws, μ_26) rfl ⟨hM8, ⟨_, rfl, h⟩⟩ rfl hB.1 hB.2 dX1_seek_83
                · replace h := h.2 c
                  refine ww_goto (tgt := 84) dX1_seek_41 (by decide) ?_
                  exact kJ84 _ _ _ h _ hM4 hB
          refine ww_lv [1, 2, 3, 0] rfl ?_
          obtain ⟨m, h⟩ := h
          exact kI25 m _ _ _ _ h _ hM3 hB
    refine ww_lv [1, 2, 0] rfl ?_
    obtain ⟨m, h⟩ := h
    exact kI12 m _ _ _ _ h _ hM2 hB
  · replace h := h.2 c
    refine ww_iconst dX1_seek_8 ?_
    exact ww_iret (ws, μ) rfl ⟨hM2, ⟨_, rfl, h⟩⟩ rfl hB.1 hB.2 dX1_seek_9
/-! X1_isNode: HoloNet isNode (I)Z; flags (False, False, False), depth 3 -/
def wc_X1_isNode (ad : Nat → Nat) (μ : HM) (b : Nat) (a1 : Int) (P : Int → Prop) : Prop :=
  ∃ x_1 : Option Nat, gQ μ b 1 2 = some x_1 ∧
  ∃ a_3 : Nat, x_1 = some a_3 ∧
  ∃ x_2 : Option Nat, gQ μ a_3 2 3 = some x_2 ∧
  wc_X3_isPlace ad μ x_2 a1 (fun y_4 =>
    (y_4 = 0 ∨ y_4 = 1) ∧ P y_4)
set_option maxHeartbeats 4000000 in
theorem tm_X1_isNode {G : g_G} {l : Launch} {μ : HM} {b : Nat} {a1 : Int} {P : Int → Prop} (h : wc_X1_isNode (g_ad G) μ b a1 P) : CM G l yX1_isNode cX1_isNode 2 (Option.some Jvm.ClassFile.FieldType.boolean) 3 0 0 [.ref b, vI a1] μ (hN2 μ P) := by
  unfold wc_X1_isNode at h
  refine wm_of (lvs := [(0, va_rf (some b)), (1, vI a1)]) (by decide) (Nat.le_of_ble_eq_true rfl) rfl (fun fr ws hM1 => ?_)
  show WW G l cX1_isNode RX1 2 (Option.some Jvm.ClassFile.FieldType.boolean) "isNode" 3 0 0 (hMR G (hN2 μ P)) (fun u => [u.1, fr]) 0 0 [ws, fr] 0 [(0, va_rf (some b)), (1, vI a1)] []
  refine ww_aloadQ_n dX1_isNode_0 0 rfl ?_
  obtain ⟨x_1, hx, h⟩ := h
  refine wm_getQ hM1 rfl in_X1 (ci := 1) rfl (by decide) 2 (Nat.le_of_ble_eq_true rfl) hx (fun _ _ => rfl) q319 (fun _ _ h => h) dX1_isNode_1 ?_
  obtain ⟨a_3, ea_3, h⟩ := h
  subst ea_3
  obtain ⟨x_2, hx, h⟩ := h
  refine wm_getQN hM1 rfl in_X2 (ci := 2) rfl (by decide) 3 (Nat.le_of_ble_eq_true rfl) hx (fun _ _ => rfl) q268 (fun _ _ h => h) dX1_isNode_4 ?_
  refine ww_iload_n dX1_isNode_7 1 rfl ?_
  refine wm_callS (n := 2) hM1 (tm_X3_isPlace h) (lw_S q1507 q1508 q110 q1509) ⟨by decide, by decide, by decide +kernel⟩ rfl ⟨Nat.le_of_ble_eq_true rfl, Nat.le_of_ble_eq_true rfl⟩ rfl (Nat.le_of_ble_eq_true rfl) dX1_isNode_8 ⟨Nat.le_refl _, Nat.le_refl _⟩ ?_
  clear h
  rintro _ _ ws ⟨rfl, y_4, rfl, z_5, h⟩ hM2
  refine ww_st1 ?_
  obtain ⟨hz, h⟩ := h
  exact ww_zret (ws, μ) rfl hz ⟨hM2, ⟨rfl, _, rfl, hz, h⟩⟩ rfl (Nat.le_refl _) (Nat.le_refl _) dX1_isNode_11
/-! X1_legs: HoloNet legs (I)I; flags (False, False, False), depth 4 -/
def wc_X1_legs (ad : Nat → Nat) (μ : HM) (b : Nat) (a1 : Int) (P : Int → Prop) : Prop :=
  ∃ x_1 : Option Nat, gQ μ b 1 2 = some x_1 ∧
  ∃ a_3 : Nat, x_1 = some a_3 ∧
  ∃ x_2 : Option Nat, gQ μ a_3 2 3 = some x_2 ∧
  ∃ a_4 : Nat, x_2 = some a_4 ∧
  gC μ a_4 = some 3 ∧
  wc_X3_get ad μ a_4 a1 (fun y_5 =>
    (∀ z : Nat, y_5 = some z → ∃ ci, gC μ z = some ci ∧ (ci = 9)) ∧
    ∃ a_8 : Nat, y_5 = some a_8 ∧
    ∃ x_7 : Option Nat, gQ μ a_8 9 2 = some x_7 ∧
    ∃ a_10 : Nat, x_7 = some a_10 ∧
    ∃ x_9 : Int, gI μ a_10 7 2 = some x_9 ∧
    P x_9)
set_option maxHeartbeats 4000000 in
theorem tm_X1_legs {G : g_G} {l : Launch} {μ : HM} {b : Nat} {a1 : Int} {P : Int → Prop} (h : wc_X1_legs (g_ad G) μ b a1 P) : CM G l yX1_legs cX1_legs 2 (Option.some Jvm.ClassFile.FieldType.int) 4 0 0 [.ref b, vI a1] μ (hN1 μ P) := by
  unfold wc_X1_legs at h
  refine wm_of (lvs := [(0, va_rf (some b)), (1, vI a1)]) (by decide) (Nat.le_of_ble_eq_true rfl) rfl (fun fr ws hM1 => ?_)
  show WW G l cX1_legs RX1 2 (Option.some Jvm.ClassFile.FieldType.int) "legs" 4 0 0 (hMR G (hN1 μ P)) (fun u => [u.1, fr]) 0 0 [ws, fr] 0 [(0, va_rf (some b)), (1, vI a1)] []
  refine ww_aloadQ_n dX1_legs_0 0 rfl ?_
  obtain ⟨x_1, hx, h⟩ := h
  refine wm_getQ hM1 rfl in_X1 (ci := 1) rfl (by decide) 2 (Nat.le_of_ble_eq_true rfl) hx (fun _ _ => rfl) q319 (fun _ _ h => h) dX1_legs_1 ?_
  obtain ⟨a_3, ea_3, h⟩ := h
  subst ea_3
  obtain ⟨x_2, hx, h⟩ := h
  refine wm_getQN hM1 rfl in_X2 (ci := 2) rfl (by decide) 3 (Nat.le_of_ble_eq_true rfl) hx (fun _ _ => rfl) q268 (fun _ _ h => h) dX1_legs_4 ?_
  refine ww_iload_n dX1_legs_7 1 rfl ?_
  obtain ⟨a_4, ea_4, h⟩ := h
  subst ea_4
  obtain ⟨hg, h⟩ := h
  refine wm_callV (n := 1) hM1 (tm_X3_get h) rfl hg rfl (lw_V q1516 q1405 q1406 q110 q1407) ⟨by decide, by decide, by decide +kernel⟩ rfl ⟨Nat.le_of_ble_eq_true rfl, Nat.le_of_ble_eq_true rfl⟩ rfl (Nat.le_of_ble_eq_true rfl) dX1_legs_8 ⟨Nat.le_refl _, Nat.le_refl _⟩ ?_
  clear h
  rintro _ _ ws ⟨rfl, y_5, rfl, h⟩ hM2
  refine ww_st1 ?_
  obtain ⟨hc, h⟩ := h
  refine wm_cast hM2 hc cast_5 q1648 dX1_legs_11 ?_
  obtain ⟨a_8, ea_8, h⟩ := h
  subst ea_8
  obtain ⟨x_7, hx, h⟩ := h
  refine wm_getQN hM2 rfl in_X12 (ci := 9) rfl (by decide) 2 (Nat.le_of_ble_eq_true rfl) hx (fun _ _ => rfl) q1428 (fun _ _ h => h) dX1_legs_14 ?_
  obtain ⟨a_10, ea_10, h⟩ := h
  subst ea_10
  obtain ⟨x_9, hx, h⟩ := h
  refine wm_getIN hM2 rfl in_X9 (ci := 7) rfl (by decide) 2 (Nat.le_of_ble_eq_true rfl) hx (fun _ _ => rfl) q1152 (fun _ _ h => h) dX1_legs_17 ?_
  exact ww_iret (ws, μ) rfl ⟨hM2, ⟨rfl, _, rfl, h⟩⟩ rfl (Nat.le_refl _) (Nat.le_refl _) dX1_legs_20
/-! X1_node: HoloNet node (II)I; flags (False, False, False), depth 5 -/
def wc_X1_node (ad : Nat → Nat) (μ : HM) (b : Nat) (a1 : Int) (a2 : Int) (P : Int → Prop) : Prop :=
  gC μ b = some 1 ∧
  wc_X1_isNode ad μ b a1 (fun y_1 =>
    ((¬ y_1 = 0 →
      rI a2 ∧
      ((¬ a2 = (-1) →
        rI a2 ∧
        ∃ x_5 : Option Nat, gQ μ b 1 3 = some x_5 ∧
        ∃ a_7 : Nat, x_5 = some a_7 ∧
        ∃ x_6 : Option Nat, gQ μ a_7 4 0 = some x_6 ∧
        ∃ a_8 : Nat, x_6 = some a_8 ∧
        ∃ x_9 : Option Nat, gR μ a_8 6 a1 = some x_9 ∧
        ∃ a_10 : Nat, x_9 = some a_10 ∧
        ∃ n_11 : Nat, gL μ a_10 = some n_11 ∧
        rI ((n_11 : Int) - 1) ∧
        wc_X1_within ad μ a2 0 ((n_11 : Int) - 1) (fun y_13 =>
          ((y_13 = 0 →
            P (-2)) ∧
          (¬ y_13 = 0 →
            ∃ x_15 : Option Nat, gQ μ b 1 3 = some x_15 ∧
            ∃ a_17 : Nat, x_15 = some a_17 ∧
            ∃ x_16 : Option Nat, gQ μ a_17 4 0 = some x_16 ∧
            ∃ a_18 : Nat, x_16 = some a_18 ∧
            ∃ x_19 : Option Nat, gR μ a_18 6 a1 = some x_19 ∧
            ∃ a_20 : Nat, x_19 = some a_20 ∧
            ∃ x_21 : Int, gA μ a_20 0 a2 = some x_21 ∧
            P x_21)))) ∧
      (a2 = (-1) →
        gC μ b = some 1 ∧
        wc_X1_legs ad μ b a1 (fun y_22 =>
          P y_22)))) ∧
    (y_1 = 0 →
      P (-2))))
set_option maxHeartbeats 4000000 in
theorem tm_X1_node {G : g_G} {l : Launch} {μ : HM} {b : Nat} {a1 : Int} {a2 : Int} {P : Int → Prop} (h : wc_X1_node (g_ad G) μ b a1 a2 P) : CM G l yX1_node cX1_node 3 (Option.some Jvm.ClassFile.FieldType.int) 5 0 0 [.ref b, vI a1, vI a2] μ (hN1 μ P) := by
  unfold wc_X1_node at h
  refine wm_of (lvs := [(0, va_rf (some b)), (1, vI a1), (2, vI a2)]) (by decide) (Nat.le_of_ble_eq_true rfl) rfl (fun fr ws hM1 => ?_)
  show WW G l cX1_node RX1 3 (Option.some Jvm.ClassFile.FieldType.int) "node" 5 0 0 (hMR G (hN1 μ P)) (fun u => [u.1, fr]) 0 0 [ws, fr] 0 [(0, va_rf (some b)), (1, vI a1), (2, vI a2)] []
  refine ww_aloadQ_n dX1_node_0 0 rfl ?_
  refine ww_iload_n dX1_node_1 1 rfl ?_
  obtain ⟨hg, h⟩ := h
  refine wm_callV (n := 1) hM1 (tm_X1_isNode h) rfl hg rfl (lw_V q1640 q1642 qs40 q108 q1643) ⟨by decide, by decide, by decide +kernel⟩ rfl ⟨Nat.le_of_ble_eq_true rfl, Nat.le_of_ble_eq_true rfl⟩ rfl (Nat.le_of_ble_eq_true rfl) dX1_node_2 ⟨Nat.le_refl _, Nat.le_refl _⟩ ?_
  clear h
  rintro _ _ ws ⟨rfl, y_1, rfl, z_2, h⟩ hM2
  refine ww_st1 ?_
  refine ww_if_ne (tgt := 11) dX1_node_5 (by decide) (r_z z_2) (fun c => ?_) (fun c => ?_)
  · replace h := h.1 c
    refine ww_iload_n dX1_node_11 2 rfl ?_
    refine ww_iconst dX1_node_12 ?_
    obtain ⟨r_3, h⟩ := h
    refine ww_icmp_ne (tgt := 24) dX1_node_13 (by decide) r_3 (by decide) (fun c => ?_) (fun c => ?_)
    · replace h := h.1 c
      refine ww_iload_n dX1_node_24 2 rfl ?_
      obtain ⟨r_4, h⟩ := h
      refine ww_i2l dX1_node_25 r_4 ?_
      refine ww_lconst (v := 0) dX1_node_26 rfl ?_
      refine ww_aloadQ_n dX1_node_27 0 rfl ?_
      obtain ⟨x_5, hx, h⟩ := h
      refine wm_getQ hM2 rfl in_X1 (ci := 1) rfl (by decide) 3 (Nat.le_of_ble_eq_true rfl) hx (fun _ _ => rfl) q322 (fun _ _ h => h) dX1_node_28 ?_
      obtain ⟨a_7, ea_7, h⟩ := h
      subst ea_7
      obtain ⟨x_6, hx, h⟩ := h
      refine wm_getQN hM2 rfl in_X4 (ci := 4) rfl (by decide) 0 (Nat.le_of_ble_eq_true rfl) hx (fun _ _ => rfl) q297 (fun _ _ h => h) dX1_node_31 ?_
      refine ww_iload_n dX1_node_34 1 rfl ?_
      obtain ⟨a_8, ea_8, h⟩ := h
      subst ea_8
      obtain ⟨x_9, hx, h⟩ := h
      refine wm_aald hM2 rfl (by decide) hx dX1_node_35 ?_
      obtain ⟨a_10, ea_10, h⟩ := h
      subst ea_10
      obtain ⟨n_11, hn, h⟩ := h
      refine wm_alen hM2 rfl hn dX1_node_36 ?_
      refine ww_iconst dX1_node_37 ?_
      refine ww_isub dX1_node_38 ?_
      obtain ⟨r_12, h⟩ := h
      refine ww_i2l dX1_node_39 r_12 ?_
      refine wm_callS (n := 3) hM2 (tm_X1_within h) (lw_S q353 q354 q108 q355) ⟨by decide, by decide, by decide +kernel⟩ rfl ⟨Nat.le_of_ble_eq_true rfl, Nat.le_of_ble_eq_true rfl⟩ rfl (Nat.le_of_ble_eq_true rfl) dX1_node_40 ⟨Nat.le_refl _, Nat.le_refl _⟩ ?_
      clear h
      rintro _ _ ws ⟨rfl, y_13, rfl, z_14, h⟩ hM3
      refine ww_st1 ?_
      refine ww_if_eq (tgt := 60) dX1_node_43 (by decide) (r_z z_14) (fun c => ?_) (fun c => ?_)
      · replace h := h.1 c
        refine ww_bipush (v := (-2)) dX1_node_60 rfl ?_
        exact ww_iret (ws, μ) rfl ⟨hM3, ⟨rfl, _, rfl, h⟩⟩ rfl (Nat.le_refl _) (Nat.le_refl _) dX1_node_62
      · replace h := h.2 c
        refine ww_aloadQ_n dX1_node_46 0 rfl ?_
        obtain ⟨x_15, hx, h⟩ := h
        refine wm_getQ hM3 rfl in_X1 (ci := 1) rfl (by decide) 3 (Nat.le_of_ble_eq_true rfl) hx (fun _ _ => rfl) q322 (fun _ _ h => h) dX1_node_47 ?_
        obtain ⟨a_17, ea_17, h⟩ := h
        subst ea_17
        obtain ⟨x_16, hx, h⟩ := h
        refine wm_getQN hM3 rfl in_X4 (ci := 4) rfl (by decide) 0 (Nat.le_of_ble_eq_true rfl) hx (fun _ _ => rfl) q297 (fun _ _ h => h) dX1_node_50 ?_
        refine ww_iload_n dX1_node_53 1 rfl ?_
        obtain ⟨a_18, ea_18, h⟩ := h
        subst ea_18
        obtain ⟨x_19, hx, h⟩ := h
        refine wm_aald hM3 rfl (by decide) hx dX1_node_54 ?_
        refine ww_iload_n dX1_node_55 2 rfl ?_
        obtain ⟨a_20, ea_20, h⟩ := h
        subst ea_20
        obtain ⟨x_21, hx, h⟩ := h
        refine wm_iald hM3 rfl hx dX1_node_56 ?_
        refine ww_goto (tgt := 62) dX1_node_57 (by decide) ?_
        exact ww_iret (ws, μ) rfl ⟨hM3, ⟨rfl, _, rfl, h⟩⟩ rfl (Nat.le_refl _) (Nat.le_refl _) dX1_node_62
    · replace h := h.2 c
      refine ww_aloadQ_n dX1_node_16 0 rfl ?_
      refine ww_iload_n dX1_node_17 1 rfl ?_
      obtain ⟨hg, h⟩ := h
      refine wm_callV (n := 1) hM2 (tm_X1_legs h) rfl hg rfl (lw_V q1644 q1646 qs41 q108 q1647) ⟨by decide, by decide, by decide +kernel⟩ rfl ⟨Nat.le_of_ble_eq_true rfl, Nat.le_of_ble_eq_true rfl⟩ rfl (Nat.le_of_ble_eq_true rfl) dX1_node_18 ⟨Nat.le_refl _, Nat.le_refl _⟩ ?_
      clear h
      rintro _ _ ws ⟨rfl, y_22, rfl, h⟩ hM4
      refine ww_st1 ?_
      refine ww_goto (tgt := 62) dX1_node_21 (by decide) ?_
      exact ww_iret (ws, μ) rfl ⟨hM4, ⟨rfl, _, rfl, h⟩⟩ rfl (Nat.le_refl _) (Nat.le_refl _) dX1_node_62
  · replace h := h.2 c
    refine ww_bipush (v := (-2)) dX1_node_8 rfl ?_
    exact ww_iret (ws, μ) rfl ⟨hM2, ⟨rfl, _, rfl, h⟩⟩ rfl (Nat.le_refl _) (Nat.le_refl _) dX1_node_10
