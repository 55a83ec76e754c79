/-! THE COMPONENT and what it calls: weakest preconditions and walks (printed by tools/comp.py) -/
set_option maxRecDepth 100000
/-! X1_count: HoloNet count (I)I; flags (False, False, False), depth 7 -/
def wc_X1_count (ad : Nat → Nat) (μ : HM) (b : Nat) (a1 : Int) (P : Int → Prop) : Prop :=
  rI a1 ∧
  (a1 = 0 →
    ∃ x_2 : Option Nat, gQ μ b 1 2 = some x_2 ∧
    ∃ a_4 : Nat, x_2 = some a_4 ∧
    ∃ x_3 : Int, gI μ a_4 2 0 = some x_3 ∧
    P x_3) ∧
  (a1 = 1 →
    ∃ x_5 : Option Nat, gQ μ b 1 2 = some x_5 ∧
    ∃ a_7 : Nat, x_5 = some a_7 ∧
    ∃ x_6 : Option Nat, gQ μ a_7 2 1 = some x_6 ∧
    ∃ a_8 : Nat, x_6 = some a_8 ∧
    gC μ a_8 = some 3 ∧
    wc_X3_size ad μ a_8 (fun y_9 =>
      P y_9)) ∧
  (a1 = 2 →
    ∃ x_11 : Option Nat, gQ μ b 1 2 = some x_11 ∧
    ∃ a_13 : Nat, x_11 = some a_13 ∧
    ∃ x_12 : Option Nat, gQ μ a_13 2 2 = some x_12 ∧
    ∃ a_14 : Nat, x_12 = some a_14 ∧
    gC μ a_14 = some 3 ∧
    wc_X3_size ad μ a_14 (fun y_15 =>
      P y_15)) ∧
  (a1 = 3 →
    ∃ x_17 : Option Nat, gQ μ b 1 2 = some x_17 ∧
    ∃ a_19 : Nat, x_17 = some a_19 ∧
    ∃ x_18 : Option Nat, gQ μ a_19 2 3 = some x_18 ∧
    ∃ a_20 : Nat, x_18 = some a_20 ∧
    gC μ a_20 = some 3 ∧
    wc_X3_size ad μ a_20 (fun y_21 =>
      P y_21)) ∧
  (a1 = 4 →
    ∃ x_23 : Option Nat, gQ μ b 1 3 = some x_23 ∧
    ∃ a_25 : Nat, x_23 = some a_25 ∧
    ∃ x_24 : Option Nat, gQ μ a_25 4 1 = some x_24 ∧
    ∃ a_26 : Nat, x_24 = some a_26 ∧
    gC μ a_26 = some 18 ∧
    wc_J2_size ad μ a_26 (fun y_27 =>
      P y_27)) ∧
  (a1 = 5 →
    gC μ b = some 1 ∧
    wc_X1_openMany ad μ b (fun y_29 =>
      P y_29)) ∧
  (a1 = 6 →
    ∃ x_31 : Option Nat, gQ μ b 1 4 = some x_31 ∧
    ∃ a_32 : Nat, x_31 = some a_32 ∧
    gC μ a_32 = some 18 ∧
    wc_J2_size ad μ a_32 (fun y_33 =>
      P y_33)) ∧
  (a1 = 7 →
    ∃ x_35 : Int, gI μ b 1 1 = some x_35 ∧
    P x_35) ∧
  (a1 < 0 ∨ 7 < a1 →
    P (-1))
set_option maxHeartbeats 4000000 in
theorem tm_X1_count {G : g_G} {l : Launch} {μ : HM} {b : Nat} {a1 : Int} {P : Int → Prop} (h : wc_X1_count (g_ad G) μ b a1 P) : CM G l yX1_count cX1_count 2 (Option.some Jvm.ClassFile.FieldType.int) 7 0 0 [.ref b, vI a1] μ (hN1 μ P) := by
  unfold wc_X1_count at h
  refine wm_of (lvs := [(0, va_rf (some b)), (1, vI a1)]) (by decide) (Nat.le_of_ble_eq_true rfl) rfl (fun fr ws hM1 => ?_)
  show WW G l cX1_count RX1 2 (Option.some Jvm.ClassFile.FieldType.int) "count" 7 0 0 (hMR G (hN1 μ P)) (fun u => [u.1, fr]) 0 0 [ws, fr] 0 [(0, va_rf (some b)), (1, vI a1)] []
  refine ww_iload_n dX1_count_0 1 rfl ?_
  obtain ⟨r_1, h⟩ := h
  by_cases c0 : a1 = 0
  · replace h := h.1 c0
    refine ww_tableIn (tgt := 48) dX1_count_1 r_1 (by rw [c0]; decide) (by rw [c0]; decide) (by rw [c0]; rfl) (by decide) ?_
    refine ww_aloadQ_n dX1_count_48 0 rfl ?_
    obtain ⟨x_2, hx, h⟩ := h
    refine wm_getQ hM1 rfl in_X1 (ci := 1) rfl (by decide) 2 (Nat.le_of_ble_eq_true rfl) hx (fun _ _ => rfl) q319 (fun _ _ h => h) dX1_count_49 ?_
    obtain ⟨a_4, ea_4, h⟩ := h
    subst ea_4
    obtain ⟨x_3, hx, h⟩ := h
    refine wm_getIN hM1 rfl in_X2 (ci := 2) rfl (by decide) 0 (Nat.le_of_ble_eq_true rfl) hx (fun _ _ => rfl) q259 (fun _ _ h => h) dX1_count_52 ?_
    exact ww_iret (ws, μ) rfl ⟨hM1, ⟨rfl, _, rfl, h⟩⟩ rfl (Nat.le_refl _) (Nat.le_refl _) dX1_count_55
  by_cases c1 : a1 = 1
  · replace h := h.2.1 c1
    refine ww_tableIn (tgt := 56) dX1_count_1 r_1 (by rw [c1]; decide) (by rw [c1]; decide) (by rw [c1]; rfl) (by decide) ?_
    refine ww_aloadQ_n dX1_count_56 0 rfl ?_
    obtain ⟨x_5, hx, h⟩ := h
    refine wm_getQ hM1 rfl in_X1 (ci := 1) rfl (by decide) 2 (Nat.le_of_ble_eq_true rfl) hx (fun _ _ => rfl) q319 (fun _ _ h => h) dX1_count_57 ?_
    obtain ⟨a_7, ea_7, h⟩ := h
    subst ea_7
    obtain ⟨x_6, hx, h⟩ := h
    refine wm_getQN hM1 rfl in_X2 (ci := 2) rfl (by decide) 1 (Nat.le_of_ble_eq_true rfl) hx (fun _ _ => rfl) q261 (fun _ _ h => h) dX1_count_60 ?_
    obtain ⟨a_8, ea_8, h⟩ := h
    subst ea_8
    obtain ⟨hg, h⟩ := h
    refine wm_callV (n := 0) hM1 (tm_X3_size h) rfl hg rfl (lw_V q1631 q1140 q1141 q110 q1142) ⟨by decide, by decide, by decide +kernel⟩ rfl ⟨Nat.le_of_ble_eq_true rfl, Nat.le_of_ble_eq_true rfl⟩ rfl (Nat.le_of_ble_eq_true rfl) dX1_count_63 ⟨Nat.le_refl _, Nat.le_refl _⟩ ?_
    clear h
    rintro _ _ ws ⟨rfl, y_9, rfl, h⟩ hM2
    refine ww_st1 ?_
    exact ww_iret (ws, μ) rfl ⟨hM2, ⟨rfl, _, rfl, h⟩⟩ rfl (Nat.le_refl _) (Nat.le_refl _) dX1_count_66
  by_cases c2 : a1 = 2
  · replace h := h.2.2.1 c2
    refine ww_tableIn (tgt := 67) dX1_count_1 r_1 (by rw [c2]; decide) (by rw [c2]; decide) (by rw [c2]; rfl) (by decide) ?_
    refine ww_aloadQ_n dX1_count_67 0 rfl ?_
    obtain ⟨x_11, hx, h⟩ := h
    refine wm_getQ hM1 rfl in_X1 (ci := 1) rfl (by decide) 2 (Nat.le_of_ble_eq_true rfl) hx (fun _ _ => rfl) q319 (fun _ _ h => h) dX1_count_68 ?_
    obtain ⟨a_13, ea_13, h⟩ := h
    subst ea_13
    obtain ⟨x_12, hx, h⟩ := h
    refine wm_getQN hM1 rfl in_X2 (ci := 2) rfl (by decide) 2 (Nat.le_of_ble_eq_true rfl) hx (fun _ _ => rfl) q264 (fun _ _ h => h) dX1_count_71 ?_
    obtain ⟨a_14, ea_14, h⟩ := h
    subst ea_14
    obtain ⟨hg, h⟩ := h
    refine wm_callV (n := 0) hM1 (tm_X3_size h) rfl hg rfl (lw_V q1631 q1140 q1141 q110 q1142) ⟨by decide, by decide, by decide +kernel⟩ rfl ⟨Nat.le_of_ble_eq_true rfl, Nat.le_of_ble_eq_true rfl⟩ rfl (Nat.le_of_ble_eq_true rfl) dX1_count_74 ⟨Nat.le_refl _, Nat.le_refl _⟩ ?_
    clear h
    rintro _ _ ws ⟨rfl, y_15, rfl, h⟩ hM3
    refine ww_st1 ?_
    exact ww_iret (ws, μ) rfl ⟨hM3, ⟨rfl, _, rfl, h⟩⟩ rfl (Nat.le_refl _) (Nat.le_refl _) dX1_count_77
  by_cases c3 : a1 = 3
  · replace h := h.2.2.2.1 c3
    refine ww_tableIn (tgt := 78) dX1_count_1 r_1 (by rw [c3]; decide) (by rw [c3]; decide) (by rw [c3]; rfl) (by decide) ?_
    refine ww_aloadQ_n dX1_count_78 0 rfl ?_
    obtain ⟨x_17, hx, h⟩ := h
    refine wm_getQ hM1 rfl in_X1 (ci := 1) rfl (by decide) 2 (Nat.le_of_ble_eq_true rfl) hx (fun _ _ => rfl) q319 (fun _ _ h => h) dX1_count_79 ?_
    obtain ⟨a_19, ea_19, h⟩ := h
    subst ea_19
    obtain ⟨x_18, hx, h⟩ := h
    refine wm_getQN hM1 rfl in_X2 (ci := 2) rfl (by decide) 3 (Nat.le_of_ble_eq_true rfl) hx (fun _ _ => rfl) q268 (fun _ _ h => h) dX1_count_82 ?_
    obtain ⟨a_20, ea_20, h⟩ := h
    subst ea_20
    obtain ⟨hg, h⟩ := h
    refine wm_callV (n := 0) hM1 (tm_X3_size h) rfl hg rfl (lw_V q1631 q1140 q1141 q110 q1142) ⟨by decide, by decide, by decide +kernel⟩ rfl ⟨Nat.le_of_ble_eq_true rfl, Nat.le_of_ble_eq_true rfl⟩ rfl (Nat.le_of_ble_eq_true rfl) dX1_count_85 ⟨Nat.le_refl _, Nat.le_refl _⟩ ?_
    clear h
    rintro _ _ ws ⟨rfl, y_21, rfl, h⟩ hM4
    refine ww_st1 ?_
    exact ww_iret (ws, μ) rfl ⟨hM4, ⟨rfl, _, rfl, h⟩⟩ rfl (Nat.le_refl _) (Nat.le_refl _) dX1_count_88
  by_cases c4 : a1 = 4
  · replace h := h.2.2.2.2.1 c4
    refine ww_tableIn (tgt := 89) dX1_count_1 r_1 (by rw [c4]; decide) (by rw [c4]; decide) (by rw [c4]; rfl) (by decide) ?_
    refine ww_aloadQ_n dX1_count_89 0 rfl ?_
    obtain ⟨x_23, hx, h⟩ := h
    refine wm_getQ hM1 rfl in_X1 (ci := 1) rfl (by decide) 3 (Nat.le_of_ble_eq_true rfl) hx (fun _ _ => rfl) q322 (fun _ _ h => h) dX1_count_90 ?_
    obtain ⟨a_25, ea_25, h⟩ := h
    subst ea_25
    obtain ⟨x_24, hx, h⟩ := h
    refine wm_getQN hM1 rfl in_X4 (ci := 4) rfl (by decide) 1 (Nat.le_of_ble_eq_true rfl) hx (fun _ _ => rfl) q300 (fun _ _ h => h) dX1_count_93 ?_
    obtain ⟨a_26, ea_26, h⟩ := h
    subst ea_26
    obtain ⟨hg, h⟩ := h
    refine wm_callV (n := 0) hM1 (tm_J2_size h) rfl hg rfl (lw_V q2006 q856 q857 q113 q858) ⟨by decide, by decide, by decide +kernel⟩ rfl ⟨Nat.le_of_ble_eq_true rfl, Nat.le_of_ble_eq_true rfl⟩ rfl (Nat.le_of_ble_eq_true rfl) dX1_count_96 ⟨Nat.le_refl _, Nat.le_refl _⟩ ?_
    clear h
    rintro _ _ ws ⟨rfl, y_27, rfl, h⟩ hM5
    refine ww_st1 ?_
    exact ww_iret (ws, μ) rfl ⟨hM5, ⟨rfl, _, rfl, h⟩⟩ rfl (Nat.le_refl _) (Nat.le_refl _) dX1_count_99
  by_cases c5 : a1 = 5
  · replace h := h.2.2.2.2.2.1 c5
    refine ww_tableIn (tgt := 100) dX1_count_1 r_1 (by rw [c5]; decide) (by rw [c5]; decide) (by rw [c5]; rfl) (by decide) ?_
    refine ww_aloadQ_n dX1_count_100 0 rfl ?_
    obtain ⟨hg, h⟩ := h
    refine wm_callV (n := 0) hM1 (tm_X1_openMany h) rfl hg rfl (lw_V q1653 q1655 qs42 q108 q1656) ⟨by decide, by decide, by decide +kernel⟩ rfl ⟨Nat.le_of_ble_eq_true rfl, Nat.le_of_ble_eq_true rfl⟩ rfl (Nat.le_of_ble_eq_true rfl) dX1_count_101 ⟨Nat.le_refl _, Nat.le_refl _⟩ ?_
    clear h
    rintro _ _ ws ⟨rfl, y_29, rfl, h⟩ hM6
    refine ww_st1 ?_
    exact ww_iret (ws, μ) rfl ⟨hM6, ⟨rfl, _, rfl, h⟩⟩ rfl (Nat.le_refl _) (Nat.le_refl _) dX1_count_104
  by_cases c6 : a1 = 6
  · replace h := h.2.2.2.2.2.2.1 c6
    refine ww_tableIn (tgt := 105) dX1_count_1 r_1 (by rw [c6]; decide) (by rw [c6]; decide) (by rw [c6]; rfl) (by decide) ?_
    refine ww_aloadQ_n dX1_count_105 0 rfl ?_
    obtain ⟨x_31, hx, h⟩ := h
    refine wm_getQ hM1 rfl in_X1 (ci := 1) rfl (by decide) 4 (Nat.le_of_ble_eq_true rfl) hx (fun _ _ => rfl) q323 (fun _ _ h => h) dX1_count_106 ?_
    obtain ⟨a_32, ea_32, h⟩ := h
    subst ea_32
    obtain ⟨hg, h⟩ := h
    refine wm_callV (n := 0) hM1 (tm_J2_size h) rfl hg rfl (lw_V q2006 q856 q857 q113 q858) ⟨by decide, by decide, by decide +kernel⟩ rfl ⟨Nat.le_of_ble_eq_true rfl, Nat.le_of_ble_eq_true rfl⟩ rfl (Nat.le_of_ble_eq_true rfl) dX1_count_109 ⟨Nat.le_refl _, Nat.le_refl _⟩ ?_
    clear h
    rintro _ _ ws ⟨rfl, y_33, rfl, h⟩ hM7
    refine ww_st1 ?_
    exact ww_iret (ws, μ) rfl ⟨hM7, ⟨rfl, _, rfl, h⟩⟩ rfl (Nat.le_refl _) (Nat.le_refl _) dX1_count_112
  by_cases c7 : a1 = 7
  · replace h := h.2.2.2.2.2.2.2.1 c7
    refine ww_tableIn (tgt := 113) dX1_count_1 r_1 (by rw [c7]; decide) (by rw [c7]; decide) (by rw [c7]; rfl) (by decide) ?_
    refine ww_aloadQ_n dX1_count_113 0 rfl ?_
    obtain ⟨x_35, hx, h⟩ := h
    refine wm_getI hM1 rfl in_X1 (ci := 1) rfl (by decide) 1 (Nat.le_of_ble_eq_true rfl) hx (fun _ _ => rfl) q316 (fun _ _ h => h) dX1_count_114 ?_
    exact ww_iret (ws, μ) rfl ⟨hM1, ⟨rfl, _, rfl, h⟩⟩ rfl (Nat.le_refl _) (Nat.le_refl _) dX1_count_117
  have c : a1 < 0 ∨ 7 < a1 := by omega
  replace h := h.2.2.2.2.2.2.2.2 c
  refine ww_tableOut (tgt := 118) dX1_count_1 r_1 c (by decide) ?_
  refine ww_iconst dX1_count_118 ?_
  exact ww_iret (ws, μ) rfl ⟨hM1, ⟨rfl, _, rfl, h⟩⟩ rfl (Nat.le_refl _) (Nat.le_refl _) dX1_count_119
