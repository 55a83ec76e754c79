/-! THE COMPONENT and what it calls: weakest preconditions and walks (printed by tools/comp.py) -/
set_option maxRecDepth 100000
/-! X4_adds: HoloNet$State adds (LHoloNet$Wire;)V; flags (True, True, False), depth 7 -/
def wc_X4_adds (ad : Nat → Nat) (mc ms : Nat) (μ : HM) (b : Nat) (o1 : Option Nat) (P : HM → Prop) : Prop :=
  ∃ x_1 : Option Nat, gQ μ b 4 1 = some x_1 ∧
  ∃ a_2 : Nat, x_1 = some a_2 ∧
  gC μ a_2 = some 18 ∧
  ∃ c_3 s_4 : Nat, (0 + c_3 ≤ mc ∧ 0 + s_4 ≤ ms) ∧
  wc_J2_add ad c_3 s_4 μ a_2 o1 (fun y_6 μ_8 =>
    gC μ_8 b = some 4 ∧
    wc_X4_changes ad μ_8 b o1 (fun μ_9 =>
      P μ_9))
set_option maxHeartbeats 4000000 in
theorem tm_X4_adds {G : g_G} {l : Launch} {mc ms : Nat} {μ : HM} {b : Nat} {o1 : Option Nat} {P : HM → Prop} (h : wc_X4_adds (g_ad G) mc ms μ b o1 P) : CM G l yX4_adds cX4_adds 2 (Option.none : Option Jvm.ClassFile.FieldType) 7 mc ms [.ref b, va_rf o1] μ (hR0 P) := by
  unfold wc_X4_adds at h
  refine wm_of (lvs := [(0, va_rf (some b)), (1, va_rf o1)]) (by decide) (by simp [lg_sl, rf_cat, vI_cat, vL_cat, ref_cat]) (by simp [lv_args, rf_cat, vI_cat, vL_cat, ref_cat, rf_some]) (fun fr ws hM1 => ?_)
  show WW G l cX4_adds RX4 2 (Option.none : Option Jvm.ClassFile.FieldType) "adds" 7 mc ms (hMR G (hR0 P)) (fun u => [u.1, fr]) 0 0 [ws, fr] 0 [(0, va_rf (some b)), (1, va_rf o1)] []
  have hB : 0 ≤ mc ∧ 0 ≤ ms := ⟨Nat.zero_le _, Nat.zero_le _⟩
  refine ww_aloadQ_n dX4_adds_0 0 rfl ?_
  obtain ⟨x_1, hx, h⟩ := h
  refine wm_getQ hM1 rfl in_X4 (ci := 4) rfl (by decide) 1 (Nat.le_of_ble_eq_true rfl) hx (fun _ _ => rfl) q298 (fun _ _ h => h) dX4_adds_1 ?_
  refine ww_aloadQ_n dX4_adds_4 1 rfl ?_
  obtain ⟨a_2, ea_2, h⟩ := h
  subst ea_2
  obtain ⟨hg, h⟩ := h
  obtain ⟨c_3, s_4, b_5, h⟩ := h
  refine wm_callV (n := 1) hM1 (tm_J2_add h) rfl hg rfl (lw_V q1474 q1176 q1177 q113 q1178) ⟨by decide, by decide, by decide +kernel⟩ rfl ⟨Nat.le_of_ble_eq_true rfl, Nat.le_of_ble_eq_true rfl⟩ rfl (Nat.le_of_ble_eq_true rfl) dX4_adds_5 b_5 ?_
  clear h
  rintro _ μ_8 ws ⟨y_6, rfl, z_7, h⟩ hM2
  have hB := b_5
  refine ww_st1 ?_
  refine ww_pop dX4_adds_8 rfl ?_
  refine ww_aloadQ_n dX4_adds_9 0 rfl ?_
  refine ww_aloadQ_n dX4_adds_10 1 rfl ?_
  obtain ⟨hg, h⟩ := h
  refine wm_callV (n := 1) hM2 (tm_X4_changes h) rfl hg rfl (lw_V q1475 q1477 qs28 q116 q1478) ⟨by decide, by decide, by decide +kernel⟩ rfl ⟨Nat.le_of_ble_eq_true rfl, Nat.le_of_ble_eq_true rfl⟩ rfl (Nat.le_of_ble_eq_true rfl) dX4_adds_11 hB ?_
  clear h
  rintro _ μ_9 ws ⟨rfl, h⟩ hM3
  refine ww_st0 ?_
  exact ww_vret (ws, μ_9) rfl ⟨hM3, ⟨rfl, h⟩⟩ rfl hB.1 hB.2 dX4_adds_14
/-! X4_isWired: HoloNet$State isWired (II)Z; flags (False, False, False), depth 1 -/
def wc_X4_isWired (ad : Nat → Nat) (μ : HM) (b : Nat) (a1 : Int) (a2 : Int) (P : Int → Prop) : Prop :=
  ∃ x_1 : Option Nat, gQ μ b 4 2 = some x_1 ∧
  ∃ a_2 : Nat, x_1 = some a_2 ∧
  ∃ x_3 : Int, gA μ a_2 0 a1 = some x_3 ∧
  wc_X1_has ad μ x_3 a2 (fun y_4 =>
    (y_4 = 0 ∨ y_4 = 1) ∧ P y_4)
set_option maxHeartbeats 4000000 in
theorem tm_X4_isWired {G : g_G} {l : Launch} {μ : HM} {b : Nat} {a1 : Int} {a2 : Int} {P : Int → Prop} (h : wc_X4_isWired (g_ad G) μ b a1 a2 P) : CM G l yX4_isWired cX4_isWired 3 (Option.some Jvm.ClassFile.FieldType.boolean) 1 0 0 [.ref b, vI a1, vI a2] μ (hN2 μ P) := by
  unfold wc_X4_isWired at h
  refine wm_of (lvs := [(0, va_rf (some b)), (1, vI a1), (2, vI a2)]) (by decide) (Nat.le_of_ble_eq_true rfl) rfl (fun fr ws hM1 => ?_)
  show WW G l cX4_isWired RX4 3 (Option.some Jvm.ClassFile.FieldType.boolean) "isWired" 1 0 0 (hMR G (hN2 μ P)) (fun u => [u.1, fr]) 0 0 [ws, fr] 0 [(0, va_rf (some b)), (1, vI a1), (2, vI a2)] []
  refine ww_aloadQ_n dX4_isWired_0 0 rfl ?_
  obtain ⟨x_1, hx, h⟩ := h
  refine wm_getQ hM1 rfl in_X4 (ci := 4) rfl (by decide) 2 (Nat.le_of_ble_eq_true rfl) hx (fun _ _ => rfl) q302 (fun _ _ h => h) dX4_isWired_1 ?_
  refine ww_iload_n dX4_isWired_4 1 rfl ?_
  obtain ⟨a_2, ea_2, h⟩ := h
  subst ea_2
  obtain ⟨x_3, hx, h⟩ := h
  refine wm_iald hM1 rfl hx dX4_isWired_5 ?_
  refine ww_iload_n dX4_isWired_6 2 rfl ?_
  refine wm_callSN (n := 2) hM1 (tm_X1_has h) q1447 q1347 q108 q1346 ⟨by decide, by decide, by decide +kernel⟩ rfl ⟨Nat.le_of_ble_eq_true rfl, Nat.le_of_ble_eq_true rfl⟩ rfl (Nat.le_of_ble_eq_true rfl) dX4_isWired_7 ⟨Nat.le_refl _, Nat.le_refl _⟩ ?_
  clear h
  rintro _ _ ws ⟨rfl, y_4, rfl, z_5, h⟩ hM2
  refine ww_st1 ?_
  obtain ⟨hz, h⟩ := h
  exact ww_zret (ws, μ) rfl hz ⟨hM2, ⟨rfl, _, rfl, hz, h⟩⟩ rfl (Nat.le_refl _) (Nat.le_refl _) dX4_isWired_10
/-! X6_leg: HoloNet$Reader leg (II)I; flags (True, True, True), depth 7 -/
def wc_X6_leg (ad : Nat → Nat) (mc ms : Nat) (μ : HM) (b : Nat) (a1 : Int) (a2 : Int) (P : Int → HM → Prop) (X : Nat → String → HM → Prop) : Prop :=
  ∃ x_1 : Option Nat, gQ μ b 5 1 = some x_1 ∧
  ∃ a_3 : Nat, x_1 = some a_3 ∧
  ∃ x_2 : Option Nat, gQ μ a_3 2 3 = some x_2 ∧
  ∃ a_4 : Nat, x_2 = some a_4 ∧
  gC μ a_4 = some 3 ∧
  wc_X3_get ad μ a_4 a1 (fun y_5 =>
    (∀ z : Nat, y_5 = some z → ∃ ci, gC μ z = some ci ∧ (ci = 9)) ∧
    ∃ a_8 : Nat, y_5 = some a_8 ∧
    ∃ x_7 : Option Nat, gQ μ a_8 9 2 = some x_7 ∧
    ∃ a_10 : Nat, x_7 = some a_10 ∧
    ∃ x_9 : Int, gI μ a_10 7 2 = some x_9 ∧
    gC μ b = some 5 ∧
    ∃ c_11 s_12 : Nat, (0 + c_11 ≤ mc ∧ 0 + s_12 ≤ ms) ∧
    wc_X6_looks ad c_11 s_12 μ b 0 (x_9 - 1) (fun μ_14 =>
      ∃ x_18 : Int, gI μ_14 b 5 7 = some x_18 ∧
      rI x_18 ∧
      rI a2 ∧
      ∃ J56 : Int → Prop, (∀ (s1_56 : Int), J56 s1_56 →
        gC μ_14 b = some 5 ∧
        ∃ c_21 s_22 : Nat, (0 + c_11 + c_21 ≤ mc ∧ 0 + s_12 + s_22 ≤ ms) ∧
        wc_X6_must ad c_21 s_22 μ_14 b s1_56 2 (fun μ_24 =>
          ∃ x_28 : Int, gI μ_24 b 5 7 = some x_28 ∧
          gC μ_24 b = some 5 ∧
          ∃ c_29 s_30 : Nat, (0 + c_11 + c_21 + c_29 ≤ mc ∧ 0 + s_12 + s_22 + s_30 ≤ ms) ∧
          wc_X6_go ad c_29 s_30 μ_24 b (fun μ_32 =>
            P x_28 μ_32)) (fun q_25 E_26 μ_27 =>
          X q_25 E_26 μ_27)) ∧
      ∃ J55 : Prop, (J55 →
        J56 0) ∧
      ((x_18 = a2 →
        J55) ∧
      (¬ x_18 = a2 →
        ∃ x_33 : Option Nat, gQ μ_14 b 5 2 = some x_33 ∧
        ∃ x_34 : Int, gI μ_14 b 5 7 = some x_34 ∧
        ∃ a_35 : Nat, x_33 = some a_35 ∧
        gC μ_14 a_35 = some 4 ∧
        wc_X4_isWired ad μ_14 a_35 a1 x_34 (fun y_36 =>
          ((¬ y_36 = 0 →
            J55) ∧
          (y_36 = 0 →
            J56 1)))))) (fun q_15 E_16 μ_17 =>
      X q_15 E_16 μ_17))
set_option maxHeartbeats 4000000 in
theorem tm_X6_leg {G : g_G} {l : Launch} {mc ms : Nat} {μ : HM} {b : Nat} {a1 : Int} {a2 : Int} {P : Int → HM → Prop} {X : Nat → String → HM → Prop} (h : wc_X6_leg (g_ad G) mc ms μ b a1 a2 P X) : CMX G l yX6_leg cX6_leg 4 (Option.some Jvm.ClassFile.FieldType.int) 7 mc ms [.ref b, vI a1, vI a2] μ (hR1 P) X := by
  unfold wc_X6_leg at h
  refine wm_ofX (lvs := [(0, va_rf (some b)), (1, vI a1), (2, vI a2)]) (by decide) (Nat.le_of_ble_eq_true rfl) rfl (fun fr ws hM1 => ?_)
  show WF G l cX6_leg RX6 4 (Option.some Jvm.ClassFile.FieldType.int) "leg" 7 mc ms (gFX G (hMR G (hR1 P)) (fun u => [u.1, fr]) (hMX G X) (fun u => [u.1, fr]) mc ms []) 0 0 [ws, fr] 0 [(0, va_rf (some b)), (1, vI a1), (2, vI a2)] []
  have hB : 0 ≤ mc ∧ 0 ≤ ms := ⟨Nat.zero_le _, Nat.zero_le _⟩
  refine ww_aloadQ_n dX6_leg_0 0 rfl ?_
  refine ww_iconst dX6_leg_1 ?_
  refine ww_aloadQ_n dX6_leg_2 0 rfl ?_
  obtain ⟨x_1, hx, h⟩ := h
  refine wm_getQ hM1 rfl in_X6 (ci := 5) rfl (by decide) 1 (Nat.le_of_ble_eq_true rfl) hx (fun _ _ => rfl) q400 (fun _ _ h => h) dX6_leg_3 ?_
  obtain ⟨a_3, ea_3, h⟩ := h
  subst ea_3
  obtain ⟨x_2, hx, h⟩ := h
  refine wm_getQN hM1 rfl in_X2 (ci := 2) rfl (by decide) 3 (Nat.le_of_ble_eq_true rfl) hx (fun _ _ => rfl) q269 (fun _ _ h => h) dX6_leg_6 ?_
  refine ww_iload_n dX6_leg_9 1 rfl ?_
  obtain ⟨a_4, ea_4, h⟩ := h
  subst ea_4
  obtain ⟨hg, h⟩ := h
  refine wm_callV (n := 1) hM1 (tm_X3_get h) rfl hg rfl (lw_V q1404 q1405 q1406 q110 q1407) ⟨by decide, by decide, by decide +kernel⟩ rfl ⟨Nat.le_of_ble_eq_true rfl, Nat.le_of_ble_eq_true rfl⟩ rfl (by simp only [List.map_cons, List.map_nil, rf_cat, vI_cat, vL_cat, List.sum_cons, List.sum_nil]; decide) dX6_leg_10 hB ?_
  clear h
  rintro _ _ ws ⟨rfl, y_5, rfl, h⟩ hM2
  refine ww_st1 ?_
  obtain ⟨hc, h⟩ := h
  refine wm_cast hM2 hc cast_5 q1420 dX6_leg_13 ?_
  obtain ⟨a_8, ea_8, h⟩ := h
  subst ea_8
  obtain ⟨x_7, hx, h⟩ := h
  refine wm_getQN hM2 rfl in_X12 (ci := 9) rfl (by decide) 2 (Nat.le_of_ble_eq_true rfl) hx (fun _ _ => rfl) q1427 (fun _ _ h => h) dX6_leg_16 ?_
  obtain ⟨a_10, ea_10, h⟩ := h
  subst ea_10
  obtain ⟨x_9, hx, h⟩ := h
  refine wm_getIN hM2 rfl in_X9 (ci := 7) rfl (by decide) 2 (Nat.le_of_ble_eq_true rfl) hx (fun _ _ => rfl) q1153 (fun _ _ h => h) dX6_leg_19 ?_
  refine ww_iconst dX6_leg_22 ?_
  refine ww_isub dX6_leg_23 ?_
  obtain ⟨hg, h⟩ := h
  obtain ⟨c_11, s_12, b_13, h⟩ := h
  refine wm_callX (n := 2) hM2 (tm_X6_looks h) rfl hg rfl (lw_V q692 q694 qs3 q118 q695) ⟨by decide, by decide, by decide +kernel⟩ rfl ⟨Nat.le_of_ble_eq_true rfl, Nat.le_of_ble_eq_true rfl⟩ rfl (Nat.le_of_ble_eq_true rfl) dX6_leg_24 b_13 ?_ ?_
  · clear h
    intro q_15 E_16 μ_17 ws h hM3
    have hB := b_13
    exact wx_out (fun _ hz => nomatch hz) (ws, μ_17) ⟨hM3, h⟩ rfl hB.1 hB.2
  · clear h
    rintro _ μ_14 ws ⟨rfl, h⟩ hM4
    have hB := b_13
    refine ww_st0 ?_
    refine ww_aloadQ_n dX6_leg_27 0 rfl ?_
    refine ww_aloadQ_n dX6_leg_28 0 rfl ?_
    obtain ⟨x_18, hx, h⟩ := h
    refine wm_getI hM4 rfl in_X6 (ci := 5) rfl (by decide) 7 (Nat.le_of_ble_eq_true rfl) hx (fun _ _ => rfl) q408 (fun _ _ h => h) dX6_leg_29 ?_
    refine ww_iload_n dX6_leg_32 2 rfl ?_
    obtain ⟨r_19, r_20, h⟩ := h
    obtain ⟨J56, hJ56, h⟩ := h
    have kJ56 : ∀ (s1_56 : Int), J56 s1_56 → ∀ ws : va_W, Mrep G ws μ_14 → (0 + c_11 ≤ mc ∧ 0 + s_12 ≤ ms) → WF G l cX6_leg RX6 4 (Option.some Jvm.ClassFile.FieldType.int) "leg" 7 mc ms (gFX G (hMR G (hR1 P)) (fun u => [u.1, fr]) (hMX G X) (fun u => [u.1, fr]) mc ms []) (0 + c_11) (0 + s_12) [ws, fr] 56 [(0, va_rf (some b))] [vI s1_56, va_rf (some b)] := by
      clear h
      intro s1_56 hj ws hM5 hB
      have h := hJ56 s1_56 hj
      refine ww_iconst dX6_leg_56 ?_
      obtain ⟨hg, h⟩ := h
      obtain ⟨c_21, s_22, b_23, h⟩ := h
      refine wm_callX (n := 2) hM5 (tm_X6_must h) rfl hg rfl (lw_V q696 q698 qs4 q118 q699) ⟨by decide, by decide, by decide +kernel⟩ rfl ⟨Nat.le_of_ble_eq_true rfl, Nat.le_of_ble_eq_true rfl⟩ rfl (Nat.le_of_ble_eq_true rfl) dX6_leg_57 b_23 ?_ ?_
      · clear h
        intro q_25 E_26 μ_27 ws h hM6
        have hB := b_23
        exact wx_out (fun _ hz => nomatch hz) (ws, μ_27) ⟨hM6, h⟩ rfl hB.1 hB.2
      · clear h
        rintro _ μ_24 ws ⟨rfl, h⟩ hM7
        have hB := b_23
        refine ww_st0 ?_
        refine ww_aloadQ_n dX6_leg_60 0 rfl ?_
        obtain ⟨x_28, hx, h⟩ := h
        refine wm_getI hM7 rfl in_X6 (ci := 5) rfl (by decide) 7 (Nat.le_of_ble_eq_true rfl) hx (fun _ _ => rfl) q408 (fun _ _ h => h) dX6_leg_61 ?_
        refine ww_istore_n (i := 3) (lv2 := [(3, vI x_28), (0, va_rf (some b))]) dX6_leg_64 rfl (Nat.le_of_ble_eq_true rfl) rfl ?_
        refine ww_aloadQ_n dX6_leg_65 1 rfl ?_
        obtain ⟨hg, h⟩ := h
        obtain ⟨c_29, s_30, b_31, h⟩ := h
        refine wm_callV (n := 0) hM7 (tm_X6_go h) rfl hg rfl (lw_V q439 q441 qs0 q118 q442) ⟨by decide, by decide, by decide +kernel⟩ rfl ⟨Nat.le_of_ble_eq_true rfl, Nat.le_of_ble_eq_true rfl⟩ rfl (Nat.le_of_ble_eq_true rfl) dX6_leg_66 b_31 ?_
        clear h
        rintro _ μ_32 ws ⟨rfl, h⟩ hM8
        have hB := b_31
        refine ww_st0 ?_
        refine ww_iload_n dX6_leg_69 0 rfl ?_
        refine wx_lift ?_
        exact ww_iret (ws, μ_32) rfl ⟨hM8, ⟨_, rfl, h⟩⟩ rfl hB.1 hB.2 dX6_leg_70
    obtain ⟨J55, hJ55, h⟩ := h
    have kJ55 : J55 → ∀ ws : va_W, Mrep G ws μ_14 → (0 + c_11 ≤ mc ∧ 0 + s_12 ≤ ms) → WF G l cX6_leg RX6 4 (Option.some Jvm.ClassFile.FieldType.int) "leg" 7 mc ms (gFX G (hMR G (hR1 P)) (fun u => [u.1, fr]) (hMX G X) (fun u => [u.1, fr]) mc ms []) (0 + c_11) (0 + s_12) [ws, fr] 55 [(0, va_rf (some b))] [va_rf (some b)] := by
      clear h
      intro hj ws hM9 hB
      have h := hJ55 hj
      refine ww_iconst dX6_leg_55 ?_
      exact kJ56 _ h _ hM9 hB
    refine ww_icmp_eq (tgt := 55) dX6_leg_33 (by decide) r_19 r_20 (fun c => ?_) (fun c => ?_)
    · replace h := h.1 c
      refine ww_lv [0] rfl ?_
      exact kJ55 h _ hM4 hB
    · replace h := h.2 c
      refine ww_aloadQ_n dX6_leg_36 0 rfl ?_
      obtain ⟨x_33, hx, h⟩ := h
      refine wm_getQ hM4 rfl in_X6 (ci := 5) rfl (by decide) 2 (Nat.le_of_ble_eq_true rfl) hx (fun _ _ => rfl) q402 (fun _ _ h => h) dX6_leg_37 ?_
      refine ww_iload_n dX6_leg_40 1 rfl ?_
      refine ww_aloadQ_n dX6_leg_41 0 rfl ?_
      obtain ⟨x_34, hx, h⟩ := h
      refine wm_getI hM4 rfl in_X6 (ci := 5) rfl (by decide) 7 (Nat.le_of_ble_eq_true rfl) hx (fun _ _ => rfl) q408 (fun _ _ h => h) dX6_leg_42 ?_
      obtain ⟨a_35, ea_35, h⟩ := h
      subst ea_35
      obtain ⟨hg, h⟩ := h
      refine wm_callV (n := 2) hM4 (tm_X4_isWired h) rfl hg rfl (lw_V q1443 q1444 q1445 q116 q1446) ⟨by decide, by decide, by decide +kernel⟩ rfl ⟨Nat.le_of_ble_eq_true rfl, Nat.le_of_ble_eq_true rfl⟩ rfl (by simp only [List.map_cons, List.map_nil, rf_cat, vI_cat, vL_cat, List.sum_cons, List.sum_nil]; decide) dX6_leg_45 hB ?_
      clear h
      rintro _ _ ws ⟨rfl, y_36, rfl, z_37, h⟩ hM10
      refine ww_st1 ?_
      refine ww_if_ne (tgt := 55) dX6_leg_48 (by decide) (r_z z_37) (fun c => ?_) (fun c => ?_)
      · replace h := h.1 c
        refine ww_lv [0] rfl ?_
        exact kJ55 h _ hM10 hB
      · replace h := h.2 c
        refine ww_iconst dX6_leg_51 ?_
        refine ww_goto (tgt := 56) dX6_leg_52 (by decide) ?_
        refine ww_lv [0] rfl ?_
        exact kJ56 _ h _ hM10 hB
/-! X6_wire: HoloNet$Reader wire ()V; flags (True, True, True), depth 105 -/
def wc_X6_wire (ad : Nat → Nat) (mc ms : Nat) (μ : HM) (b : Nat) (P : HM → Prop) (X : Nat → String → HM → Prop) : Prop :=
  ∃ x_1 : Option Nat, gQ μ b 5 2 = some x_1 ∧
  ∃ a_3 : Nat, x_1 = some a_3 ∧
  ∃ x_2 : Option Nat, gQ μ a_3 4 1 = some x_2 ∧
  ∃ a_4 : Nat, x_2 = some a_4 ∧
  gC μ a_4 = some 18 ∧
  wc_J2_size ad μ a_4 (fun y_5 =>
    rI y_5 ∧
    ∃ J21 : Int → Prop, (∀ (s1_21 : Int), J21 s1_21 →
      gC μ b = some 5 ∧
      ∃ c_8 s_9 : Nat, (0 + c_8 ≤ mc ∧ 0 + s_9 ≤ ms) ∧
      wc_X6_must ad c_8 s_9 μ b s1_21 5 (fun μ_11 =>
        gC μ_11 b = some 5 ∧
        ∃ c_15 s_16 : Nat, (0 + c_8 + c_15 ≤ mc ∧ 0 + s_9 + s_16 ≤ ms) ∧
        wc_X6_go ad c_15 s_16 μ_11 b (fun μ_18 =>
          ∃ x_19 : Option Nat, gQ μ_18 b 5 1 = some x_19 ∧
          ∃ a_21 : Nat, x_19 = some a_21 ∧
          ∃ x_20 : Option Nat, gQ μ_18 a_21 2 3 = some x_20 ∧
          gC μ_18 b = some 5 ∧
          ∃ c_22 s_23 : Nat, (0 + c_8 + c_15 + c_22 ≤ mc ∧ 0 + s_9 + s_16 + s_23 ≤ ms) ∧
          wc_X6_known ad c_22 s_23 μ_18 b x_20 (fun y_25 μ_27 =>
            gC μ_27 b = some 5 ∧
            ∃ c_31 s_32 : Nat, (0 + c_8 + c_15 + c_22 + c_31 ≤ mc ∧ 0 + s_9 + s_16 + s_23 + s_32 ≤ ms) ∧
            wc_X6_leg ad c_31 s_32 μ_27 b y_25 (-1) (fun y_34 μ_36 =>
              ∃ x_40 : Option Nat, gQ μ_36 b 5 1 = some x_40 ∧
              ∃ a_42 : Nat, x_40 = some a_42 ∧
              ∃ x_41 : Option Nat, gQ μ_36 a_42 2 3 = some x_41 ∧
              gC μ_36 b = some 5 ∧
              ∃ c_43 s_44 : Nat, (0 + c_8 + c_15 + c_22 + c_31 + c_43 ≤ mc ∧ 0 + s_9 + s_16 + s_23 + s_32 + s_44 ≤ ms) ∧
              wc_X6_known ad c_43 s_44 μ_36 b x_41 (fun y_46 μ_48 =>
                ∃ x_52 : Option Nat, gQ μ_48 b 5 2 = some x_52 ∧
                (0 + c_8 + c_15 + c_22 + c_31 + c_43 + 1 ≤ mc ∧ 0 + s_9 + s_16 + s_23 + s_32 + s_44 + 4 ≤ ms) ∧ ∀ q_53 : Nat, μ_48 q_53 = none →
                rI y_25 ∧
                rI y_46 ∧
                ∃ J83 : Int → Prop, (∀ (s8_83 : Int), J83 s8_83 →
                  gC (hs μ_48 q_53 (hO 10 (fun _ => 0) (fun _ => none))) b = some 5 ∧
                  ∃ c_57 s_58 : Nat, (0 + c_8 + c_15 + c_22 + c_31 + c_43 + 1 + c_57 ≤ mc ∧ 0 + s_9 + s_16 + s_23 + s_32 + s_44 + 4 + s_58 ≤ ms) ∧
                  wc_X6_leg ad c_57 s_58 (hs μ_48 q_53 (hO 10 (fun _ => 0) (fun _ => none))) b y_46 s8_83 (fun y_60 μ_62 =>
                    wc_X13_init ad μ_62 q_53 y_25 y_34 y_46 y_60 (fun μ_66 =>
                      ∃ a_67 : Nat, x_52 = some a_67 ∧
                      gC μ_66 a_67 = some 4 ∧
                      ∃ c_68 s_69 : Nat, (0 + c_8 + c_15 + c_22 + c_31 + c_43 + 1 + c_57 + c_68 ≤ mc ∧ 0 + s_9 + s_16 + s_23 + s_32 + s_44 + 4 + s_58 + s_69 ≤ ms) ∧
                      wc_X4_adds ad c_68 s_69 μ_66 a_67 (some q_53) (fun μ_71 =>
                        P μ_71))) (fun q_63 E_64 μ_65 =>
                    X q_63 E_64 μ_65)) ∧
                ((¬ y_25 = y_46 →
                  J83 (-1)) ∧
                (y_25 = y_46 →
                  J83 y_34))) (fun q_49 E_50 μ_51 =>
                X q_49 E_50 μ_51)) (fun q_37 E_38 μ_39 =>
              X q_37 E_38 μ_39)) (fun q_28 E_29 μ_30 =>
            X q_28 E_29 μ_30))) (fun q_12 E_13 μ_14 =>
        X q_12 E_13 μ_14)) ∧
    ((10 ≤ y_5 →
      J21 0) ∧
    (y_5 < 10 →
      J21 1)))
set_option maxHeartbeats 4000000 in
theorem tm_X6_wire {G : g_G} {l : Launch} {mc ms : Nat} {μ : HM} {b : Nat} {P : HM → Prop} {X : Nat → String → HM → Prop} (h : wc_X6_wire (g_ad G) mc ms μ b P X) : CMX G l yX6_wire cX6_wire 4 (Option.none : Option Jvm.ClassFile.FieldType) 105 mc ms [.ref b] μ (hR0 P) X := by
  unfold wc_X6_wire at h
  refine wm_ofX (lvs := [(0, va_rf (some b))]) (by decide) (Nat.le_of_ble_eq_true rfl) rfl (fun fr ws hM1 => ?_)
  show WF G l cX6_wire RX6 4 (Option.none : Option Jvm.ClassFile.FieldType) "wire" 105 mc ms (gFX G (hMR G (hR0 P)) (fun u => [u.1, fr]) (hMX G X) (fun u => [u.1, fr]) mc ms []) 0 0 [ws, fr] 0 [(0, va_rf (some b))] []
  have hB : 0 ≤ mc ∧ 0 ≤ ms := ⟨Nat.zero_le _, Nat.zero_le _⟩
  refine ww_aloadQ_n dX6_wire_0 0 rfl ?_
  refine ww_aloadQ_n dX6_wire_1 0 rfl ?_
  obtain ⟨x_1, hx, h⟩ := h
  refine wm_getQ hM1 rfl in_X6 (ci := 5) rfl (by decide) 2 (Nat.le_of_ble_eq_true rfl) hx (fun _ _ => rfl) q402 (fun _ _ h => h) dX6_wire_2 ?_
  obtain ⟨a_3, ea_3, h⟩ := h
  subst ea_3
  obtain ⟨x_2, hx, h⟩ := h
  refine wm_getQN hM1 rfl in_X4 (ci := 4) rfl (by decide) 1 (Nat.le_of_ble_eq_true rfl) hx (fun _ _ => rfl) q301 (fun _ _ h => h) dX6_wire_5 ?_
  obtain ⟨a_4, ea_4, h⟩ := h
  subst ea_4
  obtain ⟨hg, h⟩ := h
  refine wm_callV (n := 0) hM1 (tm_J2_size h) rfl hg rfl (lw_V q1438 q856 q857 q113 q858) ⟨by decide, by decide, by decide +kernel⟩ rfl ⟨Nat.le_of_ble_eq_true rfl, Nat.le_of_ble_eq_true rfl⟩ rfl (by simp only [List.map_cons, List.map_nil, rf_cat, vI_cat, vL_cat, List.sum_cons, List.sum_nil]; decide) dX6_wire_8 hB ?_
  clear h
  rintro _ _ ws ⟨rfl, y_5, rfl, h⟩ hM2
  refine ww_st1 ?_
  refine ww_bipush (v := 10) dX6_wire_11 rfl ?_
  obtain ⟨r_7, h⟩ := h
  obtain ⟨J21, hJ21, h⟩ := h
  have kJ21 : ∀ (s1_21 : Int), J21 s1_21 → ∀ ws : va_W, Mrep G ws μ → (0 ≤ mc ∧ 0 ≤ ms) → WF G l cX6_wire RX6 4 (Option.none : Option Jvm.ClassFile.FieldType) "wire" 105 mc ms (gFX G (hMR G (hR0 P)) (fun u => [u.1, fr]) (hMX G X) (fun u => [u.1, fr]) mc ms []) 0 0 [ws, fr] 21 [(0, va_rf (some b))] [vI s1_21, va_rf (some b)] := by
    clear h
    intro s1_21 hj ws hM3 hB
    have h := hJ21 s1_21 hj
    refine ww_iconst dX6_wire_21 ?_
    obtain ⟨hg, h⟩ := h
    obtain ⟨c_8, s_9, b_10, h⟩ := h
    refine wm_callX (n := 2) hM3 (tm_X6_must h) rfl hg rfl (lw_V q696 q698 qs4 q118 q699) ⟨by decide, by decide, by decide +kernel⟩ rfl ⟨Nat.le_of_ble_eq_true rfl, Nat.le_of_ble_eq_true rfl⟩ rfl (Nat.le_of_ble_eq_true rfl) dX6_wire_22 b_10 ?_ ?_
    · clear h
      intro q_12 E_13 μ_14 ws h hM4
      have hB := b_10
      exact wx_out (fun _ hz => nomatch hz) (ws, μ_14) ⟨hM4, h⟩ rfl hB.1 hB.2
    · clear h
      rintro _ μ_11 ws ⟨rfl, h⟩ hM5
      have hB := b_10
      refine ww_st0 ?_
      refine ww_aloadQ_n dX6_wire_25 0 rfl ?_
      obtain ⟨hg, h⟩ := h
      obtain ⟨c_15, s_16, b_17, h⟩ := h
      refine wm_callV (n := 0) hM5 (tm_X6_go h) rfl hg rfl (lw_V q439 q441 qs0 q118 q442) ⟨by decide, by decide, by decide +kernel⟩ rfl ⟨Nat.le_of_ble_eq_true rfl, Nat.le_of_ble_eq_true rfl⟩ rfl (Nat.le_of_ble_eq_true rfl) dX6_wire_26 b_17 ?_
      clear h
      rintro _ μ_18 ws ⟨rfl, h⟩ hM6
      have hB := b_17
      refine ww_st0 ?_
      refine ww_aloadQ_n dX6_wire_29 0 rfl ?_
      refine ww_aloadQ_n dX6_wire_30 0 rfl ?_
      obtain ⟨x_19, hx, h⟩ := h
      refine wm_getQ hM6 rfl in_X6 (ci := 5) rfl (by decide) 1 (Nat.le_of_ble_eq_true rfl) hx (fun _ _ => rfl) q400 (fun _ _ h => h) dX6_wire_31 ?_
      obtain ⟨a_21, ea_21, h⟩ := h
      subst ea_21
      obtain ⟨x_20, hx, h⟩ := h
      refine wm_getQN hM6 rfl in_X2 (ci := 2) rfl (by decide) 3 (Nat.le_of_ble_eq_true rfl) hx (fun _ _ => rfl) q269 (fun _ _ h => h) dX6_wire_34 ?_
      obtain ⟨hg, h⟩ := h
      obtain ⟨c_22, s_23, b_24, h⟩ := h
      refine wm_callXH (n := 1) hM6 (tm_X6_known h) rfl hg rfl (lw_VW q1377 q1379 qs25 q118 q1380) ⟨by decide, by decide, by decide +kernel⟩ rfl ⟨Nat.le_of_ble_eq_true rfl, Nat.le_of_ble_eq_true rfl⟩ rfl (Nat.le_of_ble_eq_true rfl) dX6_wire_37 b_24 ?_ ?_
      · clear h
        intro q_28 E_29 μ_30 ws h hM7
        have hB := b_24
        exact wx_out (fun _ hz => nomatch hz) (ws, μ_30) ⟨hM7, h⟩ rfl hB.1 hB.2
      · clear h
        rintro _ μ_27 ws ⟨y_25, rfl, h⟩ hM8
        have hB := b_24
        refine ww_st1 ?_
        refine ww_istore_n (i := 1) (lv2 := [(1, vI y_25), (0, va_rf (some b))]) dX6_wire_40 rfl (Nat.le_of_ble_eq_true rfl) rfl ?_
        refine ww_aloadQ_n dX6_wire_41 1 rfl ?_
        refine ww_iload_n dX6_wire_42 0 rfl ?_
        refine ww_iconst dX6_wire_43 ?_
        obtain ⟨hg, h⟩ := h
        obtain ⟨c_31, s_32, b_33, h⟩ := h
        refine wm_callX (n := 2) hM8 (tm_X6_leg h) rfl hg rfl (lw_V q1439 q1441 qs27 q118 q1442) ⟨by decide, by decide, by decide +kernel⟩ rfl ⟨Nat.le_of_ble_eq_true rfl, Nat.le_of_ble_eq_true rfl⟩ rfl (Nat.le_of_ble_eq_true rfl) dX6_wire_44 b_33 ?_ ?_
        · clear h
          intro q_37 E_38 μ_39 ws h hM9
          have hB := b_33
          exact wx_out (fun _ hz => nomatch hz) (ws, μ_39) ⟨hM9, h⟩ rfl hB.1 hB.2
        · clear h
          rintro _ μ_36 ws ⟨y_34, rfl, h⟩ hM10
          have hB := b_33
          refine ww_st1 ?_
          refine ww_istore_n (i := 2) (lv2 := [(2, vI y_34), (1, vI y_25), (0, va_rf (some b))]) dX6_wire_47 rfl (Nat.le_of_ble_eq_true rfl) rfl ?_
          refine ww_aloadQ_n dX6_wire_48 2 rfl ?_
          refine ww_aloadQ_n dX6_wire_49 2 rfl ?_
          obtain ⟨x_40, hx, h⟩ := h
          refine wm_getQ hM10 rfl in_X6 (ci := 5) rfl (by decide) 1 (Nat.le_of_ble_eq_true rfl) hx (fun _ _ => rfl) q400 (fun _ _ h => h) dX6_wire_50 ?_
          obtain ⟨a_42, ea_42, h⟩ := h
          subst ea_42
          obtain ⟨x_41, hx, h⟩ := h
          refine wm_getQN hM10 rfl in_X2 (ci := 2) rfl (by decide) 3 (Nat.le_of_ble_eq_true rfl) hx (fun _ _ => rfl) q269 (fun _ _ h => h) dX6_wire_53 ?_
          obtain ⟨hg, h⟩ := h
          obtain ⟨c_43, s_44, b_45, h⟩ := h
          refine wm_callXH (n := 1) hM10 (tm_X6_known h) rfl hg rfl (lw_VW q1377 q1379 qs25 q118 q1380) ⟨by decide, by decide, by decide +kernel⟩ rfl ⟨Nat.le_of_ble_eq_true rfl, Nat.le_of_ble_eq_true rfl⟩ rfl (Nat.le_of_ble_eq_true rfl) dX6_wire_56 b_45 ?_ ?_
          · clear h
            intro q_49 E_50 μ_51 ws h hM11
            have hB := b_45
            exact wx_out (fun _ hz => nomatch hz) (ws, μ_51) ⟨hM11, h⟩ rfl hB.1 hB.2
          · clear h
            rintro _ μ_48 ws ⟨y_46, rfl, h⟩ hM12
            have hB := b_45
            refine ww_st1 ?_
            refine ww_istore_n (i := 3) (lv2 := [(3, vI y_46), (2, vI y_34), (1, vI y_25), (0, va_rf (some b))]) dX6_wire_59 rfl (Nat.le_of_ble_eq_true rfl) rfl ?_
            refine ww_aloadQ_n dX6_wire_60 3 rfl ?_
            obtain ⟨x_52, hx, h⟩ := h
            refine wm_getQ hM12 rfl in_X6 (ci := 5) rfl (by decide) 2 (Nat.le_of_ble_eq_true rfl) hx (fun _ _ => rfl) q402 (fun _ _ h => h) dX6_wire_61 ?_
            obtain ⟨b_54, h⟩ := h
            refine wm_new hM12 in_X13 tyX13_ok q1448 q1449 q147 (ci := 10) rfl dfl_10 b_54.1 b_54.2 dX6_wire_64 (fun q_53 ws hq hM13 => ?_)
            replace h := h q_53 hq
            have hB := b_54
            refine ww_dup dX6_wire_67 (rf_cat _) ?_
            refine ww_iload_n dX6_wire_68 2 rfl ?_
            refine ww_iload_n dX6_wire_69 1 rfl ?_
            refine ww_iload_n dX6_wire_70 0 rfl ?_
            refine ww_aloadQ_n dX6_wire_71 3 rfl ?_
            refine ww_iload_n dX6_wire_72 0 rfl ?_
            refine ww_iload_n dX6_wire_73 2 rfl ?_
            refine ww_iload_n dX6_wire_74 0 rfl ?_
            obtain ⟨r_55, r_56, h⟩ := h
            obtain ⟨J83, hJ83, h⟩ := h
            have kJ83 : ∀ (s8_83 : Int), J83 s8_83 → ∀ ws : va_W, Mrep G ws (hs μ_48 q_53 (hO 10 (fun _ => 0) (fun _ => none))) → (0 + c_8 + c_15 + c_22 + c_31 + c_43 + 1 ≤ mc ∧ 0 + s_9 + s_16 + s_23 + s_32 + s_44 + 4 ≤ ms) → WF G l cX6_wire RX6 4 (Option.none : Option Jvm.ClassFile.FieldType) "wire" 105 mc ms (gFX G (hMR G (hR0 P)) (fun u => [u.1, fr]) (hMX G X) (fun u => [u.1, fr]) mc ms []) (0 + c_8 + c_15 + c_22 + c_31 + c_43 + 1) (0 + s_9 + s_16 + s_23 + s_32 + s_44 + 4) [ws, fr] 83 [] [vI s8_83, vI y_46, va_rf (some b), vI y_46, vI y_34, vI y_25, va_rf (some q_53), va_rf (some q_53), va_rf x_52] := by
              clear h
              intro s8_83 hj ws hM14 hB
              have h := hJ83 s8_83 hj
              obtain ⟨hg, h⟩ := h
              obtain ⟨c_57, s_58, b_59, h⟩ := h
              refine wm_callX (n := 2) hM14 (tm_X6_leg h) rfl hg rfl (lw_V q1439 q1441 qs27 q118 q1442) ⟨by decide, by decide, by decide +kernel⟩ rfl ⟨Nat.le_of_ble_eq_true rfl, Nat.le_of_ble_eq_true rfl⟩ rfl (by simp only [List.map_cons, List.map_nil, rf_cat, vI_cat, vL_cat, List.sum_cons, List.sum_nil]; decide) dX6_wire_83 b_59 ?_ ?_
              · clear h
                intro q_63 E_64 μ_65 ws h hM15
                have hB := b_59
                exact wx_out (fun _ hz => nomatch hz) (ws, μ_65) ⟨hM15, h⟩ rfl hB.1 hB.2
              · clear h
                rintro _ μ_62 ws ⟨y_60, rfl, h⟩ hM16
                have hB := b_59
                refine ww_st1 ?_
                refine wm_callIN (n := 4) hM16 (tm_X13_init h) rfl q1450 q1452 q147 q1451 rfl ⟨by decide, by decide, by decide +kernel⟩ rfl ⟨Nat.le_of_ble_eq_true rfl, Nat.le_of_ble_eq_true rfl⟩ rfl (by simp only [List.map_cons, List.map_nil, rf_cat, vI_cat, vL_cat, List.sum_cons, List.sum_nil]; decide) dX6_wire_86 hB ?_
                clear h
                rintro _ μ_66 ws ⟨rfl, h⟩ hM17
                refine ww_st0 ?_
                obtain ⟨a_67, ea_67, h⟩ := h
                subst ea_67
                obtain ⟨hg, h⟩ := h
                obtain ⟨c_68, s_69, b_70, h⟩ := h
                refine wm_callV (n := 1) hM17 (tm_X4_adds h) rfl hg rfl (lw_V q1470 q1471 q1472 q116 q1473) ⟨by decide, by decide, by decide +kernel⟩ rfl ⟨Nat.le_of_ble_eq_true rfl, Nat.le_of_ble_eq_true rfl⟩ rfl (Nat.le_of_ble_eq_true rfl) dX6_wire_89 b_70 ?_
                clear h
                rintro _ μ_71 ws ⟨rfl, h⟩ hM18
                have hB := b_70
                refine ww_st0 ?_
                refine wx_lift ?_
                exact ww_vret (ws, μ_71) rfl ⟨hM18, ⟨rfl, h⟩⟩ rfl hB.1 hB.2 dX6_wire_92
            refine ww_icmp_ne (tgt := 82) dX6_wire_75 (by decide) r_55 r_56 (fun c => ?_) (fun c => ?_)
            · replace h := h.1 c
              refine ww_iconst dX6_wire_82 ?_
              refine ww_lv [] rfl ?_
              exact kJ83 _ h _ hM13 hB
            · replace h := h.2 c
              refine ww_iload_n dX6_wire_78 1 rfl ?_
              refine ww_goto (tgt := 83) dX6_wire_79 (by decide) ?_
              refine ww_lv [] rfl ?_
              exact kJ83 _ h _ hM13 hB
  refine ww_icmp_ge (tgt := 20) dX6_wire_13 (by decide) r_7 (by decide) (fun c => ?_) (fun c => ?_)
  · replace h := h.1 c
    refine ww_iconst dX6_wire_20 ?_
    exact kJ21 _ h _ hM2 hB
  · replace h := h.2 (Int.not_le.mp c)
    refine ww_iconst dX6_wire_16 ?_
    refine ww_goto (tgt := 21) dX6_wire_17 (by decide) ?_
    exact kJ21 _ h _ hM2 hB
/-! X6_read: HoloNet$Reader read ()V; flags (True, True, True), depth 106 -/
def wc_X6_read (ad : Nat → Nat) (mc ms : Nat) (μ : HM) (b : Nat) (P : HM → Prop) (X : Nat → String → HM → Prop) : Prop :=
  gC μ b = some 5 ∧
  ∃ c_1 s_2 : Nat, (0 + c_1 ≤ mc ∧ 0 + s_2 ≤ ms) ∧
  wc_X6_go ad c_1 s_2 μ b (fun μ_4 =>
    ∃ x_5 : Option Nat, gQ μ_4 b 5 6 = some x_5 ∧
    ∃ a_6 : Nat, x_5 = some a_6 ∧
    gC μ_4 a_6 = some 22 ∧
    wc_J7_equals ad μ_4 a_6 (some (ad 11)) (fun y_7 =>
      ∃ I57 : Nat → HM → Nat → Nat → Prop, (∀ (n57 : Nat) (μ57 : HM) (uc57 : Nat) (us57 : Nat), I57 n57 μ57 uc57 us57 →
        ∃ x_9 : Int, gI μ57 b 5 9 = some x_9 ∧
        rI x_9 ∧
        ((¬ x_9 = 0 →
          P μ57) ∧
        (x_9 = 0 →
          ∃ x_11 : Option Nat, gQ μ57 b 5 6 = some x_11 ∧
          ∃ a_12 : Nat, x_11 = some a_12 ∧
          gC μ57 a_12 = some 22 ∧
          wc_J7_hashCode ad μ57 a_12 (fun y_13 μ_15 =>
            rI y_13 ∧
            ∃ J191 : Int → Prop, (∀ (v2_191 : Int), J191 v2_191 →
              rI v2_191 ∧
              ∃ J276 : HM → Nat → Nat → Prop, (∀ (μ276 : HM) (uc276 : Nat) (us276 : Nat), J276 μ276 uc276 us276 →
                gC μ276 b = some 5 ∧
                ∃ c_18 s_19 : Nat, (uc276 + c_18 ≤ mc ∧ us276 + s_19 ≤ ms) ∧
                wc_X6_ends ad c_18 s_19 μ276 b (fun μ_21 =>
                  ∃ m : Nat, m < n57 ∧ I57 m μ_21 (uc276 + c_18) (us276 + s_19)) (fun q_22 E_23 μ_24 =>
                  X q_22 E_23 μ_24)) ∧
              (v2_191 = 0 →
                gC μ_15 b = some 5 ∧
                ∃ c_25 s_26 : Nat, (uc57 + c_25 ≤ mc ∧ us57 + s_26 ≤ ms) ∧
                wc_X6_table ad c_25 s_26 μ_15 b (fun μ_28 =>
                  J276 μ_28 (uc57 + c_25) (us57 + s_26)) (fun q_29 E_30 μ_31 =>
                  X q_29 E_30 μ_31)) ∧
              (v2_191 = 1 →
                gC μ_15 b = some 5 ∧
                ∃ c_32 s_33 : Nat, (uc57 + c_32 ≤ mc ∧ us57 + s_33 ≤ ms) ∧
                wc_X6_gate ad c_32 s_33 μ_15 b (fun μ_35 =>
                  J276 μ_35 (uc57 + c_32) (us57 + s_33)) (fun q_36 E_37 μ_38 =>
                  X q_36 E_37 μ_38)) ∧
              (v2_191 = 2 →
                gC μ_15 b = some 5 ∧
                ∃ c_39 s_40 : Nat, (uc57 + c_39 ≤ mc ∧ us57 + s_40 ≤ ms) ∧
                wc_X6_base ad c_39 s_40 μ_15 b (fun μ_42 =>
                  J276 μ_42 (uc57 + c_39) (us57 + s_40)) (fun q_43 E_44 μ_45 =>
                  X q_43 E_44 μ_45)) ∧
              (v2_191 = 3 →
                gC μ_15 b = some 5 ∧
                ∃ c_46 s_47 : Nat, (uc57 + c_46 ≤ mc ∧ us57 + s_47 ≤ ms) ∧
                wc_X6_node ad c_46 s_47 μ_15 b (fun μ_49 =>
                  J276 μ_49 (uc57 + c_46) (us57 + s_47)) (fun q_50 E_51 μ_52 =>
                  X q_50 E_51 μ_52)) ∧
              (v2_191 = 4 →
                gC μ_15 b = some 5 ∧
                ∃ c_53 s_54 : Nat, (uc57 + c_53 ≤ mc ∧ us57 + s_54 ≤ ms) ∧
                wc_X6_wire ad c_53 s_54 μ_15 b (fun μ_56 =>
                  J276 μ_56 (uc57 + c_53) (us57 + s_54)) (fun q_57 E_58 μ_59 =>
                  X q_57 E_58 μ_59)) ∧
              (v2_191 < 0 ∨ 4 < v2_191 →
                (uc57 + 1 ≤ mc ∧ us57 + 7 ≤ ms) ∧ ∀ q_60 : Nat, μ_15 q_60 = none →
                ∃ x_62 : Int, gI (hs μ_15 q_60 (hO 6 (fun _ => 0) (fun _ => none))) b 5 5 = some x_62 ∧
                wc_X7_init ad (hs μ_15 q_60 (hO 6 (fun _ => 0) (fun _ => none))) q_60 x_62 1 (fun μ_63 =>
                  ∃ (fi_64 : Nat → Int) (fq_65 : Nat → Option Nat), μ_63 q_60 = some (hO 6 fi_64 fq_65) ∧ X q_60 "HoloNet$Fault" μ_63))) ∧
            (y_13 = 3016401 →
              gC μ_15 a_12 = some 22 ∧
              wc_J7_equals ad μ_15 a_12 (some (ad 14)) (fun y_66 =>
                ((y_66 = 0 →
                  J191 (-1)) ∧
                (¬ y_66 = 0 →
                  J191 2)))) ∧
            (y_13 = 3165387 →
              gC μ_15 a_12 = some 22 ∧
              wc_J7_equals ad μ_15 a_12 (some (ad 13)) (fun y_68 =>
                ((y_68 = 0 →
                  J191 (-1)) ∧
                (¬ y_68 = 0 →
                  J191 1)))) ∧
            (y_13 = 3386882 →
              gC μ_15 a_12 = some 22 ∧
              wc_J7_equals ad μ_15 a_12 (some (ad 15)) (fun y_70 =>
                ((y_70 = 0 →
                  J191 (-1)) ∧
                (¬ y_70 = 0 →
                  J191 3)))) ∧
            (y_13 = 3649669 →
              gC μ_15 a_12 = some 22 ∧
              wc_J7_equals ad μ_15 a_12 (some (ad 16)) (fun y_72 =>
                ((y_72 = 0 →
                  J191 (-1)) ∧
                (¬ y_72 = 0 →
                  J191 4)))) ∧
            (y_13 = 110115790 →
              gC μ_15 a_12 = some 22 ∧
              wc_J7_equals ad μ_15 a_12 (some (ad 12)) (fun y_74 =>
                ((y_74 = 0 →
                  J191 (-1)) ∧
                (¬ y_74 = 0 →
                  J191 0)))) ∧
            (¬ y_13 = 3016401 ∧ ¬ y_13 = 3165387 ∧ ¬ y_13 = 3386882 ∧ ¬ y_13 = 3649669 ∧ ¬ y_13 = 110115790 →
              J191 (-1)))))) ∧
      ((y_7 = 0 →
        ∃ m : Nat, I57 m μ_4 (0 + c_1) (0 + s_2)) ∧
      (¬ y_7 = 0 →
        gC μ_4 b = some 5 ∧
        ∃ c_76 s_77 : Nat, (0 + c_1 + c_76 ≤ mc ∧ 0 + s_2 + s_77 ≤ ms) ∧
        wc_X6_go ad c_76 s_77 μ_4 b (fun μ_79 =>
          gC μ_79 b = some 5 ∧
          ∃ c_80 s_81 : Nat, (0 + c_1 + c_76 + c_80 ≤ mc ∧ 0 + s_2 + s_77 + s_81 ≤ ms) ∧
          wc_X6_looks ad c_80 s_81 μ_79 b 3 97 (fun μ_83 =>
            ∃ x_87 : Int, gI μ_83 b 5 7 = some x_87 ∧
            wc_X1_isPrime ad μ_83 x_87 (fun y_88 =>
              gC μ_83 b = some 5 ∧
              ∃ c_90 s_91 : Nat, (0 + c_1 + c_76 + c_80 + c_90 ≤ mc ∧ 0 + s_2 + s_77 + s_81 + s_91 ≤ ms) ∧
              wc_X6_must ad c_90 s_91 μ_83 b y_88 4 (fun μ_93 =>
                ∃ x_97 : Option Nat, gQ μ_93 b 5 1 = some x_97 ∧
                gC μ_93 b = some 5 ∧
                ∃ c_98 s_99 : Nat, (0 + c_1 + c_76 + c_80 + c_90 + c_98 ≤ mc ∧ 0 + s_2 + s_77 + s_81 + s_91 + s_99 ≤ ms) ∧
                wc_X6_number ad c_98 s_99 μ_93 b 3 97 (fun y_101 μ_103 =>
                  ∃ a_107 : Nat, x_97 = some a_107 ∧
                  ∃ (fi_108 : Nat → Int) (fq_109 : Nat → Option Nat), μ_103 a_107 = some (hO 2 fi_108 fq_109) ∧ 
                  gC (hs μ_103 a_107 (hO 2 (upF fi_108 0 y_101) fq_109)) b = some 5 ∧
                  ∃ c_110 s_111 : Nat, (0 + c_1 + c_76 + c_80 + c_90 + c_98 + c_110 ≤ mc ∧ 0 + s_2 + s_77 + s_81 + s_91 + s_99 + s_111 ≤ ms) ∧
                  wc_X6_ends ad c_110 s_111 (hs μ_103 a_107 (hO 2 (upF fi_108 0 y_101) fq_109)) b (fun μ_113 =>
                    ∃ m : Nat, I57 m μ_113 (0 + c_1 + c_76 + c_80 + c_90 + c_98 + c_110) (0 + s_2 + s_77 + s_81 + s_91 + s_99 + s_111)) (fun q_114 E_115 μ_116 =>
                    X q_114 E_115 μ_116)) (fun q_104 E_105 μ_106 =>
                  X q_104 E_105 μ_106)) (fun q_94 E_95 μ_96 =>
                X q_94 E_95 μ_96))) (fun q_84 E_85 μ_86 =>
            X q_84 E_85 μ_86))))))
set_option maxHeartbeats 4000000 in
theorem tm_X6_read {G : g_G} {l : Launch} {mc ms : Nat} {μ : HM} {b : Nat} {P : HM → Prop} {X : Nat → String → HM → Prop} (h : wc_X6_read (g_ad G) mc ms μ b P X) : CMX G l yX6_read cX6_read 3 (Option.none : Option Jvm.ClassFile.FieldType) 106 mc ms [.ref b] μ (hR0 P) X := by
  unfold wc_X6_read at h
  refine wm_ofX (lvs := [(0, va_rf (some b))]) (by decide) (Nat.le_of_ble_eq_true rfl) rfl (fun fr ws hM1 => ?_)
  show WF G l cX6_read RX6 3 (Option.none : Option Jvm.ClassFile.FieldType) "read" 106 mc ms (gFX G (hMR G (hR0 P)) (fun u => [u.1, fr]) (hMX G X) (fun u => [u.1, fr]) mc ms []) 0 0 [ws, fr] 0 [(0, va_rf (some b))] []
  have hB : 0 ≤ mc ∧ 0 ≤ ms := ⟨Nat.zero_le _, Nat.zero_le _⟩
  refine ww_aloadQ_n dX6_read_0 0 rfl ?_
  obtain ⟨hg, h⟩ := h
  obtain ⟨c_1, s_2, b_3, h⟩ := h
  refine wm_callV (n := 0) hM1 (tm_X6_go h) rfl hg rfl (lw_V q439 q441 qs0 q118 q442) ⟨by decide, by decide, by decide +kernel⟩ rfl ⟨Nat.le_of_ble_eq_true rfl, Nat.le_of_ble_eq_true rfl⟩ rfl (Nat.le_of_ble_eq_true rfl) dX6_read_1 b_3 ?_
  clear h
  rintro _ μ_4 ws ⟨rfl, h⟩ hM2
  have hB := b_3
  refine ww_st0 ?_
  refine ww_aloadQ_n dX6_read_4 0 rfl ?_
  obtain ⟨x_5, hx, h⟩ := h
  refine wm_getQ hM2 rfl in_X6 (ci := 5) rfl (by decide) 6 (Nat.le_of_ble_eq_true rfl) hx (fun _ _ => rfl) q407 (fun _ _ h => h) dX6_read_5 ?_
  refine wm_ldcS 1 rfl dX6_read_8 ?_
  obtain ⟨a_6, ea_6, h⟩ := h
  subst ea_6
  obtain ⟨hg, h⟩ := h
  refine wm_callV (n := 1) hM2 (tm_J7_equals h) rfl hg rfl (lw_V q684 q685 q686 q121 q687) ⟨by decide, by decide, by decide +kernel⟩ rfl ⟨Nat.le_of_ble_eq_true rfl, Nat.le_of_ble_eq_true rfl⟩ rfl (Nat.le_of_ble_eq_true rfl) dX6_read_10 hB ?_
  clear h
  rintro _ _ ws ⟨rfl, y_7, rfl, z_8, h⟩ hM3
  refine ww_st1 ?_
  obtain ⟨I57, hI57, h⟩ := h
  have kI57 : ∀ (n57 : Nat), ∀ (μ57 : HM), ∀ (uc57 : Nat), ∀ (us57 : Nat), I57 n57 μ57 uc57 us57 → ∀ ws : va_W, Mrep G ws μ57 → (uc57 ≤ mc ∧ us57 ≤ ms) → WF G l cX6_read RX6 3 (Option.none : Option Jvm.ClassFile.FieldType) "read" 106 mc ms (gFX G (hMR G (hR0 P)) (fun u => [u.1, fr]) (hMX G X) (fun u => [u.1, fr]) mc ms []) uc57 us57 [ws, fr] 57 [(0, va_rf (some b))] [] := by
    clear h
    intro n57
    induction n57 using Nat.strongRecOn with
    | ind n57 ih57 =>
      intro μ57 uc57 us57 hj ws hM4 hB
      have h := hI57 n57 μ57 uc57 us57 hj
      refine ww_aloadQ_n dX6_read_57 0 rfl ?_
      obtain ⟨x_9, hx, h⟩ := h
      refine wm_getI hM4 rfl in_X6 (ci := 5) rfl (by decide) 9 (Nat.le_of_ble_eq_true rfl) hx (fun _ _ => rfl) q410 (fun _ _ h => h) dX6_read_58 ?_
      obtain ⟨r_10, h⟩ := h
      refine ww_if_ne (tgt := 283) dX6_read_61 (by decide) r_10 (fun c => ?_) (fun c => ?_)
      · replace h := h.1 c
        refine wx_lift ?_
        exact ww_vret (ws, μ57) rfl ⟨hM4, ⟨rfl, h⟩⟩ rfl hB.1 hB.2 dX6_read_283
      · replace h := h.2 c
        refine ww_aloadQ_n dX6_read_64 0 rfl ?_
        obtain ⟨x_11, hx, h⟩ := h
        refine wm_getQ hM4 rfl in_X6 (ci := 5) rfl (by decide) 6 (Nat.le_of_ble_eq_true rfl) hx (fun _ _ => rfl) q407 (fun _ _ h => h) dX6_read_65 ?_
        refine ww_astoreQ_n (i := 1) (lv2 := [(1, va_rf x_11), (0, va_rf (some b))]) dX6_read_68 rfl (Nat.le_of_ble_eq_true rfl) rfl ?_
        refine ww_iconst dX6_read_69 ?_
        refine ww_istore_n (i := 2) (lv2 := [(2, vI (-1)), (1, va_rf x_11), (0, va_rf (some b))]) dX6_read_70 rfl (Nat.le_of_ble_eq_true rfl) (by simp [rf_cat, vI_cat, vL_cat, ref_cat]) ?_
        refine ww_aloadQ_n dX6_read_71 1 rfl ?_
        obtain ⟨a_12, ea_12, h⟩ := h
        subst ea_12
        obtain ⟨hg, h⟩ := h
        refine wm_callV (n := 0) hM4 (tm_J7_hashCode h) rfl hg rfl (lw_V q789 q790 q791 q121 q792) ⟨by decide, by decide, by decide +kernel⟩ rfl ⟨Nat.le_of_ble_eq_true rfl, Nat.le_of_ble_eq_true rfl⟩ rfl (Nat.le_of_ble_eq_true rfl) dX6_read_72 hB ?_
        clear h
        rintro _ μ_15 ws ⟨y_13, rfl, h⟩ hM5
        refine ww_st1 ?_
        obtain ⟨r_16, h⟩ := h
        obtain ⟨J191, hJ191, h⟩ := h
        have kJ191 : ∀ (v2_191 : Int), J191 v2_191 → ∀ ws : va_W, Mrep G ws μ_15 → (uc57 ≤ mc ∧ us57 ≤ ms) → WF G l cX6_read RX6 3 (Option.none : Option Jvm.ClassFile.FieldType) "read" 106 mc ms (gFX G (hMR G (hR0 P)) (fun u => [u.1, fr]) (hMX G X) (fun u => [u.1, fr]) mc ms []) uc57 us57 [ws, fr] 191 [(0, va_rf (some b)), (2, vI v2_191)] [] := by
          clear h
          intro v2_191 hj ws hM6 hB
          have h := hJ191 v2_191 hj
          refine ww_iload_n dX6_read_191 1 rfl ?_
          obtain ⟨r_17, h⟩ := h
          obtain ⟨J276, hJ276, h⟩ := h
          have kJ276 : ∀ (μ276 : HM), ∀ (uc276 : Nat), ∀ (us276 : Nat), J276 μ276 uc276 us276 → ∀ ws : va_W, Mrep G ws μ276 → (uc276 ≤ mc ∧ us276 ≤ ms) → WF G l cX6_read RX6 3 (Option.none : Option Jvm.ClassFile.FieldType) "read" 106 mc ms (gFX G (hMR G (hR0 P)) (fun u => [u.1, fr]) (hMX G X) (fun u => [u.1, fr]) mc ms []) uc276 us276 [ws, fr] 276 [(0, va_rf (some b))] [] := by
            clear h
            intro μ276 uc276 us276 hj ws hM7 hB
            have h := hJ276 μ276 uc276 us276 hj
            refine ww_aloadQ_n dX6_read_276 0 rfl ?_
            obtain ⟨hg, h⟩ := h
            obtain ⟨c_18, s_19, b_20, h⟩ := h
            refine wm_callX (n := 0) hM7 (tm_X6_ends h) rfl hg rfl (lw_V q785 q787 qs8 q118 q788) ⟨by decide, by decide, by decide +kernel⟩ rfl ⟨Nat.le_of_ble_eq_true rfl, Nat.le_of_ble_eq_true rfl⟩ rfl (Nat.le_of_ble_eq_true rfl) dX6_read_277 b_20 ?_ ?_
            · clear h
              intro q_22 E_23 μ_24 ws h hM8
              have hB := b_20
              exact wx_out (fun _ hz => nomatch hz) (ws, μ_24) ⟨hM8, h⟩ rfl hB.1 hB.2
            · clear h
              rintro _ μ_21 ws ⟨rfl, h⟩ hM9
              have hB := b_20
              refine ww_st0 ?_
              refine ww_goto (tgt := 57) dX6_read_280 (by decide) ?_
              obtain ⟨m, hm, h⟩ := h
              exact ih57 m hm _ _ _ h _ hM9 hB
          by_cases c0 : v2_191 = 0
          · replace h := h.1 c0
            refine ww_tableIn (tgt := 228) dX6_read_192 r_17 (by rw [c0]; decide) (by rw [c0]; decide) (by rw [c0]; rfl) (by decide) ?_
            refine ww_aloadQ_n dX6_read_228 0 rfl ?_
            obtain ⟨hg, h⟩ := h
            obtain ⟨c_25, s_26, b_27, h⟩ := h
            refine wm_callX (n := 0) hM6 (tm_X6_table h) rfl hg rfl (lw_V q843 q845 qs9 q118 q846) ⟨by decide, by decide, by decide +kernel⟩ rfl ⟨Nat.le_of_ble_eq_true rfl, Nat.le_of_ble_eq_true rfl⟩ rfl (Nat.le_of_ble_eq_true rfl) dX6_read_229 b_27 ?_ ?_
            · clear h
              intro q_29 E_30 μ_31 ws h hM10
              have hB := b_27
              exact wx_out (fun _ hz => nomatch hz) (ws, μ_31) ⟨hM10, h⟩ rfl hB.1 hB.2
            · clear h
              rintro _ μ_28 ws ⟨rfl, h⟩ hM11
              have hB := b_27
              refine ww_st0 ?_
              refine ww_goto (tgt := 276) dX6_read_232 (by decide) ?_
              refine ww_lv [0] rfl ?_
              exact kJ276 _ _ _ h _ hM11 hB
          by_cases c1 : v2_191 = 1
          · replace h := h.2.1 c1
            refine ww_tableIn (tgt := 235) dX6_read_192 r_17 (by rw [c1]; decide) (by rw [c1]; decide) (by rw [c1]; rfl) (by decide) ?_
            refine ww_aloadQ_n dX6_read_235 0 rfl ?_
            obtain ⟨hg, h⟩ := h
            obtain ⟨c_32, s_33, b_34, h⟩ := h
            refine wm_callX (n := 0) hM6 (tm_X6_gate h) rfl hg rfl (lw_V q1312 q1314 qs21 q118 q1315) ⟨by decide, by decide, by decide +kernel⟩ rfl ⟨Nat.le_of_ble_eq_true rfl, Nat.le_of_ble_eq_true rfl⟩ rfl (Nat.le_of_ble_eq_true rfl) dX6_read_236 b_34 ?_ ?_
            · clear h
              intro q_36 E_37 μ_38 ws h hM12
              have hB := b_34
              exact wx_out (fun _ hz => nomatch hz) (ws, μ_38) ⟨hM12, h⟩ rfl hB.1 hB.2
            · clear h
              rintro _ μ_35 ws ⟨rfl, h⟩ hM13
              have hB := b_34
              refine ww_st0 ?_
              refine ww_goto (tgt := 276) dX6_read_239 (by decide) ?_
              refine ww_lv [0] rfl ?_
              exact kJ276 _ _ _ h _ hM13 hB
          by_cases c2 : v2_191 = 2
          · replace h := h.2.2.1 c2
            refine ww_tableIn (tgt := 242) dX6_read_192 r_17 (by rw [c2]; decide) (by rw [c2]; decide) (by rw [c2]; rfl) (by decide) ?_
            refine ww_aloadQ_n dX6_read_242 0 rfl ?_
            obtain ⟨hg, h⟩ := h
            obtain ⟨c_39, s_40, b_41, h⟩ := h
            refine wm_callX (n := 0) hM6 (tm_X6_base h) rfl hg rfl (lw_V q1355 q1357 qs23 q118 q1358) ⟨by decide, by decide, by decide +kernel⟩ rfl ⟨Nat.le_of_ble_eq_true rfl, Nat.le_of_ble_eq_true rfl⟩ rfl (Nat.le_of_ble_eq_true rfl) dX6_read_243 b_41 ?_ ?_
            · clear h
              intro q_43 E_44 μ_45 ws h hM14
              have hB := b_41
              exact wx_out (fun _ hz => nomatch hz) (ws, μ_45) ⟨hM14, h⟩ rfl hB.1 hB.2
            · clear h
              rintro _ μ_42 ws ⟨rfl, h⟩ hM15
              have hB := b_41
              refine ww_st0 ?_
              refine ww_goto (tgt := 276) dX6_read_246 (by decide) ?_
              refine ww_lv [0] rfl ?_
              exact kJ276 _ _ _ h _ hM15 hB
          by_cases c3 : v2_191 = 3
          · replace h := h.2.2.2.1 c3
            refine ww_tableIn (tgt := 249) dX6_read_192 r_17 (by rw [c3]; decide) (by rw [c3]; decide) (by rw [c3]; rfl) (by decide) ?_
            refine ww_aloadQ_n dX6_read_249 0 rfl ?_
            obtain ⟨hg, h⟩ := h
            obtain ⟨c_46, s_47, b_48, h⟩ := h
            refine wm_callX (n := 0) hM6 (tm_X6_node h) rfl hg rfl (lw_V q1373 q1375 qs24 q118 q1376) ⟨by decide, by decide, by decide +kernel⟩ rfl ⟨Nat.le_of_ble_eq_true rfl, Nat.le_of_ble_eq_true rfl⟩ rfl (Nat.le_of_ble_eq_true rfl) dX6_read_250 b_48 ?_ ?_
            · clear h
              intro q_50 E_51 μ_52 ws h hM16
              have hB := b_48
              exact wx_out (fun _ hz => nomatch hz) (ws, μ_52) ⟨hM16, h⟩ rfl hB.1 hB.2
            · clear h
              rintro _ μ_49 ws ⟨rfl, h⟩ hM17
              have hB := b_48
              refine ww_st0 ?_
              refine ww_goto (tgt := 276) dX6_read_253 (by decide) ?_
              refine ww_lv [0] rfl ?_
              exact kJ276 _ _ _ h _ hM17 hB
          by_cases c4 : v2_191 = 4
          · replace h := h.2.2.2.2.1 c4
            refine ww_tableIn (tgt := 256) dX6_read_192 r_17 (by rw [c4]; decide) (by rw [c4]; decide) (by rw [c4]; rfl) (by decide) ?_
            refine ww_aloadQ_n dX6_read_256 0 rfl ?_
            obtain ⟨hg, h⟩ := h
            obtain ⟨c_53, s_54, b_55, h⟩ := h
            refine wm_callX (n := 0) hM6 (tm_X6_wire h) rfl hg rfl (lw_V q1434 q1436 qs26 q118 q1437) ⟨by decide, by decide, by decide +kernel⟩ rfl ⟨Nat.le_of_ble_eq_true rfl, Nat.le_of_ble_eq_true rfl⟩ rfl (Nat.le_of_ble_eq_true rfl) dX6_read_257 b_55 ?_ ?_
            · clear h
              intro q_57 E_58 μ_59 ws h hM18
              have hB := b_55
              exact wx_out (fun _ hz => nomatch hz) (ws, μ_59) ⟨hM18, h⟩ rfl hB.1 hB.2
            · clear h
              rintro _ μ_56 ws ⟨rfl, h⟩ hM19
              have hB := b_55
              refine ww_st0 ?_
              refine ww_goto (tgt := 276) dX6_read_260 (by decide) ?_
              refine ww_lv [0] rfl ?_
              exact kJ276 _ _ _ h _ hM19 hB
          have c : v2_191 < 0 ∨ 4 < v2_191 := by omega
          replace h := h.2.2.2.2.2 c
          refine ww_tableOut (tgt := 263) dX6_read_192 r_17 c (by decide) ?_
          obtain ⟨b_61, h⟩ := h
          refine wm_new hM6 in_X7 tyX7_ok q700 q701 q131 (ci := 6) rfl dfl_6 b_61.1 b_61.2 dX6_read_263 (fun q_60 ws hq hM20 => ?_)
          replace h := h q_60 hq
          have hB := b_61
          refine ww_dup dX6_read_266 (rf_cat _) ?_
          refine ww_aloadQ_n dX6_read_267 0 rfl ?_
          obtain ⟨x_62, hx, h⟩ := h
          refine wm_getI hM20 rfl in_X6 (ci := 5) rfl (by decide) 5 (Nat.le_of_ble_eq_true rfl) hx (fun _ _ => rfl) q406 (fun _ _ h => h) dX6_read_268 ?_
          refine ww_iconst dX6_read_271 ?_
          refine wm_callI (n := 2) hM20 (tm_X7_init h) rfl q754 q131 q752 q753 rfl ⟨by decide, by decide, by decide +kernel⟩ rfl ⟨Nat.le_of_ble_eq_true rfl, Nat.le_of_ble_eq_true rfl⟩ rfl (by simp only [List.map_cons, List.map_nil, rf_cat, vI_cat, vL_cat, List.sum_cons, List.sum_nil]; decide) dX6_read_272 hB ?_
          clear h
          rintro _ μ_63 ws ⟨rfl, h⟩ hM21
          refine ww_st0 ?_
          obtain ⟨fi_64, fq_65, hc, h⟩ := h
          exact wx_athrow hM21 rfl hc rfl dX6_read_275 (wx_out (fun _ hz => nomatch hz) (ws, μ_63) ⟨hM21, h⟩ rfl hB.1 hB.2)
        by_cases c0 : y_13 = 3016401
        · replace h := h.1 c0
          refine ww_lookup (tgt := 152) (off := 77) dX6_read_75 (by decide) (by rw [c0]; rfl) (by decide) ?_
          refine ww_aloadQ_n dX6_read_152 1 rfl ?_
          refine wm_ldcS 4 rfl dX6_read_153 ?_
          obtain ⟨hg, h⟩ := h
          refine wm_callV (n := 1) hM5 (tm_J7_equals h) rfl hg rfl (lw_V q684 q685 q686 q121 q687) ⟨by decide, by decide, by decide +kernel⟩ rfl ⟨Nat.le_of_ble_eq_true rfl, Nat.le_of_ble_eq_true rfl⟩ rfl (Nat.le_of_ble_eq_true rfl) dX6_read_155 hB ?_
          clear h
          rintro _ _ ws ⟨rfl, y_66, rfl, z_67, h⟩ hM22
          refine ww_st1 ?_
          refine ww_if_eq (tgt := 191) dX6_read_158 (by decide) (r_z z_67) (fun c => ?_) (fun c => ?_)
          · replace h := h.1 c
            refine ww_lv [2, 0] rfl ?_
            exact kJ191 _ h _ hM22 hB
          · replace h := h.2 c
            refine ww_iconst dX6_read_161 ?_
            refine ww_istore_n (i := 2) (lv2 := [(2, vI 2), (1, va_rf (some a_12)), (0, va_rf (some b))]) dX6_read_162 rfl (Nat.le_of_ble_eq_true rfl) rfl ?_
            refine ww_goto (tgt := 191) dX6_read_163 (by decide) ?_
            refine ww_lv [2, 0] rfl ?_
            exact kJ191 _ h _ hM22 hB
        by_cases c1 : y_13 = 3165387
        · replace h := h.2.1 c1
          refine ww_lookup (tgt := 138) (off := 63) dX6_read_75 (by decide) (by rw [c1]; rfl) (by decide) ?_
          refine ww_aloadQ_n dX6_read_138 1 rfl ?_
          refine wm_ldcS 3 rfl dX6_read_139 ?_
          obtain ⟨hg, h⟩ := h
          refine wm_callV (n := 1) hM5 (tm_J7_equals h) rfl hg rfl (lw_V q684 q685 q686 q121 q687) ⟨by decide, by decide, by decide +kernel⟩ rfl ⟨Nat.le_of_ble_eq_true rfl, Nat.le_of_ble_eq_true rfl⟩ rfl (Nat.le_of_ble_eq_true rfl) dX6_read_141 hB ?_
          clear h
          rintro _ _ ws ⟨rfl, y_68, rfl, z_69, h⟩ hM23
          refine ww_st1 ?_
          refine ww_if_eq (tgt := 191) dX6_read_144 (by decide) (r_z z_69) (fun c => ?_) (fun c => ?_)
          · replace h := h.1 c
            refine ww_lv [2, 0] rfl ?_
            exact kJ191 _ h _ hM23 hB
          · replace h := h.2 c
            refine ww_iconst dX6_read_147 ?_
            refine ww_istore_n (i := 2) (lv2 := [(2, vI 1), (1, va_rf (some a_12)), (0, va_rf (some b))]) dX6_read_148 rfl (Nat.le_of_ble_eq_true rfl) rfl ?_
            refine ww_goto (tgt := 191) dX6_read_149 (by decide) ?_
            refine ww_lv [2, 0] rfl ?_
            exact kJ191 _ h _ hM23 hB
        by_cases c2 : y_13 = 3386882
        · replace h := h.2.2.1 c2
          refine ww_lookup (tgt := 166) (off := 91) dX6_read_75 (by decide) (by rw [c2]; rfl) (by decide) ?_
          refine ww_aloadQ_n dX6_read_166 1 rfl ?_
          refine wm_ldcS 5 rfl dX6_read_167 ?_
          obtain ⟨hg, h⟩ := h
          refine wm_callV (n := 1) hM5 (tm_J7_equals h) rfl hg rfl (lw_V q684 q685 q686 q121 q687) ⟨by decide, by decide, by decide +kernel⟩ rfl ⟨Nat.le_of_ble_eq_true rfl, Nat.le_of_ble_eq_true rfl⟩ rfl (Nat.le_of_ble_eq_true rfl) dX6_read_169 hB ?_
          clear h
          rintro _ _ ws ⟨rfl, y_70, rfl, z_71, h⟩ hM24
          refine ww_st1 ?_
          refine ww_if_eq (tgt := 191) dX6_read_172 (by decide) (r_z z_71) (fun c => ?_) (fun c => ?_)
          · replace h := h.1 c
            refine ww_lv [2, 0] rfl ?_
            exact kJ191 _ h _ hM24 hB
          · replace h := h.2 c
            refine ww_iconst dX6_read_175 ?_
            refine ww_istore_n (i := 2) (lv2 := [(2, vI 3), (1, va_rf (some a_12)), (0, va_rf (some b))]) dX6_read_176 rfl (Nat.le_of_ble_eq_true rfl) rfl ?_
            refine ww_goto (tgt := 191) dX6_read_177 (by decide) ?_
            refine ww_lv [2, 0] rfl ?_
            exact kJ191 _ h _ hM24 hB
        by_cases c3 : y_13 = 3649669
        · replace h := h.2.2.2.1 c3
          refine ww_lookup (tgt := 180) (off := 105) dX6_read_75 (by decide) (by rw [c3]; rfl) (by decide) ?_
          refine ww_aloadQ_n dX6_read_180 1 rfl ?_
          refine wm_ldcS 6 rfl dX6_read_181 ?_
          obtain ⟨hg, h⟩ := h
          refine wm_callV (n := 1) hM5 (tm_J7_equals h) rfl hg rfl (lw_V q684 q685 q686 q121 q687) ⟨by decide, by decide, by decide +kernel⟩ rfl ⟨Nat.le_of_ble_eq_true rfl, Nat.le_of_ble_eq_true rfl⟩ rfl (Nat.le_of_ble_eq_true rfl) dX6_read_183 hB ?_
          clear h
          rintro _ _ ws ⟨rfl, y_72, rfl, z_73, h⟩ hM25
          refine ww_st1 ?_
          refine ww_if_eq (tgt := 191) dX6_read_186 (by decide) (r_z z_73) (fun c => ?_) (fun c => ?_)
          · replace h := h.1 c
            refine ww_lv [2, 0] rfl ?_
            exact kJ191 _ h _ hM25 hB
          · replace h := h.2 c
            refine ww_iconst dX6_read_189 ?_
            refine ww_istore_n (i := 2) (lv2 := [(2, vI 4), (1, va_rf (some a_12)), (0, va_rf (some b))]) dX6_read_190 rfl (Nat.le_of_ble_eq_true rfl) rfl ?_
            refine ww_lv [2, 0] rfl ?_
            exact kJ191 _ h _ hM25 hB
        by_cases c4 : y_13 = 110115790
        · replace h := h.2.2.2.2.1 c4
          refine ww_lookup (tgt := 124) (off := 49) dX6_read_75 (by decide) (by rw [c4]; rfl) (by decide) ?_
          refine ww_aloadQ_n dX6_read_124 1 rfl ?_
          refine wm_ldcS 2 rfl dX6_read_125 ?_
          obtain ⟨hg, h⟩ := h
          refine wm_callV (n := 1) hM5 (tm_J7_equals h) rfl hg rfl (lw_V q684 q685 q686 q121 q687) ⟨by decide, by decide, by decide +kernel⟩ rfl ⟨Nat.le_of_ble_eq_true rfl, Nat.le_of_ble_eq_true rfl⟩ rfl (Nat.le_of_ble_eq_true rfl) dX6_read_127 hB ?_
          clear h
          rintro _ _ ws ⟨rfl, y_74, rfl, z_75, h⟩ hM26
          refine ww_st1 ?_
          refine ww_if_eq (tgt := 191) dX6_read_130 (by decide) (r_z z_75) (fun c => ?_) (fun c => ?_)
          · replace h := h.1 c
            refine ww_lv [2, 0] rfl ?_
            exact kJ191 _ h _ hM26 hB
          · replace h := h.2 c
            refine ww_iconst dX6_read_133 ?_
            refine ww_istore_n (i := 2) (lv2 := [(2, vI 0), (1, va_rf (some a_12)), (0, va_rf (some b))]) dX6_read_134 rfl (Nat.le_of_ble_eq_true rfl) rfl ?_
            refine ww_goto (tgt := 191) dX6_read_135 (by decide) ?_
            refine ww_lv [2, 0] rfl ?_
            exact kJ191 _ h _ hM26 hB
        replace h := h.2.2.2.2.2 ⟨c0, c1, c2, c3, c4⟩
        refine ww_lookup (tgt := 191) (off := 116) dX6_read_75 (by decide) (by rw [rI_toInt r_16]; simp [Op.lookupswitch.offset, c0, c1, c2, c3, c4, (show ¬ (3016401 : Int) = y_13 from fun e => c0 e.symm), (show ¬ (3165387 : Int) = y_13 from fun e => c1 e.symm), (show ¬ (3386882 : Int) = y_13 from fun e => c2 e.symm), (show ¬ (3649669 : Int) = y_13 from fun e => c3 e.symm), (show ¬ (110115790 : Int) = y_13 from fun e => c4 e.symm)]) (by decide) ?_
        refine ww_lv [2, 0] rfl ?_
        exact kJ191 _ h _ hM5 hB
  refine ww_if_eq (tgt := 57) dX6_read_13 (by decide) (r_z z_8) (fun c => ?_) (fun c => ?_)
  · replace h := h.1 c
    obtain ⟨m, h⟩ := h
    exact kI57 m _ _ _ h _ hM3 hB
  · replace h := h.2 c
    refine ww_aloadQ_n dX6_read_16 0 rfl ?_
    obtain ⟨hg, h⟩ := h
    obtain ⟨c_76, s_77, b_78, h⟩ := h
    refine wm_callV (n := 0) hM3 (tm_X6_go h) rfl hg rfl (lw_V q439 q441 qs0 q118 q442) ⟨by decide, by decide, by decide +kernel⟩ rfl ⟨Nat.le_of_ble_eq_true rfl, Nat.le_of_ble_eq_true rfl⟩ rfl (Nat.le_of_ble_eq_true rfl) dX6_read_17 b_78 ?_
    clear h
    rintro _ μ_79 ws ⟨rfl, h⟩ hM27
    have hB := b_78
    refine ww_st0 ?_
    refine ww_aloadQ_n dX6_read_20 0 rfl ?_
    refine ww_iconst dX6_read_21 ?_
    refine ww_bipush (v := 97) dX6_read_22 rfl ?_
    obtain ⟨hg, h⟩ := h
    obtain ⟨c_80, s_81, b_82, h⟩ := h
    refine wm_callX (n := 2) hM27 (tm_X6_looks h) rfl hg rfl (lw_V q692 q694 qs3 q118 q695) ⟨by decide, by decide, by decide +kernel⟩ rfl ⟨Nat.le_of_ble_eq_true rfl, Nat.le_of_ble_eq_true rfl⟩ rfl (Nat.le_of_ble_eq_true rfl) dX6_read_24 b_82 ?_ ?_
    · clear h
      intro q_84 E_85 μ_86 ws h hM28
      have hB := b_82
      exact wx_out (fun _ hz => nomatch hz) (ws, μ_86) ⟨hM28, h⟩ rfl hB.1 hB.2
    · clear h
      rintro _ μ_83 ws ⟨rfl, h⟩ hM29
      have hB := b_82
      refine ww_st0 ?_
      refine ww_aloadQ_n dX6_read_27 0 rfl ?_
      refine ww_aloadQ_n dX6_read_28 0 rfl ?_
      obtain ⟨x_87, hx, h⟩ := h
      refine wm_getI hM29 rfl in_X6 (ci := 5) rfl (by decide) 7 (Nat.le_of_ble_eq_true rfl) hx (fun _ _ => rfl) q408 (fun _ _ h => h) dX6_read_29 ?_
      refine wm_callSN (n := 1) hM29 (tm_X1_isPrime h) q778 q780 q108 q779 ⟨by decide, by decide, by decide +kernel⟩ rfl ⟨Nat.le_of_ble_eq_true rfl, Nat.le_of_ble_eq_true rfl⟩ rfl (by simp only [List.map_cons, List.map_nil, rf_cat, vI_cat, vL_cat, List.sum_cons, List.sum_nil]; decide) dX6_read_32 hB ?_
      clear h
      rintro _ _ ws ⟨rfl, y_88, rfl, z_89, h⟩ hM30
      refine ww_st1 ?_
      refine ww_iconst dX6_read_35 ?_
      obtain ⟨hg, h⟩ := h
      obtain ⟨c_90, s_91, b_92, h⟩ := h
      refine wm_callX (n := 2) hM30 (tm_X6_must h) rfl hg rfl (lw_V q696 q698 qs4 q118 q699) ⟨by decide, by decide, by decide +kernel⟩ rfl ⟨Nat.le_of_ble_eq_true rfl, Nat.le_of_ble_eq_true rfl⟩ rfl (Nat.le_of_ble_eq_true rfl) dX6_read_36 b_92 ?_ ?_
      · clear h
        intro q_94 E_95 μ_96 ws h hM31
        have hB := b_92
        exact wx_out (fun _ hz => nomatch hz) (ws, μ_96) ⟨hM31, h⟩ rfl hB.1 hB.2
      · clear h
        rintro _ μ_93 ws ⟨rfl, h⟩ hM32
        have hB := b_92
        refine ww_st0 ?_
        refine ww_aloadQ_n dX6_read_39 0 rfl ?_
        obtain ⟨x_97, hx, h⟩ := h
        refine wm_getQ hM32 rfl in_X6 (ci := 5) rfl (by decide) 1 (Nat.le_of_ble_eq_true rfl) hx (fun _ _ => rfl) q400 (fun _ _ h => h) dX6_read_40 ?_
        refine ww_aloadQ_n dX6_read_43 0 rfl ?_
        refine ww_iconst dX6_read_44 ?_
        refine ww_bipush (v := 97) dX6_read_45 rfl ?_
        obtain ⟨hg, h⟩ := h
        obtain ⟨c_98, s_99, b_100, h⟩ := h
        refine wm_callX (n := 2) hM32 (tm_X6_number h) rfl hg rfl (lw_V q781 q783 qs7 q118 q784) ⟨by decide, by decide, by decide +kernel⟩ rfl ⟨Nat.le_of_ble_eq_true rfl, Nat.le_of_ble_eq_true rfl⟩ rfl (by simp only [List.map_cons, List.map_nil, rf_cat, vI_cat, vL_cat, List.sum_cons, List.sum_nil]; decide) dX6_read_47 b_100 ?_ ?_
        · clear h
          intro q_104 E_105 μ_106 ws h hM33
          have hB := b_100
          exact wx_out (fun _ hz => nomatch hz) (ws, μ_106) ⟨hM33, h⟩ rfl hB.1 hB.2
        · clear h
          rintro _ μ_103 ws ⟨y_101, rfl, h⟩ hM34
          have hB := b_100
          refine ww_st1 ?_
          obtain ⟨a_107, ea_107, h⟩ := h
          subst ea_107
          obtain ⟨fi_108, fq_109, hc, h⟩ := h
          refine wm_putIN hM34 rfl in_X2 tyX2_ok nmX2 (ci := 2) rfl 0 (Nat.le_of_ble_eq_true rfl) hc (fun _ _ => rfl) (fun _ _ => Nat.le_of_ble_eq_true rfl) q258 (fun _ _ h => h) rfl rfl rfl dX6_read_50 (fun ws hM35 => ?_)
          refine ww_aloadQ_n dX6_read_53 0 rfl ?_
          obtain ⟨hg, h⟩ := h
          obtain ⟨c_110, s_111, b_112, h⟩ := h
          refine wm_callX (n := 0) hM35 (tm_X6_ends h) rfl hg rfl (lw_V q785 q787 qs8 q118 q788) ⟨by decide, by decide, by decide +kernel⟩ rfl ⟨Nat.le_of_ble_eq_true rfl, Nat.le_of_ble_eq_true rfl⟩ rfl (Nat.le_of_ble_eq_true rfl) dX6_read_54 b_112 ?_ ?_
          · clear h
            intro q_114 E_115 μ_116 ws h hM36
            have hB := b_112
            exact wx_out (fun _ hz => nomatch hz) (ws, μ_116) ⟨hM36, h⟩ rfl hB.1 hB.2
          · clear h
            rintro _ μ_113 ws ⟨rfl, h⟩ hM37
            have hB := b_112
            refine ww_st0 ?_
            obtain ⟨m, h⟩ := h
            exact kI57 m _ _ _ h _ hM37 hB
/-! X1_net: HoloNet net (I)I; flags (True, True, False), depth 107 -/
def wc_X1_net (ad : Nat → Nat) (mc ms : Nat) (μ : HM) (b : Nat) (a1 : Int) (P : Int → HM → Prop) (X : Nat → String → HM → Prop) : Prop :=
  rI a1 ∧
  ∃ x_2 : Int, gI μ b 1 1 = some x_2 ∧
  rI x_2 ∧
  wc_X1_within ad μ a1 0 x_2 (fun y_4 =>
    ((¬ y_4 = 0 →
      ∃ (fi_6 : Nat → Int) (fq_7 : Nat → Option Nat), μ b = some (hO 1 fi_6 fq_7) ∧ 
      (0 + 1 ≤ mc ∧ 0 + 11 ≤ ms) ∧ ∀ q_8 : Nat, (hs μ b (hO 1 (upF fi_6 1 0) fq_7)) q_8 = none →
      ∃ c_10 s_11 : Nat, (0 + 1 + c_10 ≤ mc ∧ 0 + 11 + s_11 ≤ ms) ∧
      wc_X6_init ad c_10 s_11 (hs (hs μ b (hO 1 (upF fi_6 1 0) fq_7)) q_8 (hO 5 (fun _ => 0) (fun _ => none))) q_8 (some b) a1 (fun μ_13 =>
        gC μ_13 q_8 = some 5 ∧
        ∃ c_14 s_15 : Nat, (0 + 1 + c_10 + c_14 ≤ mc ∧ 0 + 11 + s_11 + s_15 ≤ ms) ∧
        wc_X6_read ad c_14 s_15 μ_13 q_8 (fun μ_17 =>
          ∃ x_22 : Option Nat, gQ μ_17 q_8 5 1 = some x_22 ∧
          ∃ (fi_23 : Nat → Int) (fq_24 : Nat → Option Nat), μ_17 b = some (hO 1 fi_23 fq_24) ∧ 
          ∃ x_25 : Option Nat, gQ (hs μ_17 b (hO 1 fi_23 (upF fq_24 2 x_22))) q_8 5 2 = some x_25 ∧
          ∃ (fi_26 : Nat → Int) (fq_27 : Nat → Option Nat), (hs μ_17 b (hO 1 fi_23 (upF fq_24 2 x_22))) b = some (hO 1 fi_26 fq_27) ∧ 
          ∃ x_28 : Option Nat, gQ (hs (hs μ_17 b (hO 1 fi_23 (upF fq_24 2 x_22))) b (hO 1 fi_26 (upF fq_27 3 x_25))) b 1 4 = some x_28 ∧
          ∃ a_29 : Nat, x_28 = some a_29 ∧
          gC (hs (hs μ_17 b (hO 1 fi_23 (upF fq_24 2 x_22))) b (hO 1 fi_26 (upF fq_27 3 x_25))) a_29 = some 18 ∧
          wc_J2_clear ad (hs (hs μ_17 b (hO 1 fi_23 (upF fq_24 2 x_22))) b (hO 1 fi_26 (upF fq_27 3 x_25))) a_29 (fun μ_30 =>
            ∃ x_31 : Option Nat, gQ μ_30 b 1 5 = some x_31 ∧
            ∃ a_32 : Nat, x_31 = some a_32 ∧
            ∃ (n_33 : Nat) (f_34 : Int → Option Nat), μ_30 a_32 = some (hQ 5 n_33 f_34) ∧ ((0 : Int) ≤ 0 ∧ 0 < (n_33 : Int) ∧ (n_33 : Int) < 2147483648) ∧
            ∃ x_35 : Option Nat, gQ (hs μ_30 a_32 (hQ 5 n_33 (updI f_34 0 none))) b 1 5 = some x_35 ∧
            ∃ a_36 : Nat, x_35 = some a_36 ∧
            ∃ (n_37 : Nat) (f_38 : Int → Option Nat), (hs μ_30 a_32 (hQ 5 n_33 (updI f_34 0 none))) a_36 = some (hQ 5 n_37 f_38) ∧ ((0 : Int) ≤ 1 ∧ 1 < (n_37 : Int) ∧ (n_37 : Int) < 2147483648) ∧
            ∃ x_39 : Option Nat, gQ (hs (hs μ_30 a_32 (hQ 5 n_33 (updI f_34 0 none))) a_36 (hQ 5 n_37 (updI f_38 1 none))) b 1 2 = some x_39 ∧
            ∃ a_41 : Nat, x_39 = some a_41 ∧
            ∃ x_40 : Int, gI (hs (hs μ_30 a_32 (hQ 5 n_33 (updI f_34 0 none))) a_36 (hQ 5 n_37 (updI f_38 1 none))) a_41 2 4 = some x_40 ∧
            P x_40 (hs (hs μ_30 a_32 (hQ 5 n_33 (updI f_34 0 none))) a_36 (hQ 5 n_37 (updI f_38 1 none))))) (fun q_18 E_19 μ_20 =>
          E_19 = "HoloNet$Fault" ∧
          ∃ x_21 : Int, gI μ_20 q_18 6 6 = some x_21 ∧
          P ((-2) - x_21) μ_20))) ∧
    (y_4 = 0 →
      P (-1) μ)))
set_option maxHeartbeats 4000000 in
theorem tm_X1_net {G : g_G} {l : Launch} {mc ms : Nat} {μ : HM} {b : Nat} {a1 : Int} {P : Int → HM → Prop} {X : Nat → String → HM → Prop} (h : wc_X1_net (g_ad G) mc ms μ b a1 P X) : CMH G l yX1_net cX1_net 4 (Option.some Jvm.ClassFile.FieldType.int) [(31, 35, 38, 73)] 107 mc ms [.ref b, vI a1] μ (hR1 P) (fun _ _ _ => False) := by
  unfold wc_X1_net at h
  refine wm_ofH (lvs := [(0, va_rf (some b)), (1, vI a1)]) (by decide) (Nat.le_of_ble_eq_true rfl) rfl (fun fr ws hM1 => ?_)
  show WF G l cX1_net RX1 4 (Option.some Jvm.ClassFile.FieldType.int) "net" 107 mc ms (gFX G (hMR G (hR1 P)) (fun u => [u.1, fr]) (hMX G (fun _ _ _ => False)) (fun u => [u.1, fr]) mc ms (tableOf [(31, 35, 38, 73)])) 0 0 [ws, fr] 0 [(0, va_rf (some b)), (1, vI a1)] []
  have hB : 0 ≤ mc ∧ 0 ≤ ms := ⟨Nat.zero_le _, Nat.zero_le _⟩
  refine ww_iload_n dX1_net_0 1 rfl ?_
  obtain ⟨r_1, h⟩ := h
  refine ww_i2l dX1_net_1 r_1 ?_
  refine ww_lconst (v := 0) dX1_net_2 rfl ?_
  refine ww_aloadQ_n dX1_net_3 0 rfl ?_
  obtain ⟨x_2, hx, h⟩ := h
  refine wm_getI hM1 rfl in_X1 (ci := 1) rfl (by decide) 1 (Nat.le_of_ble_eq_true rfl) hx (fun _ _ => rfl) q316 (fun _ _ h => h) dX1_net_4 ?_
  obtain ⟨r_3, h⟩ := h
  refine ww_i2l dX1_net_7 r_3 ?_
  refine wm_callS (n := 3) hM1 (tm_X1_within h) (lw_S q353 q354 q108 q355) ⟨by decide, by decide, by decide +kernel⟩ rfl ⟨Nat.le_of_ble_eq_true rfl, Nat.le_of_ble_eq_true rfl⟩ rfl (Nat.le_of_ble_eq_true rfl) dX1_net_8 hB ?_
  clear h
  rintro _ _ ws ⟨rfl, y_4, rfl, z_5, h⟩ hM2
  refine ww_st1 ?_
  refine ww_if_ne (tgt := 16) dX1_net_11 (by decide) (r_z z_5) (fun c => ?_) (fun c => ?_)
  · replace h := h.1 c
    refine ww_aloadQ_n dX1_net_16 0 rfl ?_
    refine ww_iconst dX1_net_17 ?_
    obtain ⟨fi_6, fq_7, hc, h⟩ := h
    refine wm_putI hM2 rfl in_X1 tyX1_ok nmX1 (ci := 1) rfl 1 (Nat.le_of_ble_eq_true rfl) hc (fun _ _ => rfl) (fun _ _ => Nat.le_of_ble_eq_true rfl) q316 (fun _ _ h => h) rfl rfl rfl dX1_net_18 (fun ws hM3 => ?_)
    obtain ⟨b_9, h⟩ := h
    refine wm_new hM3 in_X6 tyX6_ok q356 q357 q118 (ci := 5) rfl dfl_5 b_9.1 b_9.2 dX1_net_21 (fun q_8 ws hq hM4 => ?_)
    replace h := h q_8 hq
    have hB := b_9
    refine ww_dup dX1_net_24 (rf_cat _) ?_
    refine ww_aloadQ_n dX1_net_25 0 rfl ?_
    refine ww_iload_n dX1_net_26 1 rfl ?_
    obtain ⟨c_10, s_11, b_12, h⟩ := h
    refine wm_callI (n := 2) hM4 (tm_X6_init h) rfl q360 q118 q358 q359 rfl ⟨by decide, by decide, by decide +kernel⟩ rfl ⟨Nat.le_of_ble_eq_true rfl, Nat.le_of_ble_eq_true rfl⟩ rfl (by simp only [List.map_cons, List.map_nil, rf_cat, vI_cat, vL_cat, List.sum_cons, List.sum_nil]; decide) dX1_net_27 b_12 ?_
    clear h
    rintro _ μ_13 ws ⟨rfl, h⟩ hM5
    have hB := b_12
    refine ww_st0 ?_
    refine ww_astoreQ_n (i := 2) (lv2 := [(2, va_rf (some q_8)), (0, va_rf (some b)), (1, vI a1)]) dX1_net_30 rfl (Nat.le_of_ble_eq_true rfl) rfl ?_
    refine ww_aloadQ_n dX1_net_31 0 rfl ?_
    obtain ⟨hg, h⟩ := h
    obtain ⟨c_14, s_15, b_16, h⟩ := h
    refine wm_callX (n := 0) hM5 (tm_X6_read h) rfl hg rfl (lw_V q435 q436 q437 q118 q438) ⟨by decide, by decide, by decide +kernel⟩ rfl ⟨Nat.le_of_ble_eq_true rfl, Nat.le_of_ble_eq_true rfl⟩ rfl (Nat.le_of_ble_eq_true rfl) dX1_net_32 b_16 ?_ ?_
    · clear h
      intro q_18 E_19 μ_20 ws h hM6
      have hB := b_16
      obtain ⟨rfl, h⟩ := h
      refine wx_catch (x := ⟨31, 35, 38, 73⟩) rfl (by decide) q352 q702 ?_
      refine ww_astoreQ_n (i := 3) (lv2 := [(3, va_rf (some q_18)), (2, va_rf (some q_8)), (0, va_rf (some b)), (1, vI a1)]) dX1_net_38 rfl (Nat.le_of_ble_eq_true rfl) rfl ?_
      refine ww_bipush (v := (-2)) dX1_net_39 rfl ?_
      refine ww_aloadQ_n dX1_net_41 0 rfl ?_
      obtain ⟨x_21, hx, h⟩ := h
      refine wm_getIN hM6 rfl in_X7 (ci := 6) rfl (by decide) 6 (Nat.le_of_ble_eq_true rfl) hx (fun _ _ => rfl) q762 (fun _ _ h => h) dX1_net_42 ?_
      refine ww_isub dX1_net_45 ?_
      refine wx_lift ?_
      exact ww_iret (ws, μ_20) rfl ⟨hM6, ⟨_, rfl, h⟩⟩ rfl hB.1 hB.2 dX1_net_46
    · clear h
      rintro _ μ_17 ws ⟨rfl, h⟩ hM7
      have hB := b_16
      refine ww_st0 ?_
      refine ww_goto (tgt := 47) dX1_net_35 (by decide) ?_
      refine ww_aloadQ_n dX1_net_47 1 rfl ?_
      refine ww_aloadQ_n dX1_net_48 0 rfl ?_
      obtain ⟨x_22, hx, h⟩ := h
      refine wm_getQN hM7 rfl in_X6 (ci := 5) rfl (by decide) 1 (Nat.le_of_ble_eq_true rfl) hx (fun _ _ => rfl) q401 (fun _ _ h => h) dX1_net_49 ?_
      obtain ⟨fi_23, fq_24, hc, h⟩ := h
      refine wm_putQ hM7 rfl in_X1 tyX1_ok nmX1 (ci := 1) rfl 2 (Nat.le_of_ble_eq_true rfl) hc (fun _ _ => rfl) (fun _ _ => Nat.le_of_ble_eq_true rfl) q319 (fun _ _ h => h) rfl (narrow_rf rfl _) (fits_rf rfl _) dX1_net_52 (fun ws hM8 => ?_)
      refine ww_aloadQ_n dX1_net_55 1 rfl ?_
      refine ww_aloadQ_n dX1_net_56 0 rfl ?_
      obtain ⟨x_25, hx, h⟩ := h
      refine wm_getQN hM8 rfl in_X6 (ci := 5) rfl (by decide) 2 (Nat.le_of_ble_eq_true rfl) hx (fun _ _ => rfl) q403 (fun _ _ h => h) dX1_net_57 ?_
      obtain ⟨fi_26, fq_27, hc, h⟩ := h
      refine wm_putQ hM8 rfl in_X1 tyX1_ok nmX1 (ci := 1) rfl 3 (Nat.le_of_ble_eq_true rfl) hc (fun _ _ => rfl) (fun _ _ => Nat.le_of_ble_eq_true rfl) q322 (fun _ _ h => h) rfl (narrow_rf rfl _) (fits_rf rfl _) dX1_net_60 (fun ws hM9 => ?_)
      refine ww_aloadQ_n dX1_net_63 1 rfl ?_
      obtain ⟨x_28, hx, h⟩ := h
      refine wm_getQ hM9 rfl in_X1 (ci := 1) rfl (by decide) 4 (Nat.le_of_ble_eq_true rfl) hx (fun _ _ => rfl) q323 (fun _ _ h => h) dX1_net_64 ?_
      obtain ⟨a_29, ea_29, h⟩ := h
      subst ea_29
      obtain ⟨hg, h⟩ := h
      refine wm_callV (n := 0) hM9 (tm_J2_clear h) rfl hg rfl (lw_V q1495 q1496 q1497 q113 q1498) ⟨by decide, by decide, by decide +kernel⟩ rfl ⟨Nat.le_of_ble_eq_true rfl, Nat.le_of_ble_eq_true rfl⟩ rfl (Nat.le_of_ble_eq_true rfl) dX1_net_67 hB ?_
      clear h
      rintro _ μ_30 ws ⟨rfl, h⟩ hM10
      refine ww_st0 ?_
      refine ww_aloadQ_n dX1_net_70 1 rfl ?_
      obtain ⟨x_31, hx, h⟩ := h
      refine wm_getQ hM10 rfl in_X1 (ci := 1) rfl (by decide) 5 (Nat.le_of_ble_eq_true rfl) hx (fun _ _ => rfl) q324 (fun _ _ h => h) dX1_net_71 ?_
      refine ww_iconst dX1_net_74 ?_
      refine ww_nullQ dX1_net_75 ?_
      obtain ⟨a_32, ea_32, h⟩ := h
      subst ea_32
      obtain ⟨n_33, f_34, hc, hi, h⟩ := h
      refine wm_aastN 5 rfl hM10 rfl hc hi.1 hi.2.1 hi.2.2 dX1_net_76 (fun ws hM11 => ?_)
      refine ww_aloadQ_n dX1_net_77 1 rfl ?_
      obtain ⟨x_35, hx, h⟩ := h
      refine wm_getQ hM11 rfl in_X1 (ci := 1) rfl (by decide) 5 (Nat.le_of_ble_eq_true rfl) hx (fun _ _ => rfl) q324 (fun _ _ h => h) dX1_net_78 ?_
      refine ww_iconst dX1_net_81 ?_
      refine ww_nullQ dX1_net_82 ?_
      obtain ⟨a_36, ea_36, h⟩ := h
      subst ea_36
      obtain ⟨n_37, f_38, hc, hi, h⟩ := h
      refine wm_aastN 5 rfl hM11 rfl hc hi.1 hi.2.1 hi.2.2 dX1_net_83 (fun ws hM12 => ?_)
      refine ww_aloadQ_n dX1_net_84 1 rfl ?_
      obtain ⟨x_39, hx, h⟩ := h
      refine wm_getQ hM12 rfl in_X1 (ci := 1) rfl (by decide) 2 (Nat.le_of_ble_eq_true rfl) hx (fun _ _ => rfl) q319 (fun _ _ h => h) dX1_net_85 ?_
      obtain ⟨a_41, ea_41, h⟩ := h
      subst ea_41
      obtain ⟨x_40, hx, h⟩ := h
      refine wm_getIN hM12 rfl in_X2 (ci := 2) rfl (by decide) 4 (Nat.le_of_ble_eq_true rfl) hx (fun _ _ => rfl) q270 (fun _ _ h => h) dX1_net_88 ?_
      refine wx_lift ?_
      exact ww_iret (ws, (hs (hs μ_30 a_32 (hQ 5 n_33 (updI f_34 0 none))) a_36 (hQ 5 n_37 (updI f_38 1 none)))) rfl ⟨hM12, ⟨_, rfl, h⟩⟩ rfl hB.1 hB.2 dX1_net_91
  · replace h := h.2 c
    refine ww_iconst dX1_net_14 ?_
    refine wx_lift ?_
    exact ww_iret (ws, μ) rfl ⟨hM2, ⟨_, rfl, h⟩⟩ rfl hB.1 hB.2 dX1_net_15
