/-! THE COMPONENT and what it calls: weakest preconditions and walks (printed by tools/comp.py) -/
set_option maxRecDepth 100000
/-! X1_scale: HoloNet scale (II)Z; flags (True, True, False), depth 8 -/
def wc_X1_scale (ad : Nat → Nat) (mc ms : Nat) (μ : HM) (b : Nat) (a1 : Int) (a2 : Int) (P : Int → HM → Prop) : Prop :=
  gC μ b = some 1 ∧
  wc_X1_isNode ad μ b a1 (fun y_1 =>
    ((y_1 = 0 →
      P 0 μ) ∧
    (¬ y_1 = 0 →
      rI a2 ∧
      ∃ x_4 : Option Nat, gQ μ b 1 2 = some x_4 ∧
      ∃ a_6 : Nat, x_4 = some a_6 ∧
      ∃ x_5 : Int, gI μ a_6 2 0 = some x_5 ∧
      rI (x_5 - 1) ∧
      wc_X1_within ad μ a2 1 (x_5 - 1) (fun y_8 =>
        ((¬ y_8 = 0 →
          gC μ b = some 1 ∧
          ∃ c_10 s_11 : Nat, (0 + c_10 ≤ mc ∧ 0 + s_11 ≤ ms) ∧
          wc_X1_keepsAhead ad c_10 s_11 μ b (fun μ_13 =>
            gC μ_13 b = some 1 ∧
            ∃ c_14 s_15 : Nat, (0 + c_10 + c_14 ≤ mc ∧ 0 + s_11 + s_15 ≤ ms) ∧
            wc_X1_fresh ad c_14 s_15 μ_13 b a1 (fun y_17 μ_19 =>
              ∃ I42 : Nat → Int → HM → Prop, (∀ (n42 : Nat) (v4_42 : Int) (μ42 : HM), I42 n42 v4_42 μ42 →
                ∃ a_20 : Nat, y_17 = some a_20 ∧
                ∃ n_21 : Nat, gL μ42 a_20 = some n_21 ∧
                rI v4_42 ∧
                rI (n_21 : Int) ∧
                (((n_21 : Int) ≤ v4_42 →
                  P 1 μ42) ∧
                (v4_42 < (n_21 : Int) →
                  ∃ x_24 : Option Nat, gQ μ42 b 1 2 = some x_24 ∧
                  rI a2 ∧
                  ∃ x_26 : Int, gA μ42 a_20 0 v4_42 = some x_26 ∧
                  rI x_26 ∧
                  ∃ a_28 : Nat, x_24 = some a_28 ∧
                  gC μ42 a_28 = some 2 ∧
                  wc_X2_mod ad μ42 a_28 (a2 * x_26) (fun y_29 =>
                    ∃ (n_31 : Nat) (f_32 : Int → Int), μ42 a_20 = some (hA 0 n_31 f_32) ∧ ((0 : Int) ≤ v4_42 ∧ v4_42 < (n_31 : Int) ∧ (n_31 : Int) < 2147483648) ∧ 
                    ∃ m : Nat, m < n42 ∧ I42 m (v4_42 + 1) (hs μ42 a_20 (hA 0 n_31 (updI f_32 v4_42 y_29))))))) ∧
              ∃ m : Nat, I42 m 0 μ_19))) ∧
        (y_8 = 0 →
          P 0 μ))))))
set_option maxHeartbeats 4000000 in
theorem tm_X1_scale {G : g_G} {l : Launch} {mc ms : Nat} {μ : HM} {b : Nat} {a1 : Int} {a2 : Int} {P : Int → HM → Prop} (h : wc_X1_scale (g_ad G) mc ms μ b a1 a2 P) : CM G l yX1_scale cX1_scale 5 (Option.some Jvm.ClassFile.FieldType.boolean) 8 mc ms [.ref b, vI a1, vI a2] μ (hR2 P) := by
  unfold wc_X1_scale at h
  refine wm_of (lvs := [(0, va_rf (some b)), (1, vI a1), (2, vI a2)]) (by decide) (Nat.le_of_ble_eq_true rfl) rfl (fun fr ws hM1 => ?_)
  show WW G l cX1_scale RX1 5 (Option.some Jvm.ClassFile.FieldType.boolean) "scale" 8 mc ms (hMR G (hR2 P)) (fun u => [u.1, fr]) 0 0 [ws, fr] 0 [(0, va_rf (some b)), (1, vI a1), (2, vI a2)] []
  have hB : 0 ≤ mc ∧ 0 ≤ ms := ⟨Nat.zero_le _, Nat.zero_le _⟩
  refine ww_aloadQ_n dX1_scale_0 0 rfl ?_
  refine ww_iload_n dX1_scale_1 1 rfl ?_
  obtain ⟨hg, h⟩ := h
  refine wm_callV (n := 1) hM1 (tm_X1_isNode h) rfl hg rfl (lw_V q1640 q1642 qs40 q108 q1643) ⟨by decide, by decide, by decide +kernel⟩ rfl ⟨Nat.le_of_ble_eq_true rfl, Nat.le_of_ble_eq_true rfl⟩ rfl (Nat.le_of_ble_eq_true rfl) dX1_scale_2 hB ?_
  clear h
  rintro _ _ ws ⟨rfl, y_1, rfl, z_2, h⟩ hM2
  refine ww_st1 ?_
  refine ww_if_eq (tgt := 27) dX1_scale_5 (by decide) (r_z z_2) (fun c => ?_) (fun c => ?_)
  · replace h := h.1 c
    refine ww_iconst dX1_scale_27 ?_
    exact ww_zret (ws, μ) rfl (Or.inl rfl) ⟨hM2, ⟨_, rfl, Or.inl rfl, h⟩⟩ rfl hB.1 hB.2 dX1_scale_28
  · replace h := h.2 c
    refine ww_iload_n dX1_scale_8 2 rfl ?_
    obtain ⟨r_3, h⟩ := h
    refine ww_i2l dX1_scale_9 r_3 ?_
    refine ww_lconst (v := 1) dX1_scale_10 rfl ?_
    refine ww_aloadQ_n dX1_scale_11 0 rfl ?_
    obtain ⟨x_4, hx, h⟩ := h
    refine wm_getQ hM2 rfl in_X1 (ci := 1) rfl (by decide) 2 (Nat.le_of_ble_eq_true rfl) hx (fun _ _ => rfl) q319 (fun _ _ h => h) dX1_scale_12 ?_
    obtain ⟨a_6, ea_6, h⟩ := h
    subst ea_6
    obtain ⟨x_5, hx, h⟩ := h
    refine wm_getIN hM2 rfl in_X2 (ci := 2) rfl (by decide) 0 (Nat.le_of_ble_eq_true rfl) hx (fun _ _ => rfl) q259 (fun _ _ h => h) dX1_scale_15 ?_
    refine ww_iconst dX1_scale_18 ?_
    refine ww_isub dX1_scale_19 ?_
    obtain ⟨r_7, h⟩ := h
    refine ww_i2l dX1_scale_20 r_7 ?_
    refine wm_callS (n := 3) hM2 (tm_X1_within h) (lw_S q353 q354 q108 q355) ⟨by decide, by decide, by decide +kernel⟩ rfl ⟨Nat.le_of_ble_eq_true rfl, Nat.le_of_ble_eq_true rfl⟩ rfl (Nat.le_of_ble_eq_true rfl) dX1_scale_21 hB ?_
    clear h
    rintro _ _ ws ⟨rfl, y_8, rfl, z_9, h⟩ hM3
    refine ww_st1 ?_
    refine ww_if_ne (tgt := 29) dX1_scale_24 (by decide) (r_z z_9) (fun c => ?_) (fun c => ?_)
    · replace h := h.1 c
      refine ww_aloadQ_n dX1_scale_29 0 rfl ?_
      obtain ⟨hg, h⟩ := h
      obtain ⟨c_10, s_11, b_12, h⟩ := h
      refine wm_callV (n := 0) hM3 (tm_X1_keepsAhead h) rfl hg rfl (lw_V q2025 q2027 qs50 q108 q2028) ⟨by decide, by decide, by decide +kernel⟩ rfl ⟨Nat.le_of_ble_eq_true rfl, Nat.le_of_ble_eq_true rfl⟩ rfl (Nat.le_of_ble_eq_true rfl) dX1_scale_30 b_12 ?_
      clear h
      rintro _ μ_13 ws ⟨rfl, h⟩ hM4
      have hB := b_12
      refine ww_st0 ?_
      refine ww_aloadQ_n dX1_scale_33 0 rfl ?_
      refine ww_iload_n dX1_scale_34 1 rfl ?_
      obtain ⟨hg, h⟩ := h
      obtain ⟨c_14, s_15, b_16, h⟩ := h
      refine wm_callV (n := 1) hM4 (tm_X1_fresh h) rfl hg rfl (lw_V q2069 q2071 qs53 q108 q2072) ⟨by decide, by decide, by decide +kernel⟩ rfl ⟨Nat.le_of_ble_eq_true rfl, Nat.le_of_ble_eq_true rfl⟩ rfl (Nat.le_of_ble_eq_true rfl) dX1_scale_35 b_16 ?_
      clear h
      rintro _ μ_19 ws ⟨y_17, rfl, h⟩ hM5
      have hB := b_16
      refine ww_st1 ?_
      refine ww_astoreQ_n (i := 3) (lv2 := [(3, va_rf y_17), (0, va_rf (some b)), (1, vI a1), (2, vI a2)]) dX1_scale_38 rfl (Nat.le_of_ble_eq_true rfl) rfl ?_
      refine ww_iconst dX1_scale_39 ?_
      refine ww_istore (i := 4) (lv2 := [(4, vI 0), (3, va_rf y_17), (0, va_rf (some b)), (1, vI a1), (2, vI a2)]) dX1_scale_40 (Nat.le_of_ble_eq_true rfl) (by simp [rf_cat, vI_cat, vL_cat, ref_cat]) ?_
      obtain ⟨I42, hI42, h⟩ := h
      have kI42 : ∀ (n42 : Nat), ∀ (v4_42 : Int), ∀ (μ42 : HM), I42 n42 v4_42 μ42 → ∀ ws : va_W, Mrep G ws μ42 → (0 + c_10 + c_14 ≤ mc ∧ 0 + s_11 + s_15 ≤ ms) → WW G l cX1_scale RX1 5 (Option.some Jvm.ClassFile.FieldType.boolean) "scale" 8 mc ms (hMR G (hR2 P)) (fun u => [u.1, fr]) (0 + c_10 + c_14) (0 + s_11 + s_15) [ws, fr] 42 [(0, va_rf (some b)), (2, vI a2), (3, va_rf y_17), (4, vI v4_42)] [] := by
        clear h
        intro n42
        induction n42 using Nat.strongRecOn with
        | ind n42 ih42 =>
          intro v4_42 μ42 hj ws hM6 hB
          have h := hI42 n42 v4_42 μ42 hj
          refine ww_iload dX1_scale_42 3 rfl ?_
          refine ww_aloadQ_n dX1_scale_44 2 rfl ?_
          obtain ⟨a_20, ea_20, h⟩ := h
          subst ea_20
          obtain ⟨n_21, hn, h⟩ := h
          refine wm_alen hM6 rfl hn dX1_scale_45 ?_
          obtain ⟨r_22, r_23, h⟩ := h
          refine ww_icmp_ge (tgt := 74) dX1_scale_46 (by decide) r_22 r_23 (fun c => ?_) (fun c => ?_)
          · replace h := h.1 c
            refine ww_iconst dX1_scale_74 ?_
            exact ww_zret (ws, μ42) rfl (Or.inr rfl) ⟨hM6, ⟨_, rfl, Or.inr rfl, h⟩⟩ rfl hB.1 hB.2 dX1_scale_75
          · replace h := h.2 (Int.not_le.mp c)
            refine ww_aloadQ_n dX1_scale_49 2 rfl ?_
            refine ww_iload dX1_scale_50 3 rfl ?_
            refine ww_aloadQ_n dX1_scale_52 0 rfl ?_
            obtain ⟨x_24, hx, h⟩ := h
            refine wm_getQ hM6 rfl in_X1 (ci := 1) rfl (by decide) 2 (Nat.le_of_ble_eq_true rfl) hx (fun _ _ => rfl) q319 (fun _ _ h => h) dX1_scale_53 ?_
            refine ww_iload_n dX1_scale_56 1 rfl ?_
            obtain ⟨r_25, h⟩ := h
            refine ww_i2l dX1_scale_57 r_25 ?_
            refine ww_aloadQ_n dX1_scale_58 2 rfl ?_
            refine ww_iload dX1_scale_59 3 rfl ?_
            obtain ⟨x_26, hx, h⟩ := h
            refine wm_iald hM6 rfl hx dX1_scale_61 ?_
            obtain ⟨r_27, h⟩ := h
            refine ww_i2l dX1_scale_62 r_27 ?_
            refine ww_lmul dX1_scale_63 ?_
            obtain ⟨a_28, ea_28, h⟩ := h
            subst ea_28
            obtain ⟨hg, h⟩ := h
            refine wm_callV (n := 1) hM6 (tm_X2_mod h) rfl hg rfl (lw_V q1536 q1349 q1350 q109 q1351) ⟨by decide, by decide, by decide +kernel⟩ rfl ⟨Nat.le_of_ble_eq_true rfl, Nat.le_of_ble_eq_true rfl⟩ rfl (by simp only [List.map_cons, List.map_nil, rf_cat, vI_cat, vL_cat, List.sum_cons, List.sum_nil]; decide) dX1_scale_64 hB ?_
            clear h
            rintro _ _ ws ⟨rfl, y_29, rfl, h⟩ hM7
            refine ww_st1 ?_
            obtain ⟨n_31, f_32, hc, hi, h⟩ := h
            refine wm_iast hM7 rfl hc hi.1 hi.2.1 hi.2.2 dX1_scale_67 (fun ws hM8 => ?_)
            refine ww_iinc (lv2 := [(4, vI (v4_42 + 1)), (0, va_rf (some b)), (2, vI a2), (3, va_rf (some a_20))]) dX1_scale_68 3 rfl (Nat.le_of_ble_eq_true rfl) rfl ?_
            refine ww_goto (tgt := 42) dX1_scale_71 (by decide) ?_
            refine ww_lv [1, 2, 3, 0] rfl ?_
            obtain ⟨m, hm, h⟩ := h
            exact ih42 m hm _ _ h _ hM8 hB
      refine ww_lv [2, 4, 1, 0] rfl ?_
      obtain ⟨m, h⟩ := h
      exact kI42 m _ _ h _ hM5 hB
    · replace h := h.2 c
      refine ww_iconst dX1_scale_27 ?_
      exact ww_zret (ws, μ) rfl (Or.inl rfl) ⟨hM3, ⟨_, rfl, Or.inl rfl, h⟩⟩ rfl hB.1 hB.2 dX1_scale_28
/-! X1_isLeg: HoloNet isLeg (II)Z; flags (False, False, False), depth 5 -/
def wc_X1_isLeg (ad : Nat → Nat) (μ : HM) (b : Nat) (a1 : Int) (a2 : Int) (P : Int → Prop) : Prop :=
  gC μ b = some 1 ∧
  wc_X1_isNode ad μ b a1 (fun y_1 =>
    ((y_1 = 0 →
      P 0) ∧
    (¬ y_1 = 0 →
      rI a2 ∧
      gC μ b = some 1 ∧
      wc_X1_legs ad μ b a1 (fun y_4 =>
        rI (y_4 - 1) ∧
        wc_X1_within ad μ a2 0 (y_4 - 1) (fun y_7 =>
          ((y_7 = 0 →
            P 0) ∧
          (¬ y_7 = 0 →
            P 1)))))))
set_option maxHeartbeats 4000000 in
theorem tm_X1_isLeg {G : g_G} {l : Launch} {μ : HM} {b : Nat} {a1 : Int} {a2 : Int} {P : Int → Prop} (h : wc_X1_isLeg (g_ad G) μ b a1 a2 P) : CM G l yX1_isLeg cX1_isLeg 3 (Option.some Jvm.ClassFile.FieldType.boolean) 5 0 0 [.ref b, vI a1, vI a2] μ (hN2 μ P) := by
  unfold wc_X1_isLeg at h
  refine wm_of (lvs := [(0, va_rf (some b)), (1, vI a1), (2, vI a2)]) (by decide) (Nat.le_of_ble_eq_true rfl) rfl (fun fr ws hM1 => ?_)
  show WW G l cX1_isLeg RX1 3 (Option.some Jvm.ClassFile.FieldType.boolean) "isLeg" 5 0 0 (hMR G (hN2 μ P)) (fun u => [u.1, fr]) 0 0 [ws, fr] 0 [(0, va_rf (some b)), (1, vI a1), (2, vI a2)] []
  refine ww_aloadQ_n dX1_isLeg_0 0 rfl ?_
  refine ww_iload_n dX1_isLeg_1 1 rfl ?_
  obtain ⟨hg, h⟩ := h
  refine wm_callV (n := 1) hM1 (tm_X1_isNode h) rfl hg rfl (lw_V q1640 q1642 qs40 q108 q1643) ⟨by decide, by decide, by decide +kernel⟩ rfl ⟨Nat.le_of_ble_eq_true rfl, Nat.le_of_ble_eq_true rfl⟩ rfl (Nat.le_of_ble_eq_true rfl) dX1_isLeg_2 ⟨Nat.le_refl _, Nat.le_refl _⟩ ?_
  clear h
  rintro _ _ ws ⟨rfl, y_1, rfl, z_2, h⟩ hM2
  refine ww_st1 ?_
  refine ww_if_eq (tgt := 29) dX1_isLeg_5 (by decide) (r_z z_2) (fun c => ?_) (fun c => ?_)
  · replace h := h.1 c
    refine ww_iconst dX1_isLeg_29 ?_
    exact ww_zret (ws, μ) rfl (Or.inl rfl) ⟨hM2, ⟨rfl, _, rfl, Or.inl rfl, h⟩⟩ rfl (Nat.le_refl _) (Nat.le_refl _) dX1_isLeg_30
  · replace h := h.2 c
    refine ww_iload_n dX1_isLeg_8 2 rfl ?_
    obtain ⟨r_3, h⟩ := h
    refine ww_i2l dX1_isLeg_9 r_3 ?_
    refine ww_lconst (v := 0) dX1_isLeg_10 rfl ?_
    refine ww_aloadQ_n dX1_isLeg_11 0 rfl ?_
    refine ww_iload_n dX1_isLeg_12 1 rfl ?_
    obtain ⟨hg, h⟩ := h
    refine wm_callV (n := 1) hM2 (tm_X1_legs h) rfl hg rfl (lw_V q1644 q1646 qs41 q108 q1647) ⟨by decide, by decide, by decide +kernel⟩ rfl ⟨Nat.le_of_ble_eq_true rfl, Nat.le_of_ble_eq_true rfl⟩ rfl (Nat.le_of_ble_eq_true rfl) dX1_isLeg_13 ⟨Nat.le_refl _, Nat.le_refl _⟩ ?_
    clear h
    rintro _ _ ws ⟨rfl, y_4, rfl, h⟩ hM3
    refine ww_st1 ?_
    refine ww_iconst dX1_isLeg_16 ?_
    refine ww_isub dX1_isLeg_17 ?_
    obtain ⟨r_6, h⟩ := h
    refine ww_i2l dX1_isLeg_18 r_6 ?_
    refine wm_callS (n := 3) hM3 (tm_X1_within h) (lw_S q353 q354 q108 q355) ⟨by decide, by decide, by decide +kernel⟩ rfl ⟨Nat.le_of_ble_eq_true rfl, Nat.le_of_ble_eq_true rfl⟩ rfl (Nat.le_of_ble_eq_true rfl) dX1_isLeg_19 ⟨Nat.le_refl _, Nat.le_refl _⟩ ?_
    clear h
    rintro _ _ ws ⟨rfl, y_7, rfl, z_8, h⟩ hM4
    refine ww_st1 ?_
    refine ww_if_eq (tgt := 29) dX1_isLeg_22 (by decide) (r_z z_8) (fun c => ?_) (fun c => ?_)
    · replace h := h.1 c
      refine ww_iconst dX1_isLeg_29 ?_
      exact ww_zret (ws, μ) rfl (Or.inl rfl) ⟨hM4, ⟨rfl, _, rfl, Or.inl rfl, h⟩⟩ rfl (Nat.le_refl _) (Nat.le_refl _) dX1_isLeg_30
    · replace h := h.2 c
      refine ww_iconst dX1_isLeg_25 ?_
      refine ww_goto (tgt := 30) dX1_isLeg_26 (by decide) ?_
      exact ww_zret (ws, μ) rfl (Or.inr rfl) ⟨hM4, ⟨rfl, _, rfl, Or.inr rfl, h⟩⟩ rfl (Nat.le_refl _) (Nat.le_refl _) dX1_isLeg_30
/-! X1_swap: HoloNet swap (III)Z; flags (True, True, False), depth 8 -/
def wc_X1_swap (ad : Nat → Nat) (mc ms : Nat) (μ : HM) (b : Nat) (a1 : Int) (a2 : Int) (a3 : Int) (P : Int → HM → Prop) : Prop :=
  gC μ b = some 1 ∧
  wc_X1_isLeg ad μ b a1 a2 (fun y_1 =>
    ((y_1 = 0 →
      P 0 μ) ∧
    (¬ y_1 = 0 →
      gC μ b = some 1 ∧
      wc_X1_isLeg ad μ b a1 a3 (fun y_3 =>
        ((y_3 = 0 →
          P 0 μ) ∧
        (¬ y_3 = 0 →
          rI a2 ∧
          rI a3 ∧
          ((¬ a2 = a3 →
            gC μ b = some 1 ∧
            ∃ c_7 s_8 : Nat, (0 + c_7 ≤ mc ∧ 0 + s_8 ≤ ms) ∧
            wc_X1_keepsAhead ad c_7 s_8 μ b (fun μ_10 =>
              ∃ x_11 : Option Nat, gQ μ_10 b 1 3 = some x_11 ∧
              ∃ a_13 : Nat, x_11 = some a_13 ∧
              ∃ x_12 : Option Nat, gQ μ_10 a_13 4 0 = some x_12 ∧
              ∃ a_14 : Nat, x_12 = some a_14 ∧
              ∃ x_15 : Option Nat, gR μ_10 a_14 6 a1 = some x_15 ∧
              gC μ_10 b = some 1 ∧
              ∃ c_16 s_17 : Nat, (0 + c_7 + c_16 ≤ mc ∧ 0 + s_8 + s_17 ≤ ms) ∧
              wc_X1_fresh ad c_16 s_17 μ_10 b a1 (fun y_19 μ_21 =>
                ∃ I50 : Nat → Int → HM → Prop, (∀ (n50 : Nat) (v6_50 : Int) (μ50 : HM), I50 n50 v6_50 μ50 →
                  ∃ a_22 : Nat, y_19 = some a_22 ∧
                  ∃ n_23 : Nat, gL μ50 a_22 = some n_23 ∧
                  rI v6_50 ∧
                  rI (n_23 : Int) ∧
                  (((n_23 : Int) ≤ v6_50 →
                    P 1 μ50) ∧
                  (v6_50 < (n_23 : Int) →
                    wc_X1_has ad μ50 v6_50 a2 (fun y_26 =>
                      wc_X1_has ad μ50 v6_50 a3 (fun y_28 =>
                        ∃ J91 : HM → Prop, (∀ (μ91 : HM), J91 μ91 →
                          ∃ m : Nat, m < n50 ∧ I50 m (v6_50 + 1) μ91) ∧
                        ((y_26 = y_28 →
                          J91 μ50) ∧
                        (¬ y_26 = y_28 →
                          ∃ a_30 : Nat, x_15 = some a_30 ∧
                          ∃ x_31 : Int, gA μ50 a_30 0 (bX (bX v6_50 (bL 1 a2)) (bL 1 a3)) = some x_31 ∧
                          ∃ (n_32 : Nat) (f_33 : Int → Int), μ50 a_22 = some (hA 0 n_32 f_33) ∧ ((0 : Int) ≤ v6_50 ∧ v6_50 < (n_32 : Int) ∧ (n_32 : Int) < 2147483648) ∧ 
                          J91 (hs μ50 a_22 (hA 0 n_32 (updI f_33 v6_50 x_31)))))))))) ∧
                ∃ m : Nat, I50 m 0 μ_21))) ∧
          (a2 = a3 →
            P 0 μ))))))))
set_option maxHeartbeats 4000000 in
theorem tm_X1_swap {G : g_G} {l : Launch} {mc ms : Nat} {μ : HM} {b : Nat} {a1 : Int} {a2 : Int} {a3 : Int} {P : Int → HM → Prop} (h : wc_X1_swap (g_ad G) mc ms μ b a1 a2 a3 P) : CM G l yX1_swap cX1_swap 7 (Option.some Jvm.ClassFile.FieldType.boolean) 8 mc ms [.ref b, vI a1, vI a2, vI a3] μ (hR2 P) := by
  unfold wc_X1_swap at h
  refine wm_of (lvs := [(0, va_rf (some b)), (1, vI a1), (2, vI a2), (3, vI a3)]) (by decide) (Nat.le_of_ble_eq_true rfl) rfl (fun fr ws hM1 => ?_)
  show WW G l cX1_swap RX1 7 (Option.some Jvm.ClassFile.FieldType.boolean) "swap" 8 mc ms (hMR G (hR2 P)) (fun u => [u.1, fr]) 0 0 [ws, fr] 0 [(0, va_rf (some b)), (1, vI a1), (2, vI a2), (3, vI a3)] []
  have hB : 0 ≤ mc ∧ 0 ≤ ms := ⟨Nat.zero_le _, Nat.zero_le _⟩
  refine ww_aloadQ_n dX1_swap_0 0 rfl ?_
  refine ww_iload_n dX1_swap_1 1 rfl ?_
  refine ww_iload_n dX1_swap_2 2 rfl ?_
  obtain ⟨hg, h⟩ := h
  refine wm_callV (n := 2) hM1 (tm_X1_isLeg h) rfl hg rfl (lw_V q2091 q2093 qs54 q108 q2094) ⟨by decide, by decide, by decide +kernel⟩ rfl ⟨Nat.le_of_ble_eq_true rfl, Nat.le_of_ble_eq_true rfl⟩ rfl (Nat.le_of_ble_eq_true rfl) dX1_swap_3 hB ?_
  clear h
  rintro _ _ ws ⟨rfl, y_1, rfl, z_2, h⟩ hM2
  refine ww_st1 ?_
  refine ww_if_eq (tgt := 23) dX1_swap_6 (by decide) (r_z z_2) (fun c => ?_) (fun c => ?_)
  · replace h := h.1 c
    refine ww_iconst dX1_swap_23 ?_
    exact ww_zret (ws, μ) rfl (Or.inl rfl) ⟨hM2, ⟨_, rfl, Or.inl rfl, h⟩⟩ rfl hB.1 hB.2 dX1_swap_24
  · replace h := h.2 c
    refine ww_aloadQ_n dX1_swap_9 0 rfl ?_
    refine ww_iload_n dX1_swap_10 1 rfl ?_
    refine ww_iload_n dX1_swap_11 3 rfl ?_
    obtain ⟨hg, h⟩ := h
    refine wm_callV (n := 2) hM2 (tm_X1_isLeg h) rfl hg rfl (lw_V q2091 q2093 qs54 q108 q2094) ⟨by decide, by decide, by decide +kernel⟩ rfl ⟨Nat.le_of_ble_eq_true rfl, Nat.le_of_ble_eq_true rfl⟩ rfl (Nat.le_of_ble_eq_true rfl) dX1_swap_12 hB ?_
    clear h
    rintro _ _ ws ⟨rfl, y_3, rfl, z_4, h⟩ hM3
    refine ww_st1 ?_
    refine ww_if_eq (tgt := 23) dX1_swap_15 (by decide) (r_z z_4) (fun c => ?_) (fun c => ?_)
    · replace h := h.1 c
      refine ww_iconst dX1_swap_23 ?_
      exact ww_zret (ws, μ) rfl (Or.inl rfl) ⟨hM3, ⟨_, rfl, Or.inl rfl, h⟩⟩ rfl hB.1 hB.2 dX1_swap_24
    · replace h := h.2 c
      refine ww_iload_n dX1_swap_18 2 rfl ?_
      refine ww_iload_n dX1_swap_19 3 rfl ?_
      obtain ⟨r_5, r_6, h⟩ := h
      refine ww_icmp_ne (tgt := 25) dX1_swap_20 (by decide) r_5 r_6 (fun c => ?_) (fun c => ?_)
      · replace h := h.1 c
        refine ww_aloadQ_n dX1_swap_25 0 rfl ?_
        obtain ⟨hg, h⟩ := h
        obtain ⟨c_7, s_8, b_9, h⟩ := h
        refine wm_callV (n := 0) hM3 (tm_X1_keepsAhead h) rfl hg rfl (lw_V q2025 q2027 qs50 q108 q2028) ⟨by decide, by decide, by decide +kernel⟩ rfl ⟨Nat.le_of_ble_eq_true rfl, Nat.le_of_ble_eq_true rfl⟩ rfl (Nat.le_of_ble_eq_true rfl) dX1_swap_26 b_9 ?_
        clear h
        rintro _ μ_10 ws ⟨rfl, h⟩ hM4
        have hB := b_9
        refine ww_st0 ?_
        refine ww_aloadQ_n dX1_swap_29 0 rfl ?_
        obtain ⟨x_11, hx, h⟩ := h
        refine wm_getQ hM4 rfl in_X1 (ci := 1) rfl (by decide) 3 (Nat.le_of_ble_eq_true rfl) hx (fun _ _ => rfl) q322 (fun _ _ h => h) dX1_swap_30 ?_
        obtain ⟨a_13, ea_13, h⟩ := h
        subst ea_13
        obtain ⟨x_12, hx, h⟩ := h
        refine wm_getQN hM4 rfl in_X4 (ci := 4) rfl (by decide) 0 (Nat.le_of_ble_eq_true rfl) hx (fun _ _ => rfl) q297 (fun _ _ h => h) dX1_swap_33 ?_
        refine ww_iload_n dX1_swap_36 1 rfl ?_
        obtain ⟨a_14, ea_14, h⟩ := h
        subst ea_14
        obtain ⟨x_15, hx, h⟩ := h
        refine wm_aald hM4 rfl (by decide) hx dX1_swap_37 ?_
        refine ww_astoreQ (i := 4) (lv2 := [(4, va_rf x_15), (0, va_rf (some b)), (1, vI a1), (2, vI a2), (3, vI a3)]) dX1_swap_38 (Nat.le_of_ble_eq_true rfl) rfl ?_
        refine ww_aloadQ_n dX1_swap_40 1 rfl ?_
        refine ww_iload_n dX1_swap_41 2 rfl ?_
        obtain ⟨hg, h⟩ := h
        obtain ⟨c_16, s_17, b_18, h⟩ := h
        refine wm_callV (n := 1) hM4 (tm_X1_fresh h) rfl hg rfl (lw_V q2069 q2071 qs53 q108 q2072) ⟨by decide, by decide, by decide +kernel⟩ rfl ⟨Nat.le_of_ble_eq_true rfl, Nat.le_of_ble_eq_true rfl⟩ rfl (Nat.le_of_ble_eq_true rfl) dX1_swap_42 b_18 ?_
        clear h
        rintro _ μ_21 ws ⟨y_19, rfl, h⟩ hM5
        have hB := b_18
        refine ww_st1 ?_
        refine ww_astoreQ (i := 5) (lv2 := [(5, va_rf y_19), (4, va_rf x_15), (0, va_rf (some b)), (1, vI a1), (2, vI a2), (3, vI a3)]) dX1_swap_45 (Nat.le_of_ble_eq_true rfl) (by simp [rf_cat, vI_cat, vL_cat, ref_cat]) ?_
        refine ww_iconst dX1_swap_47 ?_
        refine ww_istore (i := 6) (lv2 := [(6, vI 0), (5, va_rf y_19), (4, va_rf x_15), (0, va_rf (some b)), (1, vI a1), (2, vI a2), (3, vI a3)]) dX1_swap_48 (Nat.le_of_ble_eq_true rfl) (by simp [rf_cat, vI_cat, vL_cat, ref_cat]) ?_
        obtain ⟨I50, hI50, h⟩ := h
        have kI50 : ∀ (n50 : Nat), ∀ (v6_50 : Int), ∀ (μ50 : HM), I50 n50 v6_50 μ50 → ∀ ws : va_W, Mrep G ws μ50 → (0 + c_7 + c_16 ≤ mc ∧ 0 + s_8 + s_17 ≤ ms) → WW G l cX1_swap RX1 7 (Option.some Jvm.ClassFile.FieldType.boolean) "swap" 8 mc ms (hMR G (hR2 P)) (fun u => [u.1, fr]) (0 + c_7 + c_16) (0 + s_8 + s_17) [ws, fr] 50 [(2, vI a2), (3, vI a3), (4, va_rf x_15), (5, va_rf y_19), (6, vI v6_50)] [] := by
          clear h
          intro n50
          induction n50 using Nat.strongRecOn with
          | ind n50 ih50 =>
            intro v6_50 μ50 hj ws hM6 hB
            have h := hI50 n50 v6_50 μ50 hj
            refine ww_iload dX1_swap_50 4 rfl ?_
            refine ww_aloadQ dX1_swap_52 3 rfl ?_
            obtain ⟨a_22, ea_22, h⟩ := h
            subst ea_22
            obtain ⟨n_23, hn, h⟩ := h
            refine wm_alen hM6 rfl hn dX1_swap_54 ?_
            obtain ⟨r_24, r_25, h⟩ := h
            refine ww_icmp_ge (tgt := 97) dX1_swap_55 (by decide) r_24 r_25 (fun c => ?_) (fun c => ?_)
            · replace h := h.1 c
              refine ww_iconst dX1_swap_97 ?_
              exact ww_zret (ws, μ50) rfl (Or.inr rfl) ⟨hM6, ⟨_, rfl, Or.inr rfl, h⟩⟩ rfl hB.1 hB.2 dX1_swap_98
            · replace h := h.2 (Int.not_le.mp c)
              refine ww_iload dX1_swap_58 4 rfl ?_
              refine ww_iload_n dX1_swap_60 0 rfl ?_
              refine wm_callS (n := 2) hM6 (tm_X1_has h) (lw_S q1572 q1346 q108 q1347) ⟨by decide, by decide, by decide +kernel⟩ rfl ⟨Nat.le_of_ble_eq_true rfl, Nat.le_of_ble_eq_true rfl⟩ rfl (Nat.le_of_ble_eq_true rfl) dX1_swap_61 hB ?_
              clear h
              rintro _ _ ws ⟨rfl, y_26, rfl, z_27, h⟩ hM7
              refine ww_st1 ?_
              refine ww_iload dX1_swap_64 4 rfl ?_
              refine ww_iload_n dX1_swap_66 1 rfl ?_
              refine wm_callS (n := 2) hM7 (tm_X1_has h) (lw_S q1572 q1346 q108 q1347) ⟨by decide, by decide, by decide +kernel⟩ rfl ⟨Nat.le_of_ble_eq_true rfl, Nat.le_of_ble_eq_true rfl⟩ rfl (Nat.le_of_ble_eq_true rfl) dX1_swap_67 hB ?_
              clear h
              rintro _ _ ws ⟨rfl, y_28, rfl, z_29, h⟩ hM8
              refine ww_st1 ?_
              obtain ⟨J91, hJ91, h⟩ := h
              have kJ91 : ∀ (μ91 : HM), J91 μ91 → ∀ ws : va_W, Mrep G ws μ91 → (0 + c_7 + c_16 ≤ mc ∧ 0 + s_8 + s_17 ≤ ms) → WW G l cX1_swap RX1 7 (Option.some Jvm.ClassFile.FieldType.boolean) "swap" 8 mc ms (hMR G (hR2 P)) (fun u => [u.1, fr]) (0 + c_7 + c_16) (0 + s_8 + s_17) [ws, fr] 91 [(2, vI a2), (3, vI a3), (4, va_rf x_15), (5, va_rf (some a_22)), (6, vI v6_50)] [] := by
                clear h
                intro μ91 hj ws hM9 hB
                have h := hJ91 μ91 hj
                refine ww_iinc (lv2 := [(6, vI (v6_50 + 1)), (2, vI a2), (3, vI a3), (4, va_rf x_15), (5, va_rf (some a_22))]) dX1_swap_91 4 rfl (Nat.le_of_ble_eq_true rfl) rfl ?_
                refine ww_goto (tgt := 50) dX1_swap_94 (by decide) ?_
                refine ww_lv [1, 2, 3, 4, 0] rfl ?_
                obtain ⟨m, hm, h⟩ := h
                exact ih50 m hm _ _ h _ hM9 hB
              refine ww_icmp_eq (tgt := 91) dX1_swap_70 (by decide) (r_z z_27) (r_z z_29) (fun c => ?_) (fun c => ?_)
              · replace h := h.1 c
                exact kJ91 _ h _ hM8 hB
              · replace h := h.2 c
                refine ww_aloadQ dX1_swap_73 3 rfl ?_
                refine ww_iload dX1_swap_75 4 rfl ?_
                refine ww_aloadQ dX1_swap_77 2 rfl ?_
                refine ww_iload dX1_swap_79 4 rfl ?_
                refine ww_iconst dX1_swap_81 ?_
                refine ww_iload_n dX1_swap_82 0 rfl ?_
                refine ww_ishl dX1_swap_83 ?_
                refine ww_ixor dX1_swap_84 ?_
                refine ww_iconst dX1_swap_85 ?_
                refine ww_iload_n dX1_swap_86 1 rfl ?_
                refine ww_ishl dX1_swap_87 ?_
                refine ww_ixor dX1_swap_88 ?_
                obtain ⟨a_30, ea_30, h⟩ := h
                subst ea_30
                obtain ⟨x_31, hx, h⟩ := h
                refine wm_iald hM8 rfl hx dX1_swap_89 ?_
                obtain ⟨n_32, f_33, hc, hi, h⟩ := h
                refine wm_iast hM8 rfl hc hi.1 hi.2.1 hi.2.2 dX1_swap_90 (fun ws hM10 => ?_)
                exact kJ91 _ h _ hM10 hB
        refine ww_lv [5, 6, 2, 1, 0] rfl ?_
        obtain ⟨m, h⟩ := h
        exact kI50 m _ _ h _ hM5 hB
      · replace h := h.2 c
        refine ww_iconst dX1_swap_23 ?_
        exact ww_zret (ws, μ) rfl (Or.inl rfl) ⟨hM3, ⟨_, rfl, Or.inl rfl, h⟩⟩ rfl hB.1 hB.2 dX1_swap_24
/-! X1_isOpen: HoloNet isOpen (II)Z; flags (False, False, False), depth 6 -/
def wc_X1_isOpen (ad : Nat → Nat) (μ : HM) (b : Nat) (a1 : Int) (a2 : Int) (P : Int → Prop) : Prop :=
  gC μ b = some 1 ∧
  wc_X1_isLeg ad μ b a1 a2 (fun y_1 =>
    ((y_1 = 0 →
      P 0) ∧
    (¬ y_1 = 0 →
      gC μ b = some 1 ∧
      wc_X1_openOf ad μ b a1 (fun y_3 =>
        wc_X1_has ad μ y_3 a2 (fun y_5 =>
          ((y_5 = 0 →
            P 0) ∧
          (¬ y_5 = 0 →
            P 1)))))))
set_option maxHeartbeats 4000000 in
theorem tm_X1_isOpen {G : g_G} {l : Launch} {μ : HM} {b : Nat} {a1 : Int} {a2 : Int} {P : Int → Prop} (h : wc_X1_isOpen (g_ad G) μ b a1 a2 P) : CM G l yX1_isOpen cX1_isOpen 3 (Option.some Jvm.ClassFile.FieldType.boolean) 6 0 0 [.ref b, vI a1, vI a2] μ (hN2 μ P) := by
  unfold wc_X1_isOpen at h
  refine wm_of (lvs := [(0, va_rf (some b)), (1, vI a1), (2, vI a2)]) (by decide) (Nat.le_of_ble_eq_true rfl) rfl (fun fr ws hM1 => ?_)
  show WW G l cX1_isOpen RX1 3 (Option.some Jvm.ClassFile.FieldType.boolean) "isOpen" 6 0 0 (hMR G (hN2 μ P)) (fun u => [u.1, fr]) 0 0 [ws, fr] 0 [(0, va_rf (some b)), (1, vI a1), (2, vI a2)] []
  refine ww_aloadQ_n dX1_isOpen_0 0 rfl ?_
  refine ww_iload_n dX1_isOpen_1 1 rfl ?_
  refine ww_iload_n dX1_isOpen_2 2 rfl ?_
  obtain ⟨hg, h⟩ := h
  refine wm_callV (n := 2) hM1 (tm_X1_isLeg h) rfl hg rfl (lw_V q2091 q2093 qs54 q108 q2094) ⟨by decide, by decide, by decide +kernel⟩ rfl ⟨Nat.le_of_ble_eq_true rfl, Nat.le_of_ble_eq_true rfl⟩ rfl (Nat.le_of_ble_eq_true rfl) dX1_isOpen_3 ⟨Nat.le_refl _, Nat.le_refl _⟩ ?_
  clear h
  rintro _ _ ws ⟨rfl, y_1, rfl, z_2, h⟩ hM2
  refine ww_st1 ?_
  refine ww_if_eq (tgt := 25) dX1_isOpen_6 (by decide) (r_z z_2) (fun c => ?_) (fun c => ?_)
  · replace h := h.1 c
    refine ww_iconst dX1_isOpen_25 ?_
    exact ww_zret (ws, μ) rfl (Or.inl rfl) ⟨hM2, ⟨rfl, _, rfl, Or.inl rfl, h⟩⟩ rfl (Nat.le_refl _) (Nat.le_refl _) dX1_isOpen_26
  · replace h := h.2 c
    refine ww_aloadQ_n dX1_isOpen_9 0 rfl ?_
    refine ww_iload_n dX1_isOpen_10 1 rfl ?_
    obtain ⟨hg, h⟩ := h
    refine wm_callV (n := 1) hM2 (tm_X1_openOf h) rfl hg rfl (lw_V q1657 q1659 qs43 q108 q1660) ⟨by decide, by decide, by decide +kernel⟩ rfl ⟨Nat.le_of_ble_eq_true rfl, Nat.le_of_ble_eq_true rfl⟩ rfl (Nat.le_of_ble_eq_true rfl) dX1_isOpen_11 ⟨Nat.le_refl _, Nat.le_refl _⟩ ?_
    clear h
    rintro _ _ ws ⟨rfl, y_3, rfl, h⟩ hM3
    refine ww_st1 ?_
    refine ww_iload_n dX1_isOpen_14 2 rfl ?_
    refine wm_callS (n := 2) hM3 (tm_X1_has h) (lw_S q1572 q1346 q108 q1347) ⟨by decide, by decide, by decide +kernel⟩ rfl ⟨Nat.le_of_ble_eq_true rfl, Nat.le_of_ble_eq_true rfl⟩ rfl (Nat.le_of_ble_eq_true rfl) dX1_isOpen_15 ⟨Nat.le_refl _, Nat.le_refl _⟩ ?_
    clear h
    rintro _ _ ws ⟨rfl, y_5, rfl, z_6, h⟩ hM4
    refine ww_st1 ?_
    refine ww_if_eq (tgt := 25) dX1_isOpen_18 (by decide) (r_z z_6) (fun c => ?_) (fun c => ?_)
    · replace h := h.1 c
      refine ww_iconst dX1_isOpen_25 ?_
      exact ww_zret (ws, μ) rfl (Or.inl rfl) ⟨hM4, ⟨rfl, _, rfl, Or.inl rfl, h⟩⟩ rfl (Nat.le_refl _) (Nat.le_refl _) dX1_isOpen_26
    · replace h := h.2 c
      refine ww_iconst dX1_isOpen_21 ?_
      refine ww_goto (tgt := 26) dX1_isOpen_22 (by decide) ?_
      exact ww_zret (ws, μ) rfl (Or.inr rfl) ⟨hM4, ⟨rfl, _, rfl, Or.inr rfl, h⟩⟩ rfl (Nat.le_refl _) (Nat.le_refl _) dX1_isOpen_26
/-! X1_join: HoloNet join (IIII)I; flags (True, True, False), depth 8 -/
def wc_X1_join (ad : Nat → Nat) (mc ms : Nat) (μ : HM) (b : Nat) (a1 : Int) (a2 : Int) (a3 : Int) (a4 : Int) (P : Int → HM → Prop) : Prop :=
  gC μ b = some 1 ∧
  wc_X1_isOpen ad μ b a1 a2 (fun y_1 =>
    ((y_1 = 0 →
      P (-1) μ) ∧
    (¬ y_1 = 0 →
      gC μ b = some 1 ∧
      wc_X1_isOpen ad μ b a3 a4 (fun y_3 =>
        ((y_3 = 0 →
          P (-1) μ) ∧
        (¬ y_3 = 0 →
          rI a1 ∧
          rI a3 ∧
          ∃ J30 : Prop, (J30 →
            ∃ x_7 : Option Nat, gQ μ b 1 3 = some x_7 ∧
            ∃ a_9 : Nat, x_7 = some a_9 ∧
            ∃ x_8 : Option Nat, gQ μ a_9 4 1 = some x_8 ∧
            ∃ a_10 : Nat, x_8 = some a_10 ∧
            gC μ a_10 = some 18 ∧
            wc_J2_size ad μ a_10 (fun y_11 =>
              rI y_11 ∧
              ((¬ y_11 = 10 →
                gC μ b = some 1 ∧
                ∃ c_14 s_15 : Nat, (0 + c_14 ≤ mc ∧ 0 + s_15 ≤ ms) ∧
                wc_X1_keepsAhead ad c_14 s_15 μ b (fun μ_17 =>
                  ∃ x_18 : Option Nat, gQ μ_17 b 1 3 = some x_18 ∧
                  (0 + c_14 + 1 ≤ mc ∧ 0 + s_15 + 4 ≤ ms) ∧ ∀ q_19 : Nat, μ_17 q_19 = none →
                  wc_X13_init ad (hs μ_17 q_19 (hO 10 (fun _ => 0) (fun _ => none))) q_19 a1 a2 a3 a4 (fun μ_21 =>
                    ∃ a_22 : Nat, x_18 = some a_22 ∧
                    gC μ_21 a_22 = some 4 ∧
                    ∃ c_23 s_24 : Nat, (0 + c_14 + 1 + c_23 ≤ mc ∧ 0 + s_15 + 4 + s_24 ≤ ms) ∧
                    wc_X4_adds ad c_23 s_24 μ_21 a_22 (some q_19) (fun μ_26 =>
                      ∃ x_27 : Option Nat, gQ μ_26 b 1 3 = some x_27 ∧
                      ∃ a_29 : Nat, x_27 = some a_29 ∧
                      ∃ x_28 : Option Nat, gQ μ_26 a_29 4 1 = some x_28 ∧
                      ∃ a_30 : Nat, x_28 = some a_30 ∧
                      gC μ_26 a_30 = some 18 ∧
                      wc_J2_size ad μ_26 a_30 (fun y_31 =>
                        P (y_31 - 1) μ_26))))) ∧
              (y_11 = 10 →
                P (-1) μ)))) ∧
          ((¬ a1 = a3 →
            J30) ∧
          (a1 = a3 →
            rI a2 ∧
            rI a4 ∧
            ((a2 = a4 →
              P (-1) μ) ∧
            (¬ a2 = a4 →
              J30))))))))))
set_option maxHeartbeats 4000000 in
theorem tm_X1_join {G : g_G} {l : Launch} {mc ms : Nat} {μ : HM} {b : Nat} {a1 : Int} {a2 : Int} {a3 : Int} {a4 : Int} {P : Int → HM → Prop} (h : wc_X1_join (g_ad G) mc ms μ b a1 a2 a3 a4 P) : CM G l yX1_join cX1_join 5 (Option.some Jvm.ClassFile.FieldType.int) 8 mc ms [.ref b, vI a1, vI a2, vI a3, vI a4] μ (hR1 P) := by
  unfold wc_X1_join at h
  refine wm_of (lvs := [(0, va_rf (some b)), (1, vI a1), (2, vI a2), (3, vI a3), (4, vI a4)]) (by decide) (Nat.le_of_ble_eq_true rfl) rfl (fun fr ws hM1 => ?_)
  show WW G l cX1_join RX1 5 (Option.some Jvm.ClassFile.FieldType.int) "join" 8 mc ms (hMR G (hR1 P)) (fun u => [u.1, fr]) 0 0 [ws, fr] 0 [(0, va_rf (some b)), (1, vI a1), (2, vI a2), (3, vI a3), (4, vI a4)] []
  have hB : 0 ≤ mc ∧ 0 ≤ ms := ⟨Nat.zero_le _, Nat.zero_le _⟩
  refine ww_aloadQ_n dX1_join_0 0 rfl ?_
  refine ww_iload_n dX1_join_1 1 rfl ?_
  refine ww_iload_n dX1_join_2 2 rfl ?_
  obtain ⟨hg, h⟩ := h
  refine wm_callV (n := 2) hM1 (tm_X1_isOpen h) rfl hg rfl (lw_V q2099 q2101 qs55 q108 q2102) ⟨by decide, by decide, by decide +kernel⟩ rfl ⟨Nat.le_of_ble_eq_true rfl, Nat.le_of_ble_eq_true rfl⟩ rfl (Nat.le_of_ble_eq_true rfl) dX1_join_3 hB ?_
  clear h
  rintro _ _ ws ⟨rfl, y_1, rfl, z_2, h⟩ hM2
  refine ww_st1 ?_
  refine ww_if_eq (tgt := 45) dX1_join_6 (by decide) (r_z z_2) (fun c => ?_) (fun c => ?_)
  · replace h := h.1 c
    refine ww_iconst dX1_join_45 ?_
    exact ww_iret (ws, μ) rfl ⟨hM2, ⟨_, rfl, h⟩⟩ rfl hB.1 hB.2 dX1_join_46
  · replace h := h.2 c
    refine ww_aloadQ_n dX1_join_9 0 rfl ?_
    refine ww_iload_n dX1_join_10 3 rfl ?_
    refine ww_iload dX1_join_11 4 rfl ?_
    obtain ⟨hg, h⟩ := h
    refine wm_callV (n := 2) hM2 (tm_X1_isOpen h) rfl hg rfl (lw_V q2099 q2101 qs55 q108 q2102) ⟨by decide, by decide, by decide +kernel⟩ rfl ⟨Nat.le_of_ble_eq_true rfl, Nat.le_of_ble_eq_true rfl⟩ rfl (Nat.le_of_ble_eq_true rfl) dX1_join_13 hB ?_
    clear h
    rintro _ _ ws ⟨rfl, y_3, rfl, z_4, h⟩ hM3
    refine ww_st1 ?_
    refine ww_if_eq (tgt := 45) dX1_join_16 (by decide) (r_z z_4) (fun c => ?_) (fun c => ?_)
    · replace h := h.1 c
      refine ww_iconst dX1_join_45 ?_
      exact ww_iret (ws, μ) rfl ⟨hM3, ⟨_, rfl, h⟩⟩ rfl hB.1 hB.2 dX1_join_46
    · replace h := h.2 c
      refine ww_iload_n dX1_join_19 1 rfl ?_
      refine ww_iload_n dX1_join_20 3 rfl ?_
      obtain ⟨r_5, r_6, h⟩ := h
      obtain ⟨J30, hJ30, h⟩ := h
      have kJ30 : J30 → ∀ ws : va_W, Mrep G ws μ → (0 ≤ mc ∧ 0 ≤ ms) → WW G l cX1_join RX1 5 (Option.some Jvm.ClassFile.FieldType.int) "join" 8 mc ms (hMR G (hR1 P)) (fun u => [u.1, fr]) 0 0 [ws, fr] 30 [(0, va_rf (some b)), (1, vI a1), (2, vI a2), (3, vI a3), (4, vI a4)] [] := by
        clear h
        intro hj ws hM4 hB
        have h := hJ30 hj
        refine ww_aloadQ_n dX1_join_30 0 rfl ?_
        obtain ⟨x_7, hx, h⟩ := h
        refine wm_getQ hM4 rfl in_X1 (ci := 1) rfl (by decide) 3 (Nat.le_of_ble_eq_true rfl) hx (fun _ _ => rfl) q322 (fun _ _ h => h) dX1_join_31 ?_
        obtain ⟨a_9, ea_9, h⟩ := h
        subst ea_9
        obtain ⟨x_8, hx, h⟩ := h
        refine wm_getQN hM4 rfl in_X4 (ci := 4) rfl (by decide) 1 (Nat.le_of_ble_eq_true rfl) hx (fun _ _ => rfl) q300 (fun _ _ h => h) dX1_join_34 ?_
        obtain ⟨a_10, ea_10, h⟩ := h
        subst ea_10
        obtain ⟨hg, h⟩ := h
        refine wm_callV (n := 0) hM4 (tm_J2_size h) rfl hg rfl (lw_V q2006 q856 q857 q113 q858) ⟨by decide, by decide, by decide +kernel⟩ rfl ⟨Nat.le_of_ble_eq_true rfl, Nat.le_of_ble_eq_true rfl⟩ rfl (Nat.le_of_ble_eq_true rfl) dX1_join_37 hB ?_
        clear h
        rintro _ _ ws ⟨rfl, y_11, rfl, h⟩ hM5
        refine ww_st1 ?_
        refine ww_bipush (v := 10) dX1_join_40 rfl ?_
        obtain ⟨r_13, h⟩ := h
        refine ww_icmp_ne (tgt := 47) dX1_join_42 (by decide) r_13 (by decide) (fun c => ?_) (fun c => ?_)
        · replace h := h.1 c
          refine ww_aloadQ_n dX1_join_47 0 rfl ?_
          obtain ⟨hg, h⟩ := h
          obtain ⟨c_14, s_15, b_16, h⟩ := h
          refine wm_callV (n := 0) hM5 (tm_X1_keepsAhead h) rfl hg rfl (lw_V q2025 q2027 qs50 q108 q2028) ⟨by decide, by decide, by decide +kernel⟩ rfl ⟨Nat.le_of_ble_eq_true rfl, Nat.le_of_ble_eq_true rfl⟩ rfl (Nat.le_of_ble_eq_true rfl) dX1_join_48 b_16 ?_
          clear h
          rintro _ μ_17 ws ⟨rfl, h⟩ hM6
          have hB := b_16
          refine ww_st0 ?_
          refine ww_aloadQ_n dX1_join_51 0 rfl ?_
          obtain ⟨x_18, hx, h⟩ := h
          refine wm_getQ hM6 rfl in_X1 (ci := 1) rfl (by decide) 3 (Nat.le_of_ble_eq_true rfl) hx (fun _ _ => rfl) q322 (fun _ _ h => h) dX1_join_52 ?_
          obtain ⟨b_20, h⟩ := h
          refine wm_new hM6 in_X13 tyX13_ok q2008 q1449 q147 (ci := 10) rfl dfl_10 b_20.1 b_20.2 dX1_join_55 (fun q_19 ws hq hM7 => ?_)
          replace h := h q_19 hq
          have hB := b_20
          refine ww_dup dX1_join_58 (rf_cat _) ?_
          refine ww_iload_n dX1_join_59 1 rfl ?_
          refine ww_iload_n dX1_join_60 2 rfl ?_
          refine ww_iload_n dX1_join_61 3 rfl ?_
          refine ww_iload dX1_join_62 4 rfl ?_
          refine wm_callIN (n := 4) hM7 (tm_X13_init h) rfl q2103 q1452 q147 q1451 rfl ⟨by decide, by decide, by decide +kernel⟩ rfl ⟨Nat.le_of_ble_eq_true rfl, Nat.le_of_ble_eq_true rfl⟩ rfl (by simp only [List.map_cons, List.map_nil, rf_cat, vI_cat, vL_cat, List.sum_cons, List.sum_nil]; decide) dX1_join_64 hB ?_
          clear h
          rintro _ μ_21 ws ⟨rfl, h⟩ hM8
          refine ww_st0 ?_
          obtain ⟨a_22, ea_22, h⟩ := h
          subst ea_22
          obtain ⟨hg, h⟩ := h
          obtain ⟨c_23, s_24, b_25, h⟩ := h
          refine wm_callV (n := 1) hM8 (tm_X4_adds h) rfl hg rfl (lw_V q2104 q1471 q1472 q116 q1473) ⟨by decide, by decide, by decide +kernel⟩ rfl ⟨Nat.le_of_ble_eq_true rfl, Nat.le_of_ble_eq_true rfl⟩ rfl (Nat.le_of_ble_eq_true rfl) dX1_join_67 b_25 ?_
          clear h
          rintro _ μ_26 ws ⟨rfl, h⟩ hM9
          have hB := b_25
          refine ww_st0 ?_
          refine ww_aloadQ_n dX1_join_70 0 rfl ?_
          obtain ⟨x_27, hx, h⟩ := h
          refine wm_getQ hM9 rfl in_X1 (ci := 1) rfl (by decide) 3 (Nat.le_of_ble_eq_true rfl) hx (fun _ _ => rfl) q322 (fun _ _ h => h) dX1_join_71 ?_
          obtain ⟨a_29, ea_29, h⟩ := h
          subst ea_29
          obtain ⟨x_28, hx, h⟩ := h
          refine wm_getQN hM9 rfl in_X4 (ci := 4) rfl (by decide) 1 (Nat.le_of_ble_eq_true rfl) hx (fun _ _ => rfl) q300 (fun _ _ h => h) dX1_join_74 ?_
          obtain ⟨a_30, ea_30, h⟩ := h
          subst ea_30
          obtain ⟨hg, h⟩ := h
          refine wm_callV (n := 0) hM9 (tm_J2_size h) rfl hg rfl (lw_V q2006 q856 q857 q113 q858) ⟨by decide, by decide, by decide +kernel⟩ rfl ⟨Nat.le_of_ble_eq_true rfl, Nat.le_of_ble_eq_true rfl⟩ rfl (Nat.le_of_ble_eq_true rfl) dX1_join_77 hB ?_
          clear h
          rintro _ _ ws ⟨rfl, y_31, rfl, h⟩ hM10
          refine ww_st1 ?_
          refine ww_iconst dX1_join_80 ?_
          refine ww_isub dX1_join_81 ?_
          exact ww_iret (ws, μ_26) rfl ⟨hM10, ⟨_, rfl, h⟩⟩ rfl hB.1 hB.2 dX1_join_82
        · replace h := h.2 c
          refine ww_iconst dX1_join_45 ?_
          exact ww_iret (ws, μ) rfl ⟨hM5, ⟨_, rfl, h⟩⟩ rfl hB.1 hB.2 dX1_join_46
      refine ww_icmp_ne (tgt := 30) dX1_join_21 (by decide) r_5 r_6 (fun c => ?_) (fun c => ?_)
      · replace h := h.1 c
        exact kJ30 h _ hM3 hB
      · replace h := h.2 c
        refine ww_iload_n dX1_join_24 2 rfl ?_
        refine ww_iload dX1_join_25 4 rfl ?_
        obtain ⟨r_33, r_34, h⟩ := h
        refine ww_icmp_eq (tgt := 45) dX1_join_27 (by decide) r_33 r_34 (fun c => ?_) (fun c => ?_)
        · replace h := h.1 c
          refine ww_iconst dX1_join_45 ?_
          exact ww_iret (ws, μ) rfl ⟨hM3, ⟨_, rfl, h⟩⟩ rfl hB.1 hB.2 dX1_join_46
        · replace h := h.2 c
          exact kJ30 h _ hM3 hB
/-! X4_cuts: HoloNet$State cuts (I)V; flags (True, False, False), depth 3 -/
def wc_X4_cuts (ad : Nat → Nat) (μ : HM) (b : Nat) (a1 : Int) (P : HM → Prop) : Prop :=
  ∃ x_1 : Option Nat, gQ μ b 4 1 = some x_1 ∧
  ∃ a_2 : Nat, x_1 = some a_2 ∧
  gC μ a_2 = some 18 ∧
  wc_J2_remove ad μ a_2 a1 (fun y_3 μ_5 =>
    (∀ z : Nat, y_3 = some z → ∃ ci, gC μ_5 z = some ci ∧ (ci = 10)) ∧
    gC μ_5 b = some 4 ∧
    wc_X4_changes ad μ_5 b y_3 (fun μ_6 =>
      P μ_6))
set_option maxHeartbeats 4000000 in
theorem tm_X4_cuts {G : g_G} {l : Launch} {μ : HM} {b : Nat} {a1 : Int} {P : HM → Prop} (h : wc_X4_cuts (g_ad G) μ b a1 P) : CM G l yX4_cuts cX4_cuts 2 (Option.none : Option Jvm.ClassFile.FieldType) 3 0 0 [.ref b, vI a1] μ (hR0 P) := by
  unfold wc_X4_cuts at h
  refine wm_of (lvs := [(0, va_rf (some b)), (1, vI a1)]) (by decide) (Nat.le_of_ble_eq_true rfl) rfl (fun fr ws hM1 => ?_)
  show WW G l cX4_cuts RX4 2 (Option.none : Option Jvm.ClassFile.FieldType) "cuts" 3 0 0 (hMR G (hR0 P)) (fun u => [u.1, fr]) 0 0 [ws, fr] 0 [(0, va_rf (some b)), (1, vI a1)] []
  refine ww_aloadQ_n dX4_cuts_0 0 rfl ?_
  refine ww_aloadQ_n dX4_cuts_1 0 rfl ?_
  obtain ⟨x_1, hx, h⟩ := h
  refine wm_getQ hM1 rfl in_X4 (ci := 4) rfl (by decide) 1 (Nat.le_of_ble_eq_true rfl) hx (fun _ _ => rfl) q298 (fun _ _ h => h) dX4_cuts_2 ?_
  refine ww_iload_n dX4_cuts_5 1 rfl ?_
  obtain ⟨a_2, ea_2, h⟩ := h
  subst ea_2
  obtain ⟨hg, h⟩ := h
  refine wm_callV (n := 1) hM1 (tm_J2_remove h) rfl hg rfl (lw_V q2113 q2030 q2031 q113 q2032) ⟨by decide, by decide, by decide +kernel⟩ rfl ⟨Nat.le_of_ble_eq_true rfl, Nat.le_of_ble_eq_true rfl⟩ rfl (by simp only [List.map_cons, List.map_nil, rf_cat, vI_cat, vL_cat, List.sum_cons, List.sum_nil]; decide) dX4_cuts_6 ⟨Nat.le_refl _, Nat.le_refl _⟩ ?_
  clear h
  rintro _ μ_5 ws ⟨y_3, rfl, h⟩ hM2
  refine ww_st1 ?_
  obtain ⟨hc, h⟩ := h
  refine wm_cast hM2 hc cast_7 q2114 dX4_cuts_9 ?_
  obtain ⟨hg, h⟩ := h
  refine wm_callV (n := 1) hM2 (tm_X4_changes h) rfl hg rfl (lw_V q1475 q1477 qs28 q116 q1478) ⟨by decide, by decide, by decide +kernel⟩ rfl ⟨Nat.le_of_ble_eq_true rfl, Nat.le_of_ble_eq_true rfl⟩ rfl (Nat.le_of_ble_eq_true rfl) dX4_cuts_12 ⟨Nat.le_refl _, Nat.le_refl _⟩ ?_
  clear h
  rintro _ μ_6 ws ⟨rfl, h⟩ hM3
  refine ww_st0 ?_
  exact ww_vret (ws, μ_6) rfl ⟨hM3, ⟨rfl, h⟩⟩ rfl (Nat.le_refl _) (Nat.le_refl _) dX4_cuts_15
/-! X1_cut: HoloNet cut (I)I; flags (True, True, False), depth 8 -/
def wc_X1_cut (ad : Nat → Nat) (mc ms : Nat) (μ : HM) (b : Nat) (a1 : Int) (P : Int → HM → Prop) : Prop :=
  gC μ b = some 1 ∧
  wc_X1_isWire ad μ b a1 (fun y_1 =>
    ((¬ y_1 = 0 →
      gC μ b = some 1 ∧
      ∃ c_3 s_4 : Nat, (0 + c_3 ≤ mc ∧ 0 + s_4 ≤ ms) ∧
      wc_X1_keepsAhead ad c_3 s_4 μ b (fun μ_6 =>
        ∃ x_7 : Option Nat, gQ μ_6 b 1 3 = some x_7 ∧
        ∃ a_8 : Nat, x_7 = some a_8 ∧
        gC μ_6 a_8 = some 4 ∧
        wc_X4_cuts ad μ_6 a_8 a1 (fun μ_9 =>
          ∃ x_10 : Option Nat, gQ μ_9 b 1 3 = some x_10 ∧
          ∃ a_12 : Nat, x_10 = some a_12 ∧
          ∃ x_11 : Option Nat, gQ μ_9 a_12 4 1 = some x_11 ∧
          ∃ a_13 : Nat, x_11 = some a_13 ∧
          gC μ_9 a_13 = some 18 ∧
          wc_J2_size ad μ_9 a_13 (fun y_14 =>
            P y_14 μ_9)))) ∧
    (y_1 = 0 →
      P (-1) μ)))
set_option maxHeartbeats 4000000 in
theorem tm_X1_cut {G : g_G} {l : Launch} {mc ms : Nat} {μ : HM} {b : Nat} {a1 : Int} {P : Int → HM → Prop} (h : wc_X1_cut (g_ad G) mc ms μ b a1 P) : CM G l yX1_cut cX1_cut 2 (Option.some Jvm.ClassFile.FieldType.int) 8 mc ms [.ref b, vI a1] μ (hR1 P) := by
  unfold wc_X1_cut at h
  refine wm_of (lvs := [(0, va_rf (some b)), (1, vI a1)]) (by decide) (Nat.le_of_ble_eq_true rfl) rfl (fun fr ws hM1 => ?_)
  show WW G l cX1_cut RX1 2 (Option.some Jvm.ClassFile.FieldType.int) "cut" 8 mc ms (hMR G (hR1 P)) (fun u => [u.1, fr]) 0 0 [ws, fr] 0 [(0, va_rf (some b)), (1, vI a1)] []
  have hB : 0 ≤ mc ∧ 0 ≤ ms := ⟨Nat.zero_le _, Nat.zero_le _⟩
  refine ww_aloadQ_n dX1_cut_0 0 rfl ?_
  refine ww_iload_n dX1_cut_1 1 rfl ?_
  obtain ⟨hg, h⟩ := h
  refine wm_callV (n := 1) hM1 (tm_X1_isWire h) rfl hg rfl (lw_V q2021 q2023 qs49 q108 q2024) ⟨by decide, by decide, by decide +kernel⟩ rfl ⟨Nat.le_of_ble_eq_true rfl, Nat.le_of_ble_eq_true rfl⟩ rfl (Nat.le_of_ble_eq_true rfl) dX1_cut_2 hB ?_
  clear h
  rintro _ _ ws ⟨rfl, y_1, rfl, z_2, h⟩ hM2
  refine ww_st1 ?_
  refine ww_if_ne (tgt := 10) dX1_cut_5 (by decide) (r_z z_2) (fun c => ?_) (fun c => ?_)
  · replace h := h.1 c
    refine ww_aloadQ_n dX1_cut_10 0 rfl ?_
    obtain ⟨hg, h⟩ := h
    obtain ⟨c_3, s_4, b_5, h⟩ := h
    refine wm_callV (n := 0) hM2 (tm_X1_keepsAhead h) rfl hg rfl (lw_V q2025 q2027 qs50 q108 q2028) ⟨by decide, by decide, by decide +kernel⟩ rfl ⟨Nat.le_of_ble_eq_true rfl, Nat.le_of_ble_eq_true rfl⟩ rfl (Nat.le_of_ble_eq_true rfl) dX1_cut_11 b_5 ?_
    clear h
    rintro _ μ_6 ws ⟨rfl, h⟩ hM3
    have hB := b_5
    refine ww_st0 ?_
    refine ww_aloadQ_n dX1_cut_14 0 rfl ?_
    obtain ⟨x_7, hx, h⟩ := h
    refine wm_getQ hM3 rfl in_X1 (ci := 1) rfl (by decide) 3 (Nat.le_of_ble_eq_true rfl) hx (fun _ _ => rfl) q322 (fun _ _ h => h) dX1_cut_15 ?_
    refine ww_iload_n dX1_cut_18 1 rfl ?_
    obtain ⟨a_8, ea_8, h⟩ := h
    subst ea_8
    obtain ⟨hg, h⟩ := h
    refine wm_callV (n := 1) hM3 (tm_X4_cuts h) rfl hg rfl (lw_V q2109 q2110 q2111 q116 q2112) ⟨by decide, by decide, by decide +kernel⟩ rfl ⟨Nat.le_of_ble_eq_true rfl, Nat.le_of_ble_eq_true rfl⟩ rfl (Nat.le_of_ble_eq_true rfl) dX1_cut_19 hB ?_
    clear h
    rintro _ μ_9 ws ⟨rfl, h⟩ hM4
    refine ww_st0 ?_
    refine ww_aloadQ_n dX1_cut_22 0 rfl ?_
    obtain ⟨x_10, hx, h⟩ := h
    refine wm_getQ hM4 rfl in_X1 (ci := 1) rfl (by decide) 3 (Nat.le_of_ble_eq_true rfl) hx (fun _ _ => rfl) q322 (fun _ _ h => h) dX1_cut_23 ?_
    obtain ⟨a_12, ea_12, h⟩ := h
    subst ea_12
    obtain ⟨x_11, hx, h⟩ := h
    refine wm_getQN hM4 rfl in_X4 (ci := 4) rfl (by decide) 1 (Nat.le_of_ble_eq_true rfl) hx (fun _ _ => rfl) q300 (fun _ _ h => h) dX1_cut_26 ?_
    obtain ⟨a_13, ea_13, h⟩ := h
    subst ea_13
    obtain ⟨hg, h⟩ := h
    refine wm_callV (n := 0) hM4 (tm_J2_size h) rfl hg rfl (lw_V q2006 q856 q857 q113 q858) ⟨by decide, by decide, by decide +kernel⟩ rfl ⟨Nat.le_of_ble_eq_true rfl, Nat.le_of_ble_eq_true rfl⟩ rfl (Nat.le_of_ble_eq_true rfl) dX1_cut_29 hB ?_
    clear h
    rintro _ _ ws ⟨rfl, y_14, rfl, h⟩ hM5
    refine ww_st1 ?_
    exact ww_iret (ws, μ_9) rfl ⟨hM5, ⟨_, rfl, h⟩⟩ rfl hB.1 hB.2 dX1_cut_32
  · replace h := h.2 c
    refine ww_iconst dX1_cut_8 ?_
    exact ww_iret (ws, μ) rfl ⟨hM2, ⟨_, rfl, h⟩⟩ rfl hB.1 hB.2 dX1_cut_9
/-! J2_isEmpty: java/util/ArrayList isEmpty ()Z; flags (False, False, False), depth 0 -/
def wc_J2_isEmpty (ad : Nat → Nat) (μ : HM) (b : Nat) (P : Int → Prop) : Prop :=
  ∃ x_1 : Int, gI μ b 18 2 = some x_1 ∧
  rI x_1 ∧
  ((¬ x_1 = 0 →
    P 0) ∧
  (x_1 = 0 →
    P 1))
set_option maxHeartbeats 4000000 in
theorem tm_J2_isEmpty {G : g_G} {l : Launch} {μ : HM} {b : Nat} {P : Int → Prop} (h : wc_J2_isEmpty (g_ad G) μ b P) : CM G l yJ2_isEmpty cJ2_isEmpty 1 (Option.some Jvm.ClassFile.FieldType.boolean) 0 0 0 [.ref b] μ (hN2 μ P) := by
  unfold wc_J2_isEmpty at h
  refine wm_of (lvs := [(0, va_rf (some b))]) (by decide) (Nat.le_of_ble_eq_true rfl) rfl (fun fr ws hM1 => ?_)
  show WW G l cJ2_isEmpty RJ2 1 (Option.some Jvm.ClassFile.FieldType.boolean) "isEmpty" 0 0 0 (hMR G (hN2 μ P)) (fun u => [u.1, fr]) 0 0 [ws, fr] 0 [(0, va_rf (some b))] []
  refine ww_aloadQ_n dJ2_isEmpty_0 0 rfl ?_
  obtain ⟨x_1, hx, h⟩ := h
  refine wm_getI hM1 rfl in_J2 (ci := 18) rfl (by decide) 2 (Nat.le_of_ble_eq_true rfl) hx (fun _ _ => rfl) q201 (fun _ _ h => h) dJ2_isEmpty_1 ?_
  obtain ⟨r_2, h⟩ := h
  refine ww_if_ne (tgt := 11) dJ2_isEmpty_4 (by decide) r_2 (fun c => ?_) (fun c => ?_)
  · replace h := h.1 c
    refine ww_iconst dJ2_isEmpty_11 ?_
    exact ww_zret (ws, μ) rfl (Or.inl rfl) ⟨hM1, ⟨rfl, _, rfl, Or.inl rfl, h⟩⟩ rfl (Nat.le_refl _) (Nat.le_refl _) dJ2_isEmpty_12
  · replace h := h.2 c
    refine ww_iconst dJ2_isEmpty_7 ?_
    refine ww_goto (tgt := 12) dJ2_isEmpty_8 (by decide) ?_
    exact ww_zret (ws, μ) rfl (Or.inr rfl) ⟨hM1, ⟨rfl, _, rfl, Or.inr rfl, h⟩⟩ rfl (Nat.le_refl _) (Nat.le_refl _) dJ2_isEmpty_12
/-! X1_undo: HoloNet undo ()I; flags (True, False, False), depth 3 -/
def wc_X1_undo (ad : Nat → Nat) (μ : HM) (b : Nat) (P : Int → HM → Prop) : Prop :=
  ∃ x_1 : Option Nat, gQ μ b 1 4 = some x_1 ∧
  ∃ a_2 : Nat, x_1 = some a_2 ∧
  gC μ a_2 = some 18 ∧
  wc_J2_isEmpty ad μ a_2 (fun y_3 =>
    ((y_3 = 0 →
      ∃ x_5 : Option Nat, gQ μ b 1 4 = some x_5 ∧
      ∃ x_6 : Option Nat, gQ μ b 1 4 = some x_6 ∧
      ∃ a_7 : Nat, x_6 = some a_7 ∧
      gC μ a_7 = some 18 ∧
      wc_J2_size ad μ a_7 (fun y_8 =>
        ∃ a_10 : Nat, x_5 = some a_10 ∧
        gC μ a_10 = some 18 ∧
        wc_J2_remove ad μ a_10 (y_8 - 1) (fun y_11 μ_13 =>
          (∀ z : Nat, y_11 = some z → ∃ ci, gC μ_13 z = some ci ∧ (ci = 4)) ∧
          ∃ (fi_14 : Nat → Int) (fq_15 : Nat → Option Nat), μ_13 b = some (hO 1 fi_14 fq_15) ∧ 
          ∃ x_16 : Option Nat, gQ (hs μ_13 b (hO 1 fi_14 (upF fq_15 3 y_11))) b 1 4 = some x_16 ∧
          ∃ a_17 : Nat, x_16 = some a_17 ∧
          gC (hs μ_13 b (hO 1 fi_14 (upF fq_15 3 y_11))) a_17 = some 18 ∧
          wc_J2_size ad (hs μ_13 b (hO 1 fi_14 (upF fq_15 3 y_11))) a_17 (fun y_18 =>
            P y_18 (hs μ_13 b (hO 1 fi_14 (upF fq_15 3 y_11))))))) ∧
    (¬ y_3 = 0 →
      P (-1) μ)))
set_option maxHeartbeats 4000000 in
theorem tm_X1_undo {G : g_G} {l : Launch} {μ : HM} {b : Nat} {P : Int → HM → Prop} (h : wc_X1_undo (g_ad G) μ b P) : CM G l yX1_undo cX1_undo 1 (Option.some Jvm.ClassFile.FieldType.int) 3 0 0 [.ref b] μ (hR1 P) := by
  unfold wc_X1_undo at h
  refine wm_of (lvs := [(0, va_rf (some b))]) (by decide) (Nat.le_of_ble_eq_true rfl) rfl (fun fr ws hM1 => ?_)
  show WW G l cX1_undo RX1 1 (Option.some Jvm.ClassFile.FieldType.int) "undo" 3 0 0 (hMR G (hR1 P)) (fun u => [u.1, fr]) 0 0 [ws, fr] 0 [(0, va_rf (some b))] []
  refine ww_aloadQ_n dX1_undo_0 0 rfl ?_
  obtain ⟨x_1, hx, h⟩ := h
  refine wm_getQ hM1 rfl in_X1 (ci := 1) rfl (by decide) 4 (Nat.le_of_ble_eq_true rfl) hx (fun _ _ => rfl) q323 (fun _ _ h => h) dX1_undo_1 ?_
  obtain ⟨a_2, ea_2, h⟩ := h
  subst ea_2
  obtain ⟨hg, h⟩ := h
  refine wm_callV (n := 0) hM1 (tm_J2_isEmpty h) rfl hg rfl (lw_V q2119 q2120 q2121 q113 q2122) ⟨by decide, by decide, by decide +kernel⟩ rfl ⟨Nat.le_of_ble_eq_true rfl, Nat.le_of_ble_eq_true rfl⟩ rfl (Nat.le_of_ble_eq_true rfl) dX1_undo_4 ⟨Nat.le_refl _, Nat.le_refl _⟩ ?_
  clear h
  rintro _ _ ws ⟨rfl, y_3, rfl, z_4, h⟩ hM2
  refine ww_st1 ?_
  refine ww_if_eq (tgt := 12) dX1_undo_7 (by decide) (r_z z_4) (fun c => ?_) (fun c => ?_)
  · replace h := h.1 c
    refine ww_aloadQ_n dX1_undo_12 0 rfl ?_
    refine ww_aloadQ_n dX1_undo_13 0 rfl ?_
    obtain ⟨x_5, hx, h⟩ := h
    refine wm_getQ hM2 rfl in_X1 (ci := 1) rfl (by decide) 4 (Nat.le_of_ble_eq_true rfl) hx (fun _ _ => rfl) q323 (fun _ _ h => h) dX1_undo_14 ?_
    refine ww_aloadQ_n dX1_undo_17 0 rfl ?_
    obtain ⟨x_6, hx, h⟩ := h
    refine wm_getQ hM2 rfl in_X1 (ci := 1) rfl (by decide) 4 (Nat.le_of_ble_eq_true rfl) hx (fun _ _ => rfl) q323 (fun _ _ h => h) dX1_undo_18 ?_
    obtain ⟨a_7, ea_7, h⟩ := h
    subst ea_7
    obtain ⟨hg, h⟩ := h
    refine wm_callV (n := 0) hM2 (tm_J2_size h) rfl hg rfl (lw_V q2006 q856 q857 q113 q858) ⟨by decide, by decide, by decide +kernel⟩ rfl ⟨Nat.le_of_ble_eq_true rfl, Nat.le_of_ble_eq_true rfl⟩ rfl (by simp only [List.map_cons, List.map_nil, rf_cat, vI_cat, vL_cat, List.sum_cons, List.sum_nil]; decide) dX1_undo_21 ⟨Nat.le_refl _, Nat.le_refl _⟩ ?_
    clear h
    rintro _ _ ws ⟨rfl, y_8, rfl, h⟩ hM3
    refine ww_st1 ?_
    refine ww_iconst dX1_undo_24 ?_
    refine ww_isub dX1_undo_25 ?_
    obtain ⟨a_10, ea_10, h⟩ := h
    subst ea_10
    obtain ⟨hg, h⟩ := h
    refine wm_callV (n := 1) hM3 (tm_J2_remove h) rfl hg rfl (lw_V q2029 q2030 q2031 q113 q2032) ⟨by decide, by decide, by decide +kernel⟩ rfl ⟨Nat.le_of_ble_eq_true rfl, Nat.le_of_ble_eq_true rfl⟩ rfl (by simp only [List.map_cons, List.map_nil, rf_cat, vI_cat, vL_cat, List.sum_cons, List.sum_nil]; decide) dX1_undo_26 ⟨Nat.le_refl _, Nat.le_refl _⟩ ?_
    clear h
    rintro _ μ_13 ws ⟨y_11, rfl, h⟩ hM4
    refine ww_st1 ?_
    obtain ⟨hc, h⟩ := h
    refine wm_cast hM4 hc cast_9 q283 dX1_undo_29 ?_
    obtain ⟨fi_14, fq_15, hc, h⟩ := h
    refine wm_putQ hM4 rfl in_X1 tyX1_ok nmX1 (ci := 1) rfl 3 (Nat.le_of_ble_eq_true rfl) hc (fun _ _ => rfl) (fun _ _ => Nat.le_of_ble_eq_true rfl) q322 (fun _ _ h => h) rfl (narrow_rf rfl _) (fits_rf rfl _) dX1_undo_32 (fun ws hM5 => ?_)
    refine ww_aloadQ_n dX1_undo_35 0 rfl ?_
    obtain ⟨x_16, hx, h⟩ := h
    refine wm_getQ hM5 rfl in_X1 (ci := 1) rfl (by decide) 4 (Nat.le_of_ble_eq_true rfl) hx (fun _ _ => rfl) q323 (fun _ _ h => h) dX1_undo_36 ?_
    obtain ⟨a_17, ea_17, h⟩ := h
    subst ea_17
    obtain ⟨hg, h⟩ := h
    refine wm_callV (n := 0) hM5 (tm_J2_size h) rfl hg rfl (lw_V q2006 q856 q857 q113 q858) ⟨by decide, by decide, by decide +kernel⟩ rfl ⟨Nat.le_of_ble_eq_true rfl, Nat.le_of_ble_eq_true rfl⟩ rfl (Nat.le_of_ble_eq_true rfl) dX1_undo_39 ⟨Nat.le_refl _, Nat.le_refl _⟩ ?_
    clear h
    rintro _ _ ws ⟨rfl, y_18, rfl, h⟩ hM6
    refine ww_st1 ?_
    exact ww_iret (ws, (hs μ_13 b (hO 1 fi_14 (upF fq_15 3 y_11)))) rfl ⟨hM6, ⟨_, rfl, h⟩⟩ rfl (Nat.le_refl _) (Nat.le_refl _) dX1_undo_42
  · replace h := h.2 c
    refine ww_iconst dX1_undo_10 ?_
    exact ww_iret (ws, μ) rfl ⟨hM2, ⟨_, rfl, h⟩⟩ rfl (Nat.le_refl _) (Nat.le_refl _) dX1_undo_11
/-! X1_keep: HoloNet keep (IZ)Z; flags (True, True, False), depth 6 -/
def wc_X1_keep (ad : Nat → Nat) (mc ms : Nat) (μ : HM) (b : Nat) (a1 : Int) (a2 : Int) (P : Int → HM → Prop) : Prop :=
  rI a1 ∧
  wc_X1_within ad μ a1 0 1 (fun y_2 =>
    ((y_2 = 0 →
      P 0 μ) ∧
    (¬ y_2 = 0 →
      rI a2 ∧
      ∃ J25 : Prop, (J25 →
        rI a2 ∧
        ((a2 = 0 →
          ∃ x_6 : Option Nat, gQ μ b 1 5 = some x_6 ∧
          (0 + 1 ≤ mc ∧ 0 + 3 ≤ ms) ∧ ∀ q_7 : Nat, μ q_7 = none →
          ∃ x_9 : Option Nat, gQ (hs μ q_7 (hO 4 (fun _ => 0) (fun _ => none))) b 1 3 = some x_9 ∧
          ∃ c_10 s_11 : Nat, (0 + 1 + c_10 ≤ mc ∧ 0 + 3 + s_11 ≤ ms) ∧
          wc_X4_init_2 ad c_10 s_11 (hs μ q_7 (hO 4 (fun _ => 0) (fun _ => none))) q_7 x_9 (fun μ_13 =>
            ∃ a_14 : Nat, x_6 = some a_14 ∧
            ∃ (n_15 : Nat) (f_16 : Int → Option Nat), μ_13 a_14 = some (hQ 5 n_15 f_16) ∧ hst μ_13 5 q_7 ∧ ((0 : Int) ≤ a1 ∧ a1 < (n_15 : Int) ∧ (n_15 : Int) < 2147483648) ∧
            P 1 (hs μ_13 a_14 (hQ 5 n_15 (updI f_16 a1 (some q_7)))))) ∧
        (¬ a2 = 0 →
          (0 + 1 ≤ mc ∧ 0 + 3 ≤ ms) ∧ ∀ q_17 : Nat, μ q_17 = none →
          ∃ x_19 : Option Nat, gQ (hs μ q_17 (hO 4 (fun _ => 0) (fun _ => none))) b 1 5 = some x_19 ∧
          ∃ a_20 : Nat, x_19 = some a_20 ∧
          ∃ x_21 : Option Nat, gR (hs μ q_17 (hO 4 (fun _ => 0) (fun _ => none))) a_20 5 a1 = some x_21 ∧
          ∃ c_22 s_23 : Nat, (0 + 1 + c_22 ≤ mc ∧ 0 + 3 + s_23 ≤ ms) ∧
          wc_X4_init_2 ad c_22 s_23 (hs μ q_17 (hO 4 (fun _ => 0) (fun _ => none))) q_17 x_21 (fun μ_25 =>
            ∃ (fi_26 : Nat → Int) (fq_27 : Nat → Option Nat), μ_25 b = some (hO 1 fi_26 fq_27) ∧ 
            ∃ x_28 : Option Nat, gQ (hs μ_25 b (hO 1 fi_26 (upF fq_27 3 (some q_17)))) b 1 4 = some x_28 ∧
            ∃ a_29 : Nat, x_28 = some a_29 ∧
            gC (hs μ_25 b (hO 1 fi_26 (upF fq_27 3 (some q_17)))) a_29 = some 18 ∧
            wc_J2_clear ad (hs μ_25 b (hO 1 fi_26 (upF fq_27 3 (some q_17)))) a_29 (fun μ_30 =>
              P 1 μ_30))))) ∧
      ((a2 = 0 →
        J25) ∧
      (¬ a2 = 0 →
        ∃ x_31 : Option Nat, gQ μ b 1 5 = some x_31 ∧
        ∃ a_32 : Nat, x_31 = some a_32 ∧
        ∃ x_33 : Option Nat, gR μ a_32 5 a1 = some x_33 ∧
        ((x_33 = none →
          P 0 μ) ∧
        (∀ a_34 : Nat, x_33 = some a_34 →
          J25)))))))
set_option maxHeartbeats 4000000 in
theorem tm_X1_keep {G : g_G} {l : Launch} {mc ms : Nat} {μ : HM} {b : Nat} {a1 : Int} {a2 : Int} {P : Int → HM → Prop} (h : wc_X1_keep (g_ad G) mc ms μ b a1 a2 P) : CM G l yX1_keep cX1_keep 3 (Option.some Jvm.ClassFile.FieldType.boolean) 6 mc ms [.ref b, vI a1, vI a2] μ (hR2 P) := by
  unfold wc_X1_keep at h
  refine wm_of (lvs := [(0, va_rf (some b)), (1, vI a1), (2, vI a2)]) (by decide) (Nat.le_of_ble_eq_true rfl) rfl (fun fr ws hM1 => ?_)
  show WW G l cX1_keep RX1 3 (Option.some Jvm.ClassFile.FieldType.boolean) "keep" 6 mc ms (hMR G (hR2 P)) (fun u => [u.1, fr]) 0 0 [ws, fr] 0 [(0, va_rf (some b)), (1, vI a1), (2, vI a2)] []
  have hB : 0 ≤ mc ∧ 0 ≤ ms := ⟨Nat.zero_le _, Nat.zero_le _⟩
  refine ww_iload_n dX1_keep_0 1 rfl ?_
  obtain ⟨r_1, h⟩ := h
  refine ww_i2l dX1_keep_1 r_1 ?_
  refine ww_lconst (v := 0) dX1_keep_2 rfl ?_
  refine ww_lconst (v := 1) dX1_keep_3 rfl ?_
  refine wm_callS (n := 3) hM1 (tm_X1_within h) (lw_S q353 q354 q108 q355) ⟨by decide, by decide, by decide +kernel⟩ rfl ⟨Nat.le_of_ble_eq_true rfl, Nat.le_of_ble_eq_true rfl⟩ rfl (Nat.le_of_ble_eq_true rfl) dX1_keep_4 hB ?_
  clear h
  rintro _ _ ws ⟨rfl, y_2, rfl, z_3, h⟩ hM2
  refine ww_st1 ?_
  refine ww_if_eq (tgt := 23) dX1_keep_7 (by decide) (r_z z_3) (fun c => ?_) (fun c => ?_)
  · replace h := h.1 c
    refine ww_iconst dX1_keep_23 ?_
    exact ww_zret (ws, μ) rfl (Or.inl rfl) ⟨hM2, ⟨_, rfl, Or.inl rfl, h⟩⟩ rfl hB.1 hB.2 dX1_keep_24
  · replace h := h.2 c
    refine ww_iload_n dX1_keep_10 2 rfl ?_
    obtain ⟨r_4, h⟩ := h
    obtain ⟨J25, hJ25, h⟩ := h
    have kJ25 : J25 → ∀ ws : va_W, Mrep G ws μ → (0 ≤ mc ∧ 0 ≤ ms) → WW G l cX1_keep RX1 3 (Option.some Jvm.ClassFile.FieldType.boolean) "keep" 6 mc ms (hMR G (hR2 P)) (fun u => [u.1, fr]) 0 0 [ws, fr] 25 [(0, va_rf (some b)), (1, vI a1), (2, vI a2)] [] := by
      clear h
      intro hj ws hM3 hB
      have h := hJ25 hj
      refine ww_iload_n dX1_keep_25 2 rfl ?_
      obtain ⟨r_5, h⟩ := h
      refine ww_if_eq (tgt := 56) dX1_keep_26 (by decide) r_5 (fun c => ?_) (fun c => ?_)
      · replace h := h.1 c
        refine ww_aloadQ_n dX1_keep_56 0 rfl ?_
        obtain ⟨x_6, hx, h⟩ := h
        refine wm_getQ hM3 rfl in_X1 (ci := 1) rfl (by decide) 5 (Nat.le_of_ble_eq_true rfl) hx (fun _ _ => rfl) q324 (fun _ _ h => h) dX1_keep_57 ?_
        refine ww_iload_n dX1_keep_60 1 rfl ?_
        obtain ⟨b_8, h⟩ := h
        refine wm_new hM3 in_X4 tyX4_ok q283 q284 q116 (ci := 4) rfl dfl_4 b_8.1 b_8.2 dX1_keep_61 (fun q_7 ws hq hM4 => ?_)
        replace h := h q_7 hq
        have hB := b_8
        refine ww_dup dX1_keep_64 (rf_cat _) ?_
        refine ww_aloadQ_n dX1_keep_65 0 rfl ?_
        obtain ⟨x_9, hx, h⟩ := h
        refine wm_getQ hM4 rfl in_X1 (ci := 1) rfl (by decide) 3 (Nat.le_of_ble_eq_true rfl) hx (fun _ _ => rfl) q322 (fun _ _ h => h) dX1_keep_66 ?_
        obtain ⟨c_10, s_11, b_12, h⟩ := h
        refine wm_callI (n := 1) hM4 (tm_X4_init_2 h) rfl q2040 q116 q2038 q2039 rfl ⟨by decide, by decide, by decide +kernel⟩ rfl ⟨Nat.le_of_ble_eq_true rfl, Nat.le_of_ble_eq_true rfl⟩ rfl (by simp only [List.map_cons, List.map_nil, rf_cat, vI_cat, vL_cat, List.sum_cons, List.sum_nil]; decide) dX1_keep_69 b_12 ?_
        clear h
        rintro _ μ_13 ws ⟨rfl, h⟩ hM5
        have hB := b_12
        refine ww_st0 ?_
        obtain ⟨a_14, ea_14, h⟩ := h
        subst ea_14
        obtain ⟨n_15, f_16, hc, hx, hi, h⟩ := h
        refine wm_aast hM5 rfl rfl hc hx hi.1 hi.2.1 hi.2.2 dX1_keep_72 (fun ws hM6 => ?_)
        refine ww_iconst dX1_keep_73 ?_
        exact ww_zret (ws, (hs μ_13 a_14 (hQ 5 n_15 (updI f_16 a1 (some q_7))))) rfl (Or.inr rfl) ⟨hM6, ⟨_, rfl, Or.inr rfl, h⟩⟩ rfl hB.1 hB.2 dX1_keep_74
      · replace h := h.2 c
        refine ww_aloadQ_n dX1_keep_29 0 rfl ?_
        obtain ⟨b_18, h⟩ := h
        refine wm_new hM3 in_X4 tyX4_ok q283 q284 q116 (ci := 4) rfl dfl_4 b_18.1 b_18.2 dX1_keep_30 (fun q_17 ws hq hM7 => ?_)
        replace h := h q_17 hq
        have hB := b_18
        refine ww_dup dX1_keep_33 (rf_cat _) ?_
        refine ww_aloadQ_n dX1_keep_34 0 rfl ?_
        obtain ⟨x_19, hx, h⟩ := h
        refine wm_getQ hM7 rfl in_X1 (ci := 1) rfl (by decide) 5 (Nat.le_of_ble_eq_true rfl) hx (fun _ _ => rfl) q324 (fun _ _ h => h) dX1_keep_35 ?_
        refine ww_iload_n dX1_keep_38 1 rfl ?_
        obtain ⟨a_20, ea_20, h⟩ := h
        subst ea_20
        obtain ⟨x_21, hx, h⟩ := h
        refine wm_aald hM7 rfl (by decide) hx dX1_keep_39 ?_
        obtain ⟨c_22, s_23, b_24, h⟩ := h
        refine wm_callI (n := 1) hM7 (tm_X4_init_2 h) rfl q2040 q116 q2038 q2039 rfl ⟨by decide, by decide, by decide +kernel⟩ rfl ⟨Nat.le_of_ble_eq_true rfl, Nat.le_of_ble_eq_true rfl⟩ rfl (by simp only [List.map_cons, List.map_nil, rf_cat, vI_cat, vL_cat, List.sum_cons, List.sum_nil]; decide) dX1_keep_40 b_24 ?_
        clear h
        rintro _ μ_25 ws ⟨rfl, h⟩ hM8
        have hB := b_24
        refine ww_st0 ?_
        obtain ⟨fi_26, fq_27, hc, h⟩ := h
        refine wm_putQ hM8 rfl in_X1 tyX1_ok nmX1 (ci := 1) rfl 3 (Nat.le_of_ble_eq_true rfl) hc (fun _ _ => rfl) (fun _ _ => Nat.le_of_ble_eq_true rfl) q322 (fun _ _ h => h) rfl (narrow_rf rfl _) (fits_rf rfl _) dX1_keep_43 (fun ws hM9 => ?_)
        refine ww_aloadQ_n dX1_keep_46 0 rfl ?_
        obtain ⟨x_28, hx, h⟩ := h
        refine wm_getQ hM9 rfl in_X1 (ci := 1) rfl (by decide) 4 (Nat.le_of_ble_eq_true rfl) hx (fun _ _ => rfl) q323 (fun _ _ h => h) dX1_keep_47 ?_
        obtain ⟨a_29, ea_29, h⟩ := h
        subst ea_29
        obtain ⟨hg, h⟩ := h
        refine wm_callV (n := 0) hM9 (tm_J2_clear h) rfl hg rfl (lw_V q1495 q1496 q1497 q113 q1498) ⟨by decide, by decide, by decide +kernel⟩ rfl ⟨Nat.le_of_ble_eq_true rfl, Nat.le_of_ble_eq_true rfl⟩ rfl (Nat.le_of_ble_eq_true rfl) dX1_keep_50 hB ?_
        clear h
        rintro _ μ_30 ws ⟨rfl, h⟩ hM10
        refine ww_st0 ?_
        refine ww_goto (tgt := 73) dX1_keep_53 (by decide) ?_
        refine ww_iconst dX1_keep_73 ?_
        exact ww_zret (ws, μ_30) rfl (Or.inr rfl) ⟨hM10, ⟨_, rfl, Or.inr rfl, h⟩⟩ rfl hB.1 hB.2 dX1_keep_74
    refine ww_if_eq (tgt := 25) dX1_keep_11 (by decide) r_4 (fun c => ?_) (fun c => ?_)
    · replace h := h.1 c
      exact kJ25 h _ hM2 hB
    · replace h := h.2 c
      refine ww_aloadQ_n dX1_keep_14 0 rfl ?_
      obtain ⟨x_31, hx, h⟩ := h
      refine wm_getQ hM2 rfl in_X1 (ci := 1) rfl (by decide) 5 (Nat.le_of_ble_eq_true rfl) hx (fun _ _ => rfl) q324 (fun _ _ h => h) dX1_keep_15 ?_
      refine ww_iload_n dX1_keep_18 1 rfl ?_
      obtain ⟨a_32, ea_32, h⟩ := h
      subst ea_32
      obtain ⟨x_33, hx, h⟩ := h
      refine wm_aald hM2 rfl (by decide) hx dX1_keep_19 ?_
      refine ww_ifnonnullQ (tgt := 25) dX1_keep_20 (by decide) (fun a_34 c => ?_) (fun c => ?_)
      · replace h := h.2 a_34 c
        subst c
        exact kJ25 h _ hM2 hB
      · replace h := h.1 c
        subst c
        refine ww_iconst dX1_keep_23 ?_
        exact ww_zret (ws, μ) rfl (Or.inl rfl) ⟨hM2, ⟨_, rfl, Or.inl rfl, h⟩⟩ rfl hB.1 hB.2 dX1_keep_24
