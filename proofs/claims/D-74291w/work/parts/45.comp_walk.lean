/-! THE COMPONENT and what it calls: weakest preconditions and walks (printed by tools/comp.py) -/
set_option maxRecDepth 100000
/-! X1_spread: HoloNet spread (II)I; flags (False, False, False), depth 1 -/
def wc_X1_spread (ad : Nat → Nat) (μ : HM) (a1 : Int) (a2 : Int) (P : Int → Prop) : Prop :=
  ∃ I7 : Nat → Int → Int → Int → Prop, (∀ (n7 : Nat) (v2_7 : Int) (v3_7 : Int) (v4_7 : Int), I7 n7 v2_7 v3_7 v4_7 →
    rI v4_7 ∧
    ((4 ≤ v4_7 →
      P v2_7) ∧
    (v4_7 < 4 →
      wc_X1_has ad μ a1 v4_7 (fun y_2 =>
        ∃ J38 : Int → Int → Prop, (∀ (v2_38 : Int) (v3_38 : Int), J38 v2_38 v3_38 →
          ∃ m : Nat, m < n7 ∧ I7 m v2_38 v3_38 (v4_7 + 1)) ∧
        ((¬ y_2 = 0 →
          ∀ x_4 : Int, x_4 = bO v2_7 (bL (bA v3_7 1) v4_7) →
          J38 x_4 (bR v3_7 1)) ∧
        (y_2 = 0 →
          J38 v2_7 v3_7)))))) ∧
  ∃ m : Nat, I7 m 0 a2 0
set_option maxHeartbeats 4000000 in
theorem tm_X1_spread {G : g_G} {l : Launch} {μ : HM} {a1 : Int} {a2 : Int} {P : Int → Prop} (h : wc_X1_spread (g_ad G) μ a1 a2 P) : CM G l yX1_spread cX1_spread 5 (Option.some Jvm.ClassFile.FieldType.int) 1 0 0 [vI a1, vI a2] μ (hN1 μ P) := by
  unfold wc_X1_spread at h
  refine wm_of (lvs := [(0, vI a1), (1, vI a2)]) (by decide) (Nat.le_of_ble_eq_true rfl) rfl (fun fr ws hM1 => ?_)
  show WW G l cX1_spread RX1 5 (Option.some Jvm.ClassFile.FieldType.int) "spread" 1 0 0 (hMR G (hN1 μ P)) (fun u => [u.1, fr]) 0 0 [ws, fr] 0 [(0, vI a1), (1, vI a2)] []
  refine ww_iconst dX1_spread_0 ?_
  refine ww_istore_n (i := 2) (lv2 := [(2, vI 0), (0, vI a1), (1, vI a2)]) dX1_spread_1 rfl (Nat.le_of_ble_eq_true rfl) rfl ?_
  refine ww_iload_n dX1_spread_2 2 rfl ?_
  refine ww_istore_n (i := 3) (lv2 := [(3, vI a2), (2, vI 0), (0, vI a1), (1, vI a2)]) dX1_spread_3 rfl (Nat.le_of_ble_eq_true rfl) rfl ?_
  refine ww_iconst dX1_spread_4 ?_
  refine ww_istore (i := 4) (lv2 := [(4, vI 0), (3, vI a2), (2, vI 0), (0, vI a1), (1, vI a2)]) dX1_spread_5 (Nat.le_of_ble_eq_true rfl) rfl ?_
  obtain ⟨I7, hI7, h⟩ := h
  have kI7 : ∀ (n7 : Nat), ∀ (v2_7 : Int), ∀ (v3_7 : Int), ∀ (v4_7 : Int), I7 n7 v2_7 v3_7 v4_7 → ∀ ws : va_W, Mrep G ws μ → WW G l cX1_spread RX1 5 (Option.some Jvm.ClassFile.FieldType.int) "spread" 1 0 0 (hMR G (hN1 μ P)) (fun u => [u.1, fr]) 0 0 [ws, fr] 7 [(0, vI a1), (2, vI v2_7), (3, vI v3_7), (4, vI v4_7)] [] := by
    clear h
    intro n7
    induction n7 using Nat.strongRecOn with
    | ind n7 ih7 =>
      intro v2_7 v3_7 v4_7 hj ws hM2
      have h := hI7 n7 v2_7 v3_7 v4_7 hj
      refine ww_iload dX1_spread_7 3 rfl ?_
      refine ww_iconst dX1_spread_9 ?_
      obtain ⟨r_1, h⟩ := h
      refine ww_icmp_ge (tgt := 44) dX1_spread_10 (by decide) r_1 (by decide) (fun c => ?_) (fun c => ?_)
      · replace h := h.1 c
        refine ww_iload_n dX1_spread_44 1 rfl ?_
        exact ww_iret (ws, μ) rfl ⟨hM2, ⟨rfl, _, rfl, h⟩⟩ rfl (Nat.le_refl _) (Nat.le_refl _) dX1_spread_45
      · replace h := h.2 (Int.not_le.mp c)
        refine ww_iload_n dX1_spread_13 0 rfl ?_
        refine ww_iload dX1_spread_14 3 rfl ?_
        refine wm_callS (n := 2) hM2 (tm_X1_has h) (lw_S q1572 q1346 q108 q1347) ⟨by decide, by decide, by decide +kernel⟩ rfl ⟨Nat.le_of_ble_eq_true rfl, Nat.le_of_ble_eq_true rfl⟩ rfl (Nat.le_of_ble_eq_true rfl) dX1_spread_16 ⟨Nat.le_refl _, Nat.le_refl _⟩ ?_
        clear h
        rintro _ _ ws ⟨rfl, y_2, rfl, z_3, h⟩ hM3
        refine ww_st1 ?_
        obtain ⟨J38, hJ38, h⟩ := h
        have kJ38 : ∀ (v2_38 : Int), ∀ (v3_38 : Int), J38 v2_38 v3_38 → ∀ ws : va_W, Mrep G ws μ → WW G l cX1_spread RX1 5 (Option.some Jvm.ClassFile.FieldType.int) "spread" 1 0 0 (hMR G (hN1 μ P)) (fun u => [u.1, fr]) 0 0 [ws, fr] 38 [(0, vI a1), (2, vI v2_38), (3, vI v3_38), (4, vI v4_7)] [] := by
          clear h
          intro v2_38 v3_38 hj ws hM4
          have h := hJ38 v2_38 v3_38 hj
          refine ww_iinc (lv2 := [(4, vI (v4_7 + 1)), (0, vI a1), (2, vI v2_38), (3, vI v3_38)]) dX1_spread_38 3 rfl (Nat.le_of_ble_eq_true rfl) rfl ?_
          refine ww_goto (tgt := 7) dX1_spread_41 (by decide) ?_
          refine ww_lv [1, 2, 3, 0] rfl ?_
          obtain ⟨m, hm, h⟩ := h
          exact ih7 m hm _ _ _ h _ hM4
        refine ww_if_ne (tgt := 25) dX1_spread_19 (by decide) (r_z z_3) (fun c => ?_) (fun c => ?_)
        · replace h := h.1 c
          refine ww_iload_n dX1_spread_25 1 rfl ?_
          refine ww_iload_n dX1_spread_26 2 rfl ?_
          refine ww_iconst dX1_spread_27 ?_
          refine ww_iand dX1_spread_28 ?_
          refine ww_iload dX1_spread_29 3 rfl ?_
          refine ww_ishl dX1_spread_31 ?_
          refine ww_ior dX1_spread_32 ?_
          refine ww_nmI (fun x_4 ex_4 => ?_)
          replace h := h x_4 ex_4
          have rx_4 : rI x_4 := by rw [ex_4]; exact (rI_bO _ _)
          refine ww_istore_n (i := 2) (lv2 := [(2, vI x_4), (0, vI a1), (3, vI v3_7), (4, vI v4_7)]) dX1_spread_33 rfl (Nat.le_of_ble_eq_true rfl) rfl ?_
          refine ww_iload_n dX1_spread_34 2 rfl ?_
          refine ww_iconst dX1_spread_35 ?_
          refine ww_ishr dX1_spread_36 ?_
          refine ww_istore_n (i := 3) (lv2 := [(3, vI (bR v3_7 1)), (2, vI x_4), (0, vI a1), (4, vI v4_7)]) dX1_spread_37 rfl (Nat.le_of_ble_eq_true rfl) rfl ?_
          refine ww_lv [2, 1, 0, 3] rfl ?_
          exact kJ38 _ _ h _ hM3
        · replace h := h.2 c
          refine ww_goto (tgt := 38) dX1_spread_22 (by decide) ?_
          exact kJ38 _ _ h _ hM3
  refine ww_lv [3, 2, 1, 0] rfl ?_
  obtain ⟨m, h⟩ := h
  exact kI7 m _ _ _ h _ hM1
/-! X14_init: HoloNet$Matrix <init> (LHoloNet;LHoloNet$Table;I)V; flags (True, True, False), depth 2 -/
def wc_X14_init (ad : Nat → Nat) (mc ms : Nat) (μ : HM) (b : Nat) (o1 : Option Nat) (o2 : Option Nat) (a3 : Int) (P : HM → Prop) : Prop :=
  ∃ (fi_1 : Nat → Int) (fq_2 : Nat → Option Nat), μ b = some (hO 12 fi_1 fq_2) ∧ 
  ∃ a_4 : Nat, o2 = some a_4 ∧
  ∃ x_3 : Int, gI (hs μ b (hO 12 fi_1 (upF fq_2 2 o1))) a_4 7 2 = some x_3 ∧
  ∀ x_5 : Int, x_5 = bA ((bL 1 x_3) - 1) (bX a3 (-1)) →
  ∃ x_6 : Int, gA (hs μ b (hO 12 fi_1 (upF fq_2 2 o1))) (ad 1) 0 x_5 = some x_6 ∧
  ∃ (fi_7 : Nat → Int) (fq_8 : Nat → Option Nat), (hs μ b (hO 12 fi_1 (upF fq_2 2 o1))) b = some (hO 12 fi_7 fq_8) ∧ 
  ∃ x_9 : Int, gA (hs (hs μ b (hO 12 fi_1 (upF fq_2 2 o1))) b (hO 12 (upF fi_7 1 (bL 1 x_6)) fq_8)) (ad 1) 0 a3 = some x_9 ∧
  ∃ x_10 : Int, gI (hs (hs μ b (hO 12 fi_1 (upF fq_2 2 o1))) b (hO 12 (upF fi_7 1 (bL 1 x_6)) fq_8)) b 12 1 = some x_10 ∧
  (0 ≤ bL 1 x_9 ∧ bL 1 x_9 < 100000 ∧ 0 ≤ x_10 ∧ x_10 < 100000 ∧ 0 + (1 + (bL 1 x_9).toNat) ≤ mc ∧ 0 + ((bL 1 x_9).toNat + (bL 1 x_9).toNat * x_10.toNat) ≤ ms) ∧ ∀ q_11 : Nat, (∀ i, i ≤ (bL 1 x_9).toNat → (hs (hs μ b (hO 12 fi_1 (upF fq_2 2 o1))) b (hO 12 (upF fi_7 1 (bL 1 x_6)) fq_8)) (q_11 + i) = none) →
  ∃ (fi_13 : Nat → Int) (fq_14 : Nat → Option Nat), (hgrid (hs (hs μ b (hO 12 fi_1 (upF fq_2 2 o1))) b (hO 12 (upF fi_7 1 (bL 1 x_6)) fq_8)) q_11 (bL 1 x_9).toNat x_10.toNat) b = some (hO 12 fi_13 fq_14) ∧ 
  ∃ I57 : Nat → Int → HM → Prop, (∀ (n57 : Nat) (v5_57 : Int) (μ57 : HM), I57 n57 v5_57 μ57 →
    ∃ x_15 : Option Nat, gQ μ57 b 12 0 = some x_15 ∧
    ∃ a_16 : Nat, x_15 = some a_16 ∧
    ∃ n_17 : Nat, gL μ57 a_16 = some n_17 ∧
    rI v5_57 ∧
    rI (n_17 : Int) ∧
    (((n_17 : Int) ≤ v5_57 →
      P μ57) ∧
    (v5_57 < (n_17 : Int) →
      ∃ I70 : Nat → Int → HM → Prop, (∀ (n70 : Nat) (v6_70 : Int) (μ70 : HM), I70 n70 v6_70 μ70 →
        ∃ x_20 : Int, gI μ70 b 12 1 = some x_20 ∧
        rI v6_70 ∧
        rI x_20 ∧
        ((x_20 ≤ v6_70 →
          ∃ m : Nat, m < n57 ∧ I57 m (v5_57 + 1) μ70) ∧
        (v6_70 < x_20 →
          ∃ x_23 : Option Nat, gQ μ70 b 12 0 = some x_23 ∧
          ∃ a_24 : Nat, x_23 = some a_24 ∧
          ∃ x_25 : Option Nat, gR μ70 a_24 6 v5_57 = some x_25 ∧
          ∃ x_26 : Option Nat, gQ μ70 a_4 7 3 = some x_26 ∧
          wc_X1_spread ad μ70 a3 v5_57 (fun y_27 =>
            wc_X1_spread ad μ70 x_5 v6_70 (fun y_29 =>
              ∃ a_31 : Nat, x_26 = some a_31 ∧
              ∃ x_32 : Int, gA μ70 a_31 0 (bO y_27 y_29) = some x_32 ∧
              ∃ a_33 : Nat, x_25 = some a_33 ∧
              ∃ (n_34 : Nat) (f_35 : Int → Int), μ70 a_33 = some (hA 0 n_34 f_35) ∧ ((0 : Int) ≤ v6_70 ∧ v6_70 < (n_34 : Int) ∧ (n_34 : Int) < 2147483648) ∧ 
              ∃ m : Nat, m < n70 ∧ I70 m (v6_70 + 1) (hs μ70 a_33 (hA 0 n_34 (updI f_35 v6_70 x_32)))))))) ∧
      ∃ m : Nat, I70 m 0 μ57))) ∧
  ∃ m : Nat, I57 m 0 (hs (hgrid (hs (hs μ b (hO 12 fi_1 (upF fq_2 2 o1))) b (hO 12 (upF fi_7 1 (bL 1 x_6)) fq_8)) q_11 (bL 1 x_9).toNat x_10.toNat) b (hO 12 fi_13 (upF fq_14 0 (some q_11))))
set_option maxHeartbeats 4000000 in
theorem tm_X14_init {G : g_G} {l : Launch} {mc ms : Nat} {μ : HM} {b : Nat} {o1 : Option Nat} {o2 : Option Nat} {a3 : Int} {P : HM → Prop} (h : wc_X14_init (g_ad G) mc ms μ b o1 o2 a3 P) : CM G l yX14_init cX14_init 7 (Option.none : Option Jvm.ClassFile.FieldType) 2 mc ms [.ref b, va_rf o1, va_rf o2, vI a3] μ (hR0 P) := by
  unfold wc_X14_init at h
  refine wm_of (lvs := [(0, va_rf (some b)), (1, va_rf o1), (2, va_rf o2), (3, vI a3)]) (by decide) (by simp [lg_sl, rf_cat, vI_cat, vL_cat, ref_cat]) (by simp [lv_args, rf_cat, vI_cat, vL_cat, ref_cat, rf_some]) (fun fr ws hM1 => ?_)
  show WW G l cX14_init RX14 7 (Option.none : Option Jvm.ClassFile.FieldType) "<init>" 2 mc ms (hMR G (hR0 P)) (fun u => [u.1, fr]) 0 0 [ws, fr] 0 [(0, va_rf (some b)), (1, va_rf o1), (2, va_rf o2), (3, vI a3)] []
  have hB : 0 ≤ mc ∧ 0 ≤ ms := ⟨Nat.zero_le _, Nat.zero_le _⟩
  refine ww_aloadQ_n dX14_init_0 0 rfl ?_
  refine ww_aloadQ_n dX14_init_1 1 rfl ?_
  obtain ⟨fi_1, fq_2, hc, h⟩ := h
  refine wm_putQF hM1 rfl in_X14 tyX14_ok nmX14 (ci := 12) rfl 2 (Nat.le_of_ble_eq_true rfl) hc (fun _ _ => rfl) (fun _ _ => Nat.le_of_ble_eq_true rfl) q1575 (fun _ _ h => h) rfl rfl rfl (narrow_rf rfl _) (fits_rf rfl _) dX14_init_2 (fun ws hM2 => ?_)
  refine ww_aloadQ_n dX14_init_5 0 rfl ?_
  refine wm_objInit rfl q1566 q170 q171 (Nat.le_of_ble_eq_true rfl) (Nat.le_of_ble_eq_true rfl) dX14_init_6 ?_
  refine ww_iconst dX14_init_9 ?_
  refine ww_aloadQ_n dX14_init_10 2 rfl ?_
  obtain ⟨a_4, ea_4, h⟩ := h
  subst ea_4
  obtain ⟨x_3, hx, h⟩ := h
  refine wm_getIN hM2 rfl in_X9 (ci := 7) rfl (by decide) 2 (Nat.le_of_ble_eq_true rfl) hx (fun _ _ => rfl) q1151 (fun _ _ h => h) dX14_init_11 ?_
  refine ww_ishl dX14_init_14 ?_
  refine ww_iconst dX14_init_15 ?_
  refine ww_isub dX14_init_16 ?_
  refine ww_iload_n dX14_init_17 3 rfl ?_
  refine ww_iconst dX14_init_18 ?_
  refine ww_ixor dX14_init_19 ?_
  refine ww_iand dX14_init_20 ?_
  refine ww_nmI (fun x_5 ex_5 => ?_)
  replace h := h x_5 ex_5
  have rx_5 : rI x_5 := by rw [ex_5]; exact (rI_bA _ _)
  refine ww_istore (i := 4) (lv2 := [(4, vI x_5), (0, va_rf (some b)), (1, va_rf o1), (2, va_rf (some a_4)), (3, vI a3)]) dX14_init_21 (Nat.le_of_ble_eq_true rfl) rfl ?_
  refine ww_aloadQ_n dX14_init_23 1 rfl ?_
  refine ww_iconst dX14_init_24 ?_
  refine wm_getsCN 1 hZ_1 (by decide) hM2 q1567 (fun _ _ h => h) dX14_init_25 ?_
  refine ww_iload dX14_init_28 0 rfl ?_
  obtain ⟨x_6, hx, h⟩ := h
  refine wm_iald hM2 rfl hx dX14_init_30 ?_
  refine ww_ishl dX14_init_31 ?_
  obtain ⟨fi_7, fq_8, hc, h⟩ := h
  refine wm_putIF hM2 rfl in_X14 tyX14_ok nmX14 (ci := 12) rfl 1 (Nat.le_of_ble_eq_true rfl) hc (fun _ _ => rfl) (fun _ _ => Nat.le_of_ble_eq_true rfl) q1574 (fun _ _ h => h) rfl rfl rfl rfl rfl dX14_init_32 (fun ws hM3 => ?_)
  refine ww_aloadQ_n dX14_init_35 1 rfl ?_
  refine ww_iconst dX14_init_36 ?_
  refine wm_getsCN 1 hZ_1 (by decide) hM3 q1567 (fun _ _ h => h) dX14_init_37 ?_
  refine ww_iload_n dX14_init_40 4 rfl ?_
  obtain ⟨x_9, hx, h⟩ := h
  refine wm_iald hM3 rfl hx dX14_init_41 ?_
  refine ww_ishl dX14_init_42 ?_
  refine ww_aloadQ_n dX14_init_43 1 rfl ?_
  obtain ⟨x_10, hx, h⟩ := h
  refine wm_getI hM3 rfl in_X14 (ci := 12) rfl (by decide) 1 (Nat.le_of_ble_eq_true rfl) hx (fun _ _ => rfl) q1574 (fun _ _ h => h) dX14_init_44 ?_
  obtain ⟨b_12, h⟩ := h
  refine wm_multi hM3 q1568 q163 b_12.1 b_12.2.1 b_12.2.2.1 b_12.2.2.2.1 b_12.2.2.2.2.1 b_12.2.2.2.2.2 dX14_init_47 (fun q_11 ws hq hM4 => ?_)
  replace h := h q_11 hq
  have hB : 0 + 1 + (bL 1 x_9).toNat ≤ mc ∧ 0 + (bL 1 x_9).toNat + (bL 1 x_9).toNat * x_10.toNat ≤ ms := ⟨by have := b_12.2.2.2.2.1; omega, by have := b_12.2.2.2.2.2; omega⟩
  obtain ⟨fi_13, fq_14, hc, h⟩ := h
  refine wm_putQF hM4 rfl in_X14 tyX14_ok nmX14 (ci := 12) rfl 0 (Nat.le_of_ble_eq_true rfl) hc (fun _ _ => rfl) (fun _ _ => Nat.le_of_ble_eq_true rfl) q1573 (fun _ _ h => h) rfl rfl rfl (narrow_rf rfl _) (fits_rf rfl _) dX14_init_51 (fun ws hM5 => ?_)
  refine ww_iconst dX14_init_54 ?_
  refine ww_istore (i := 5) (lv2 := [(5, vI 0), (4, vI x_5), (0, va_rf (some b)), (1, va_rf o1), (2, va_rf (some a_4)), (3, vI a3)]) dX14_init_55 (Nat.le_of_ble_eq_true rfl) rfl ?_
  obtain ⟨I57, hI57, h⟩ := h
  have kI57 : ∀ (n57 : Nat), ∀ (v5_57 : Int), ∀ (μ57 : HM), I57 n57 v5_57 μ57 → ∀ ws : va_W, Mrep G ws μ57 → (0 + 1 + (bL 1 x_9).toNat ≤ mc ∧ 0 + (bL 1 x_9).toNat + (bL 1 x_9).toNat * x_10.toNat ≤ ms) → WW G l cX14_init RX14 7 (Option.none : Option Jvm.ClassFile.FieldType) "<init>" 2 mc ms (hMR G (hR0 P)) (fun u => [u.1, fr]) (0 + 1 + (bL 1 x_9).toNat) (0 + (bL 1 x_9).toNat + (bL 1 x_9).toNat * x_10.toNat) [ws, fr] 57 [(0, va_rf (some b)), (2, va_rf (some a_4)), (3, vI a3), (4, vI x_5), (5, vI v5_57)] [] := by
    clear h
    intro n57
    induction n57 using Nat.strongRecOn with
    | ind n57 ih57 =>
      intro v5_57 μ57 hj ws hM6 hB
      have h := hI57 n57 v5_57 μ57 hj
      refine ww_iload dX14_init_57 4 rfl ?_
      refine ww_aloadQ_n dX14_init_59 0 rfl ?_
      obtain ⟨x_15, hx, h⟩ := h
      refine wm_getQ hM6 rfl in_X14 (ci := 12) rfl (by decide) 0 (Nat.le_of_ble_eq_true rfl) hx (fun _ _ => rfl) q1573 (fun _ _ h => h) dX14_init_60 ?_
      obtain ⟨a_16, ea_16, h⟩ := h
      subst ea_16
      obtain ⟨n_17, hn, h⟩ := h
      refine wm_alen hM6 rfl hn dX14_init_63 ?_
      obtain ⟨r_18, r_19, h⟩ := h
      refine ww_icmp_ge (tgt := 120) dX14_init_64 (by decide) r_18 r_19 (fun c => ?_) (fun c => ?_)
      · replace h := h.1 c
        exact ww_vret (ws, μ57) rfl ⟨hM6, ⟨rfl, h⟩⟩ rfl hB.1 hB.2 dX14_init_120
      · replace h := h.2 (Int.not_le.mp c)
        refine ww_iconst dX14_init_67 ?_
        refine ww_istore (i := 6) (lv2 := [(6, vI 0), (0, va_rf (some b)), (2, va_rf (some a_4)), (3, vI a3), (4, vI x_5), (5, vI v5_57)]) dX14_init_68 (Nat.le_of_ble_eq_true rfl) rfl ?_
        obtain ⟨I70, hI70, h⟩ := h
        have kI70 : ∀ (n70 : Nat), ∀ (v6_70 : Int), ∀ (μ70 : HM), I70 n70 v6_70 μ70 → ∀ ws : va_W, Mrep G ws μ70 → (0 + 1 + (bL 1 x_9).toNat ≤ mc ∧ 0 + (bL 1 x_9).toNat + (bL 1 x_9).toNat * x_10.toNat ≤ ms) → WW G l cX14_init RX14 7 (Option.none : Option Jvm.ClassFile.FieldType) "<init>" 2 mc ms (hMR G (hR0 P)) (fun u => [u.1, fr]) (0 + 1 + (bL 1 x_9).toNat) (0 + (bL 1 x_9).toNat + (bL 1 x_9).toNat * x_10.toNat) [ws, fr] 70 [(0, va_rf (some b)), (2, va_rf (some a_4)), (3, vI a3), (4, vI x_5), (5, vI v5_57), (6, vI v6_70)] [] := by
          clear h
          intro n70
          induction n70 using Nat.strongRecOn with
          | ind n70 ih70 =>
            intro v6_70 μ70 hj ws hM7 hB
            have h := hI70 n70 v6_70 μ70 hj
            refine ww_iload dX14_init_70 5 rfl ?_
            refine ww_aloadQ_n dX14_init_72 0 rfl ?_
            obtain ⟨x_20, hx, h⟩ := h
            refine wm_getI hM7 rfl in_X14 (ci := 12) rfl (by decide) 1 (Nat.le_of_ble_eq_true rfl) hx (fun _ _ => rfl) q1574 (fun _ _ h => h) dX14_init_73 ?_
            obtain ⟨r_21, r_22, h⟩ := h
            refine ww_icmp_ge (tgt := 114) dX14_init_76 (by decide) r_21 r_22 (fun c => ?_) (fun c => ?_)
            · replace h := h.1 c
              refine ww_iinc (lv2 := [(5, vI (v5_57 + 1)), (0, va_rf (some b)), (2, va_rf (some a_4)), (3, vI a3), (4, vI x_5), (6, vI v6_70)]) dX14_init_114 4 rfl (Nat.le_of_ble_eq_true rfl) rfl ?_
              refine ww_goto (tgt := 57) dX14_init_117 (by decide) ?_
              refine ww_lv [1, 2, 3, 4, 0] rfl ?_
              obtain ⟨m, hm, h⟩ := h
              exact ih57 m hm _ _ h _ hM7 hB
            · replace h := h.2 (Int.not_le.mp c)
              refine ww_aloadQ_n dX14_init_79 0 rfl ?_
              obtain ⟨x_23, hx, h⟩ := h
              refine wm_getQ hM7 rfl in_X14 (ci := 12) rfl (by decide) 0 (Nat.le_of_ble_eq_true rfl) hx (fun _ _ => rfl) q1573 (fun _ _ h => h) dX14_init_80 ?_
              refine ww_iload dX14_init_83 4 rfl ?_
              obtain ⟨a_24, ea_24, h⟩ := h
              subst ea_24
              obtain ⟨x_25, hx, h⟩ := h
              refine wm_aald hM7 rfl (by decide) hx dX14_init_85 ?_
              refine ww_iload dX14_init_86 5 rfl ?_
              refine ww_aloadQ_n dX14_init_88 1 rfl ?_
              obtain ⟨x_26, hx, h⟩ := h
              refine wm_getQN hM7 rfl in_X9 (ci := 7) rfl (by decide) 3 (Nat.le_of_ble_eq_true rfl) hx (fun _ _ => rfl) q1155 (fun _ _ h => h) dX14_init_89 ?_
              refine ww_iload_n dX14_init_92 2 rfl ?_
              refine ww_iload dX14_init_93 4 rfl ?_
              refine wm_callSN (n := 2) hM7 (tm_X1_spread h) q1569 q1571 q108 q1570 ⟨by decide, by decide, by decide +kernel⟩ rfl ⟨Nat.le_of_ble_eq_true rfl, Nat.le_of_ble_eq_true rfl⟩ rfl (by simp only [List.map_cons, List.map_nil, rf_cat, vI_cat, vL_cat, List.sum_cons, List.sum_nil]; decide) dX14_init_95 hB ?_
              clear h
              rintro _ _ ws ⟨rfl, y_27, rfl, h⟩ hM8
              refine ww_st1 ?_
              refine ww_iload dX14_init_98 3 rfl ?_
              refine ww_iload dX14_init_100 5 rfl ?_
              refine wm_callSN (n := 2) hM8 (tm_X1_spread h) q1569 q1571 q108 q1570 ⟨by decide, by decide, by decide +kernel⟩ rfl ⟨Nat.le_of_ble_eq_true rfl, Nat.le_of_ble_eq_true rfl⟩ rfl (by simp only [List.map_cons, List.map_nil, rf_cat, vI_cat, vL_cat, List.sum_cons, List.sum_nil]; decide) dX14_init_102 hB ?_
              clear h
              rintro _ _ ws ⟨rfl, y_29, rfl, h⟩ hM9
              refine ww_st1 ?_
              refine ww_ior dX14_init_105 ?_
              obtain ⟨a_31, ea_31, h⟩ := h
              subst ea_31
              obtain ⟨x_32, hx, h⟩ := h
              refine wm_iald hM9 rfl hx dX14_init_106 ?_
              obtain ⟨a_33, ea_33, h⟩ := h
              subst ea_33
              obtain ⟨n_34, f_35, hc, hi, h⟩ := h
              refine wm_iast hM9 rfl hc hi.1 hi.2.1 hi.2.2 dX14_init_107 (fun ws hM10 => ?_)
              refine ww_iinc (lv2 := [(6, vI (v6_70 + 1)), (0, va_rf (some b)), (2, va_rf (some a_4)), (3, vI a3), (4, vI x_5), (5, vI v5_57)]) dX14_init_108 5 rfl (Nat.le_of_ble_eq_true rfl) rfl ?_
              refine ww_goto (tgt := 70) dX14_init_111 (by decide) ?_
              refine ww_lv [1, 2, 3, 4, 5, 0] rfl ?_
              obtain ⟨m, hm, h⟩ := h
              exact ih70 m hm _ _ h _ hM10 hB
        refine ww_lv [1, 2, 3, 4, 5, 0] rfl ?_
        obtain ⟨m, h⟩ := h
        exact kI70 m _ _ h _ hM6 hB
  refine ww_lv [2, 4, 5, 1, 0] rfl ?_
  obtain ⟨m, h⟩ := h
  exact kI57 m _ _ h _ hM5 hB
/-! X2_inverse: HoloNet$Net inverse (I)I; flags (False, False, False), depth 2 -/
def wc_X2_inverse (ad : Nat → Nat) (μ : HM) (b : Nat) (a1 : Int) (P : Int → Prop) : Prop :=
  ∃ I2 : Nat → Int → Prop, (∀ (n2 : Nat) (v2_2 : Int), I2 n2 v2_2 →
    rI v2_2 ∧
    rI a1 ∧
    gC μ b = some 2 ∧
    wc_X2_mod ad μ b (v2_2 * a1) (fun y_3 =>
      rI y_3 ∧
      ((y_3 = 1 →
        P v2_2) ∧
      (¬ y_3 = 1 →
        ∃ m : Nat, m < n2 ∧ I2 m (v2_2 + 1))))) ∧
  ∃ m : Nat, I2 m 1
set_option maxHeartbeats 4000000 in
theorem tm_X2_inverse {G : g_G} {l : Launch} {μ : HM} {b : Nat} {a1 : Int} {P : Int → Prop} (h : wc_X2_inverse (g_ad G) μ b a1 P) : CM G l yX2_inverse cX2_inverse 3 (Option.some Jvm.ClassFile.FieldType.int) 2 0 0 [.ref b, vI a1] μ (hN1 μ P) := by
  unfold wc_X2_inverse at h
  refine wm_of (lvs := [(0, va_rf (some b)), (1, vI a1)]) (by decide) (Nat.le_of_ble_eq_true rfl) rfl (fun fr ws hM1 => ?_)
  show WW G l cX2_inverse RX2 3 (Option.some Jvm.ClassFile.FieldType.int) "inverse" 2 0 0 (hMR G (hN1 μ P)) (fun u => [u.1, fr]) 0 0 [ws, fr] 0 [(0, va_rf (some b)), (1, vI a1)] []
  refine ww_iconst dX2_inverse_0 ?_
  refine ww_istore_n (i := 2) (lv2 := [(2, vI 1), (0, va_rf (some b)), (1, vI a1)]) dX2_inverse_1 rfl (Nat.le_of_ble_eq_true rfl) rfl ?_
  obtain ⟨I2, hI2, h⟩ := h
  have kI2 : ∀ (n2 : Nat), ∀ (v2_2 : Int), I2 n2 v2_2 → ∀ ws : va_W, Mrep G ws μ → WW G l cX2_inverse RX2 3 (Option.some Jvm.ClassFile.FieldType.int) "inverse" 2 0 0 (hMR G (hN1 μ P)) (fun u => [u.1, fr]) 0 0 [ws, fr] 2 [(0, va_rf (some b)), (1, vI a1), (2, vI v2_2)] [] := by
    clear h
    intro n2
    induction n2 using Nat.strongRecOn with
    | ind n2 ih2 =>
      intro v2_2 hj ws hM2
      have h := hI2 n2 v2_2 hj
      refine ww_aloadQ_n dX2_inverse_2 0 rfl ?_
      refine ww_iload_n dX2_inverse_3 2 rfl ?_
      obtain ⟨r_1, h⟩ := h
      refine ww_i2l dX2_inverse_4 r_1 ?_
      refine ww_iload_n dX2_inverse_5 1 rfl ?_
      obtain ⟨r_2, h⟩ := h
      refine ww_i2l dX2_inverse_6 r_2 ?_
      refine ww_lmul dX2_inverse_7 ?_
      obtain ⟨hg, h⟩ := h
      refine wm_callV (n := 1) hM2 (tm_X2_mod h) rfl hg rfl (lw_V q1595 q1349 q1350 q109 q1351) ⟨by decide, by decide, by decide +kernel⟩ rfl ⟨Nat.le_of_ble_eq_true rfl, Nat.le_of_ble_eq_true rfl⟩ rfl (Nat.le_of_ble_eq_true rfl) dX2_inverse_8 ⟨Nat.le_refl _, Nat.le_refl _⟩ ?_
      clear h
      rintro _ _ ws ⟨rfl, y_3, rfl, h⟩ hM3
      refine ww_st1 ?_
      refine ww_iconst dX2_inverse_11 ?_
      obtain ⟨r_5, h⟩ := h
      refine ww_icmp_eq (tgt := 21) dX2_inverse_12 (by decide) r_5 (by decide) (fun c => ?_) (fun c => ?_)
      · replace h := h.1 c
        refine ww_iload_n dX2_inverse_21 2 rfl ?_
        exact ww_iret (ws, μ) rfl ⟨hM3, ⟨rfl, _, rfl, h⟩⟩ rfl (Nat.le_refl _) (Nat.le_refl _) dX2_inverse_22
      · replace h := h.2 c
        refine ww_iinc (lv2 := [(2, vI (v2_2 + 1)), (0, va_rf (some b)), (1, vI a1)]) dX2_inverse_15 2 rfl (Nat.le_of_ble_eq_true rfl) rfl ?_
        refine ww_goto (tgt := 2) dX2_inverse_18 (by decide) ?_
        refine ww_lv [1, 2, 0] rfl ?_
        obtain ⟨m, hm, h⟩ := h
        exact ih2 m hm _ h _ hM3
  refine ww_lv [1, 2, 0] rfl ?_
  obtain ⟨m, h⟩ := h
  exact kI2 m _ h _ hM1
/-! X14_clears: HoloNet$Matrix clears ([I[II)V; flags (True, False, False), depth 3 -/
def wc_X14_clears (ad : Nat → Nat) (μ : HM) (b : Nat) (o1 : Option Nat) (o2 : Option Nat) (a3 : Int) (P : HM → Prop) : Prop :=
  ∃ x_1 : Option Nat, gQ μ b 12 2 = some x_1 ∧
  ∃ a_3 : Nat, x_1 = some a_3 ∧
  ∃ x_2 : Option Nat, gQ μ a_3 1 2 = some x_2 ∧
  ∃ a_4 : Nat, o1 = some a_4 ∧
  ∃ x_5 : Int, gA μ a_4 0 a3 = some x_5 ∧
  rI x_5 ∧
  ∃ x_7 : Option Nat, gQ μ b 12 2 = some x_7 ∧
  ∃ a_9 : Nat, x_7 = some a_9 ∧
  ∃ x_8 : Option Nat, gQ μ a_9 1 2 = some x_8 ∧
  ∃ a_10 : Nat, o2 = some a_10 ∧
  ∃ x_11 : Int, gA μ a_10 0 a3 = some x_11 ∧
  ∃ a_12 : Nat, x_8 = some a_12 ∧
  gC μ a_12 = some 2 ∧
  wc_X2_inverse ad μ a_12 x_11 (fun y_13 =>
    rI y_13 ∧
    ∃ a_16 : Nat, x_2 = some a_16 ∧
    gC μ a_16 = some 2 ∧
    wc_X2_mod ad μ a_16 (x_5 * y_13) (fun y_17 =>
      ∃ I34 : Nat → Int → HM → Prop, (∀ (n34 : Nat) (v5_34 : Int) (μ34 : HM), I34 n34 v5_34 μ34 →
        ∃ x_19 : Int, gI μ34 b 12 1 = some x_19 ∧
        rI v5_34 ∧
        rI x_19 ∧
        ((x_19 ≤ v5_34 →
          P μ34) ∧
        (v5_34 < x_19 →
          ∃ x_22 : Option Nat, gQ μ34 b 12 2 = some x_22 ∧
          ∃ a_24 : Nat, x_22 = some a_24 ∧
          ∃ x_23 : Option Nat, gQ μ34 a_24 1 2 = some x_23 ∧
          ∃ x_25 : Int, gA μ34 a_4 0 v5_34 = some x_25 ∧
          rI x_25 ∧
          rI y_17 ∧
          ∃ x_28 : Int, gA μ34 a_10 0 v5_34 = some x_28 ∧
          rI x_28 ∧
          ∃ a_30 : Nat, x_23 = some a_30 ∧
          gC μ34 a_30 = some 2 ∧
          wc_X2_mod ad μ34 a_30 (x_25 - (y_17 * x_28)) (fun y_31 =>
            ∃ (n_33 : Nat) (f_34 : Int → Int), μ34 a_4 = some (hA 0 n_33 f_34) ∧ ((0 : Int) ≤ v5_34 ∧ v5_34 < (n_33 : Int) ∧ (n_33 : Int) < 2147483648) ∧ 
            ∃ m : Nat, m < n34 ∧ I34 m (v5_34 + 1) (hs μ34 a_4 (hA 0 n_33 (updI f_34 v5_34 y_31))))))) ∧
      ∃ m : Nat, I34 m 0 μ))
set_option maxHeartbeats 4000000 in
theorem tm_X14_clears {G : g_G} {l : Launch} {μ : HM} {b : Nat} {o1 : Option Nat} {o2 : Option Nat} {a3 : Int} {P : HM → Prop} (h : wc_X14_clears (g_ad G) μ b o1 o2 a3 P) : CM G l yX14_clears cX14_clears 6 (Option.none : Option Jvm.ClassFile.FieldType) 3 0 0 [.ref b, va_rf o1, va_rf o2, vI a3] μ (hR0 P) := by
  unfold wc_X14_clears at h
  refine wm_of (lvs := [(0, va_rf (some b)), (1, va_rf o1), (2, va_rf o2), (3, vI a3)]) (by decide) (by simp [lg_sl, rf_cat, vI_cat, vL_cat, ref_cat]) (by simp [lv_args, rf_cat, vI_cat, vL_cat, ref_cat, rf_some]) (fun fr ws hM1 => ?_)
  show WW G l cX14_clears RX14 6 (Option.none : Option Jvm.ClassFile.FieldType) "clears" 3 0 0 (hMR G (hR0 P)) (fun u => [u.1, fr]) 0 0 [ws, fr] 0 [(0, va_rf (some b)), (1, va_rf o1), (2, va_rf o2), (3, vI a3)] []
  refine ww_aloadQ_n dX14_clears_0 0 rfl ?_
  obtain ⟨x_1, hx, h⟩ := h
  refine wm_getQ hM1 rfl in_X14 (ci := 12) rfl (by decide) 2 (Nat.le_of_ble_eq_true rfl) hx (fun _ _ => rfl) q1575 (fun _ _ h => h) dX14_clears_1 ?_
  obtain ⟨a_3, ea_3, h⟩ := h
  subst ea_3
  obtain ⟨x_2, hx, h⟩ := h
  refine wm_getQN hM1 rfl in_X1 (ci := 1) rfl (by decide) 2 (Nat.le_of_ble_eq_true rfl) hx (fun _ _ => rfl) q318 (fun _ _ h => h) dX14_clears_4 ?_
  refine ww_aloadQ_n dX14_clears_7 1 rfl ?_
  refine ww_iload_n dX14_clears_8 3 rfl ?_
  obtain ⟨a_4, ea_4, h⟩ := h
  subst ea_4
  obtain ⟨x_5, hx, h⟩ := h
  refine wm_iald hM1 rfl hx dX14_clears_9 ?_
  obtain ⟨r_6, h⟩ := h
  refine ww_i2l dX14_clears_10 r_6 ?_
  refine ww_aloadQ_n dX14_clears_11 0 rfl ?_
  obtain ⟨x_7, hx, h⟩ := h
  refine wm_getQ hM1 rfl in_X14 (ci := 12) rfl (by decide) 2 (Nat.le_of_ble_eq_true rfl) hx (fun _ _ => rfl) q1575 (fun _ _ h => h) dX14_clears_12 ?_
  obtain ⟨a_9, ea_9, h⟩ := h
  subst ea_9
  obtain ⟨x_8, hx, h⟩ := h
  refine wm_getQN hM1 rfl in_X1 (ci := 1) rfl (by decide) 2 (Nat.le_of_ble_eq_true rfl) hx (fun _ _ => rfl) q318 (fun _ _ h => h) dX14_clears_15 ?_
  refine ww_aloadQ_n dX14_clears_18 2 rfl ?_
  refine ww_iload_n dX14_clears_19 3 rfl ?_
  obtain ⟨a_10, ea_10, h⟩ := h
  subst ea_10
  obtain ⟨x_11, hx, h⟩ := h
  refine wm_iald hM1 rfl hx dX14_clears_20 ?_
  obtain ⟨a_12, ea_12, h⟩ := h
  subst ea_12
  obtain ⟨hg, h⟩ := h
  refine wm_callV (n := 1) hM1 (tm_X2_inverse h) rfl hg rfl (lw_V q1591 q1592 q1593 q109 q1594) ⟨by decide, by decide, by decide +kernel⟩ rfl ⟨Nat.le_of_ble_eq_true rfl, Nat.le_of_ble_eq_true rfl⟩ rfl (by simp only [List.map_cons, List.map_nil, rf_cat, vI_cat, vL_cat, List.sum_cons, List.sum_nil]; decide) dX14_clears_21 ⟨Nat.le_refl _, Nat.le_refl _⟩ ?_
  clear h
  rintro _ _ ws ⟨rfl, y_13, rfl, h⟩ hM2
  refine ww_st1 ?_
  obtain ⟨r_15, h⟩ := h
  refine ww_i2l dX14_clears_24 r_15 ?_
  refine ww_lmul dX14_clears_25 ?_
  obtain ⟨a_16, ea_16, h⟩ := h
  subst ea_16
  obtain ⟨hg, h⟩ := h
  refine wm_callV (n := 1) hM2 (tm_X2_mod h) rfl hg rfl (lw_V q1596 q1349 q1350 q109 q1351) ⟨by decide, by decide, by decide +kernel⟩ rfl ⟨Nat.le_of_ble_eq_true rfl, Nat.le_of_ble_eq_true rfl⟩ rfl (Nat.le_of_ble_eq_true rfl) dX14_clears_26 ⟨Nat.le_refl _, Nat.le_refl _⟩ ?_
  clear h
  rintro _ _ ws ⟨rfl, y_17, rfl, h⟩ hM3
  refine ww_st1 ?_
  refine ww_istore (i := 4) (lv2 := [(4, vI y_17), (0, va_rf (some b)), (1, va_rf (some a_4)), (2, va_rf (some a_10)), (3, vI a3)]) dX14_clears_29 (Nat.le_of_ble_eq_true rfl) rfl ?_
  refine ww_iconst dX14_clears_31 ?_
  refine ww_istore (i := 5) (lv2 := [(5, vI 0), (4, vI y_17), (0, va_rf (some b)), (1, va_rf (some a_4)), (2, va_rf (some a_10)), (3, vI a3)]) dX14_clears_32 (Nat.le_of_ble_eq_true rfl) rfl ?_
  obtain ⟨I34, hI34, h⟩ := h
  have kI34 : ∀ (n34 : Nat), ∀ (v5_34 : Int), ∀ (μ34 : HM), I34 n34 v5_34 μ34 → ∀ ws : va_W, Mrep G ws μ34 → WW G l cX14_clears RX14 6 (Option.none : Option Jvm.ClassFile.FieldType) "clears" 3 0 0 (hMR G (hR0 P)) (fun u => [u.1, fr]) 0 0 [ws, fr] 34 [(0, va_rf (some b)), (1, va_rf (some a_4)), (2, va_rf (some a_10)), (4, vI y_17), (5, vI v5_34)] [] := by
    clear h
    intro n34
    induction n34 using Nat.strongRecOn with
    | ind n34 ih34 =>
      intro v5_34 μ34 hj ws hM4
      have h := hI34 n34 v5_34 μ34 hj
      refine ww_iload dX14_clears_34 4 rfl ?_
      refine ww_aloadQ_n dX14_clears_36 0 rfl ?_
      obtain ⟨x_19, hx, h⟩ := h
      refine wm_getI hM4 rfl in_X14 (ci := 12) rfl (by decide) 1 (Nat.le_of_ble_eq_true rfl) hx (fun _ _ => rfl) q1574 (fun _ _ h => h) dX14_clears_37 ?_
      obtain ⟨r_20, r_21, h⟩ := h
      refine ww_icmp_ge (tgt := 78) dX14_clears_40 (by decide) r_20 r_21 (fun c => ?_) (fun c => ?_)
      · replace h := h.1 c
        exact ww_vret (ws, μ34) rfl ⟨hM4, ⟨rfl, h⟩⟩ rfl (Nat.le_refl _) (Nat.le_refl _) dX14_clears_78
      · replace h := h.2 (Int.not_le.mp c)
        refine ww_aloadQ_n dX14_clears_43 1 rfl ?_
        refine ww_iload dX14_clears_44 4 rfl ?_
        refine ww_aloadQ_n dX14_clears_46 0 rfl ?_
        obtain ⟨x_22, hx, h⟩ := h
        refine wm_getQ hM4 rfl in_X14 (ci := 12) rfl (by decide) 2 (Nat.le_of_ble_eq_true rfl) hx (fun _ _ => rfl) q1575 (fun _ _ h => h) dX14_clears_47 ?_
        obtain ⟨a_24, ea_24, h⟩ := h
        subst ea_24
        obtain ⟨x_23, hx, h⟩ := h
        refine wm_getQN hM4 rfl in_X1 (ci := 1) rfl (by decide) 2 (Nat.le_of_ble_eq_true rfl) hx (fun _ _ => rfl) q318 (fun _ _ h => h) dX14_clears_50 ?_
        refine ww_aloadQ_n dX14_clears_53 1 rfl ?_
        refine ww_iload dX14_clears_54 4 rfl ?_
        obtain ⟨x_25, hx, h⟩ := h
        refine wm_iald hM4 rfl hx dX14_clears_56 ?_
        obtain ⟨r_26, h⟩ := h
        refine ww_i2l dX14_clears_57 r_26 ?_
        refine ww_iload dX14_clears_58 3 rfl ?_
        obtain ⟨r_27, h⟩ := h
        refine ww_i2l dX14_clears_60 r_27 ?_
        refine ww_aloadQ_n dX14_clears_61 2 rfl ?_
        refine ww_iload dX14_clears_62 4 rfl ?_
        obtain ⟨x_28, hx, h⟩ := h
        refine wm_iald hM4 rfl hx dX14_clears_64 ?_
        obtain ⟨r_29, h⟩ := h
        refine ww_i2l dX14_clears_65 r_29 ?_
        refine ww_lmul dX14_clears_66 ?_
        refine ww_lsub dX14_clears_67 ?_
        obtain ⟨a_30, ea_30, h⟩ := h
        subst ea_30
        obtain ⟨hg, h⟩ := h
        refine wm_callV (n := 1) hM4 (tm_X2_mod h) rfl hg rfl (lw_V q1596 q1349 q1350 q109 q1351) ⟨by decide, by decide, by decide +kernel⟩ rfl ⟨Nat.le_of_ble_eq_true rfl, Nat.le_of_ble_eq_true rfl⟩ rfl (by simp only [List.map_cons, List.map_nil, rf_cat, vI_cat, vL_cat, List.sum_cons, List.sum_nil]; decide) dX14_clears_68 ⟨Nat.le_refl _, Nat.le_refl _⟩ ?_
        clear h
        rintro _ _ ws ⟨rfl, y_31, rfl, h⟩ hM5
        refine ww_st1 ?_
        obtain ⟨n_33, f_34, hc, hi, h⟩ := h
        refine wm_iast hM5 rfl hc hi.1 hi.2.1 hi.2.2 dX14_clears_71 (fun ws hM6 => ?_)
        refine ww_iinc (lv2 := [(5, vI (v5_34 + 1)), (0, va_rf (some b)), (1, va_rf (some a_4)), (2, va_rf (some a_10)), (4, vI y_17)]) dX14_clears_72 4 rfl (Nat.le_of_ble_eq_true rfl) rfl ?_
        refine ww_goto (tgt := 34) dX14_clears_75 (by decide) ?_
        refine ww_lv [1, 2, 3, 4, 0] rfl ?_
        obtain ⟨m, hm, h⟩ := h
        exact ih34 m hm _ _ h _ hM6
  refine ww_lv [2, 3, 4, 1, 0] rfl ?_
  obtain ⟨m, h⟩ := h
  exact kI34 m _ _ h _ hM3
/-! X14_rank: HoloNet$Matrix rank ()I; flags (True, False, False), depth 4 -/
def wc_X14_rank (ad : Nat → Nat) (μ : HM) (b : Nat) (P : Int → HM → Prop) : Prop :=
  ∃ I4 : Nat → Int → Int → HM → Prop, (∀ (n4 : Nat) (v1_4 : Int) (v2_4 : Int) (μ4 : HM), I4 n4 v1_4 v2_4 μ4 →
    ∃ x_1 : Int, gI μ4 b 12 1 = some x_1 ∧
    rI v2_4 ∧
    rI x_1 ∧
    ((x_1 ≤ v2_4 →
      P v1_4 μ4) ∧
    (v2_4 < x_1 →
      ∃ x_4 : Option Nat, gQ μ4 b 12 0 = some x_4 ∧
      ∃ a_5 : Nat, x_4 = some a_5 ∧
      ∃ n_6 : Nat, gL μ4 a_5 = some n_6 ∧
      rI v1_4 ∧
      rI (n_6 : Int) ∧
      (((n_6 : Int) ≤ v1_4 →
        P v1_4 μ4) ∧
      (v1_4 < (n_6 : Int) →
        ∃ I23 : Nat → Int → Prop, (∀ (n23 : Nat) (v3_23 : Int), I23 n23 v3_23 →
          ∃ x_9 : Option Nat, gQ μ4 b 12 0 = some x_9 ∧
          ∃ a_10 : Nat, x_9 = some a_10 ∧
          ∃ n_11 : Nat, gL μ4 a_10 = some n_11 ∧
          rI v3_23 ∧
          rI (n_11 : Int) ∧
          ∃ J49 : Prop, (J49 →
            ∃ x_14 : Option Nat, gQ μ4 b 12 0 = some x_14 ∧
            ∃ a_15 : Nat, x_14 = some a_15 ∧
            ∃ n_16 : Nat, gL μ4 a_15 = some n_16 ∧
            rI v3_23 ∧
            rI (n_16 : Int) ∧
            ∃ J127 : Int → HM → Prop, (∀ (v1_127 : Int) (μ127 : HM), J127 v1_127 μ127 →
              ∃ m : Nat, m < n4 ∧ I4 m v1_127 (v2_4 + 1) μ127) ∧
            ((¬ v3_23 = (n_16 : Int) →
              ∃ x_19 : Option Nat, gQ μ4 b 12 0 = some x_19 ∧
              ∃ a_20 : Nat, x_19 = some a_20 ∧
              ∃ x_21 : Option Nat, gR μ4 a_20 6 v3_23 = some x_21 ∧
              ∃ x_22 : Option Nat, gQ μ4 b 12 0 = some x_22 ∧
              ∃ x_23 : Option Nat, gQ μ4 b 12 0 = some x_23 ∧
              ∃ a_24 : Nat, x_23 = some a_24 ∧
              ∃ x_25 : Option Nat, gR μ4 a_24 6 v1_4 = some x_25 ∧
              ∃ a_26 : Nat, x_22 = some a_26 ∧
              ∃ a_29 : Nat, x_25 = some a_29 ∧
              ∃ (n_27 : Nat) (f_28 : Int → Option Nat), μ4 a_26 = some (hQ 6 n_27 f_28) ∧ hst μ4 6 a_29 ∧ ((0 : Int) ≤ v3_23 ∧ v3_23 < (n_27 : Int) ∧ (n_27 : Int) < 2147483648) ∧
              ∃ x_30 : Option Nat, gQ (hs μ4 a_26 (hQ 6 n_27 (updI f_28 v3_23 (some a_29)))) b 12 0 = some x_30 ∧
              ∃ a_31 : Nat, x_30 = some a_31 ∧
              ∃ a_34 : Nat, x_21 = some a_34 ∧
              ∃ (n_32 : Nat) (f_33 : Int → Option Nat), (hs μ4 a_26 (hQ 6 n_27 (updI f_28 v3_23 (some a_29)))) a_31 = some (hQ 6 n_32 f_33) ∧ hst (hs μ4 a_26 (hQ 6 n_27 (updI f_28 v3_23 (some a_29)))) 6 a_34 ∧ ((0 : Int) ≤ v1_4 ∧ v1_4 < (n_32 : Int) ∧ (n_32 : Int) < 2147483648) ∧
              ∃ I94 : Nat → Int → HM → Prop, (∀ (n94 : Nat) (v5_94 : Int) (μ94 : HM), I94 n94 v5_94 μ94 →
                ∃ x_35 : Option Nat, gQ μ94 b 12 0 = some x_35 ∧
                ∃ a_36 : Nat, x_35 = some a_36 ∧
                ∃ n_37 : Nat, gL μ94 a_36 = some n_37 ∧
                rI v5_94 ∧
                rI (n_37 : Int) ∧
                (((n_37 : Int) ≤ v5_94 →
                  J127 (v1_4 + 1) μ94) ∧
                (v5_94 < (n_37 : Int) →
                  ∃ x_40 : Option Nat, gQ μ94 b 12 0 = some x_40 ∧
                  ∃ a_41 : Nat, x_40 = some a_41 ∧
                  ∃ x_42 : Option Nat, gR μ94 a_41 6 v5_94 = some x_42 ∧
                  gC μ94 b = some 12 ∧
                  wc_X14_clears ad μ94 b x_42 (some a_34) v2_4 (fun μ_43 =>
                    ∃ m : Nat, m < n94 ∧ I94 m (v5_94 + 1) μ_43)))) ∧
              ∃ m : Nat, I94 m (v1_4 + 1) (hs (hs μ4 a_26 (hQ 6 n_27 (updI f_28 v3_23 (some a_29)))) a_31 (hQ 6 n_32 (updI f_33 v1_4 (some a_34))))) ∧
            (v3_23 = (n_16 : Int) →
              J127 v1_4 μ4))) ∧
          (((n_11 : Int) ≤ v3_23 →
            J49) ∧
          (v3_23 < (n_11 : Int) →
            ∃ x_44 : Option Nat, gQ μ4 b 12 0 = some x_44 ∧
            ∃ a_45 : Nat, x_44 = some a_45 ∧
            ∃ x_46 : Option Nat, gR μ4 a_45 6 v3_23 = some x_46 ∧
            ∃ a_47 : Nat, x_46 = some a_47 ∧
            ∃ x_48 : Int, gA μ4 a_47 0 v2_4 = some x_48 ∧
            rI x_48 ∧
            ((¬ x_48 = 0 →
              J49) ∧
            (x_48 = 0 →
              ∃ m : Nat, m < n23 ∧ I23 m (v3_23 + 1)))))) ∧
        ∃ m : Nat, I23 m v1_4))))) ∧
  ∃ m : Nat, I4 m 0 0 μ
set_option maxHeartbeats 4000000 in
theorem tm_X14_rank {G : g_G} {l : Launch} {μ : HM} {b : Nat} {P : Int → HM → Prop} (h : wc_X14_rank (g_ad G) μ b P) : CM G l yX14_rank cX14_rank 6 (Option.some Jvm.ClassFile.FieldType.int) 4 0 0 [.ref b] μ (hR1 P) := by
  unfold wc_X14_rank at h
  refine wm_of (lvs := [(0, va_rf (some b))]) (by decide) (Nat.le_of_ble_eq_true rfl) rfl (fun fr ws hM1 => ?_)
  show WW G l cX14_rank RX14 6 (Option.some Jvm.ClassFile.FieldType.int) "rank" 4 0 0 (hMR G (hR1 P)) (fun u => [u.1, fr]) 0 0 [ws, fr] 0 [(0, va_rf (some b))] []
  refine ww_iconst dX14_rank_0 ?_
  refine ww_istore_n (i := 1) (lv2 := [(1, vI 0), (0, va_rf (some b))]) dX14_rank_1 rfl (Nat.le_of_ble_eq_true rfl) rfl ?_
  refine ww_iconst dX14_rank_2 ?_
  refine ww_istore_n (i := 2) (lv2 := [(2, vI 0), (1, vI 0), (0, va_rf (some b))]) dX14_rank_3 rfl (Nat.le_of_ble_eq_true rfl) rfl ?_
  obtain ⟨I4, hI4, h⟩ := h
  have kI4 : ∀ (n4 : Nat), ∀ (v1_4 : Int), ∀ (v2_4 : Int), ∀ (μ4 : HM), I4 n4 v1_4 v2_4 μ4 → ∀ ws : va_W, Mrep G ws μ4 → WW G l cX14_rank RX14 6 (Option.some Jvm.ClassFile.FieldType.int) "rank" 4 0 0 (hMR G (hR1 P)) (fun u => [u.1, fr]) 0 0 [ws, fr] 4 [(0, va_rf (some b)), (1, vI v1_4), (2, vI v2_4)] [] := by
    clear h
    intro n4
    induction n4 using Nat.strongRecOn with
    | ind n4 ih4 =>
      intro v1_4 v2_4 μ4 hj ws hM2
      have h := hI4 n4 v1_4 v2_4 μ4 hj
      refine ww_iload_n dX14_rank_4 2 rfl ?_
      refine ww_aloadQ_n dX14_rank_5 0 rfl ?_
      obtain ⟨x_1, hx, h⟩ := h
      refine wm_getI hM2 rfl in_X14 (ci := 12) rfl (by decide) 1 (Nat.le_of_ble_eq_true rfl) hx (fun _ _ => rfl) q1574 (fun _ _ h => h) dX14_rank_6 ?_
      obtain ⟨r_2, r_3, h⟩ := h
      refine ww_icmp_ge (tgt := 133) dX14_rank_9 (by decide) r_2 r_3 (fun c => ?_) (fun c => ?_)
      · replace h := h.1 c
        refine ww_iload_n dX14_rank_133 1 rfl ?_
        exact ww_iret (ws, μ4) rfl ⟨hM2, ⟨_, rfl, h⟩⟩ rfl (Nat.le_refl _) (Nat.le_refl _) dX14_rank_134
      · replace h := h.2 (Int.not_le.mp c)
        refine ww_iload_n dX14_rank_12 1 rfl ?_
        refine ww_aloadQ_n dX14_rank_13 0 rfl ?_
        obtain ⟨x_4, hx, h⟩ := h
        refine wm_getQ hM2 rfl in_X14 (ci := 12) rfl (by decide) 0 (Nat.le_of_ble_eq_true rfl) hx (fun _ _ => rfl) q1573 (fun _ _ h => h) dX14_rank_14 ?_
        obtain ⟨a_5, ea_5, h⟩ := h
        subst ea_5
        obtain ⟨n_6, hn, h⟩ := h
        refine wm_alen hM2 rfl hn dX14_rank_17 ?_
        obtain ⟨r_7, r_8, h⟩ := h
        refine ww_icmp_ge (tgt := 133) dX14_rank_18 (by decide) r_7 r_8 (fun c => ?_) (fun c => ?_)
        · replace h := h.1 c
          refine ww_iload_n dX14_rank_133 1 rfl ?_
          exact ww_iret (ws, μ4) rfl ⟨hM2, ⟨_, rfl, h⟩⟩ rfl (Nat.le_refl _) (Nat.le_refl _) dX14_rank_134
        · replace h := h.2 (Int.not_le.mp c)
          refine ww_iload_n dX14_rank_21 1 rfl ?_
          refine ww_istore_n (i := 3) (lv2 := [(3, vI v1_4), (0, va_rf (some b)), (1, vI v1_4), (2, vI v2_4)]) dX14_rank_22 rfl (Nat.le_of_ble_eq_true rfl) rfl ?_
          obtain ⟨I23, hI23, h⟩ := h
          have kI23 : ∀ (n23 : Nat), ∀ (v3_23 : Int), I23 n23 v3_23 → ∀ ws : va_W, Mrep G ws μ4 → WW G l cX14_rank RX14 6 (Option.some Jvm.ClassFile.FieldType.int) "rank" 4 0 0 (hMR G (hR1 P)) (fun u => [u.1, fr]) 0 0 [ws, fr] 23 [(0, va_rf (some b)), (1, vI v1_4), (2, vI v2_4), (3, vI v3_23)] [] := by
            clear h
            intro n23
            induction n23 using Nat.strongRecOn with
            | ind n23 ih23 =>
              intro v3_23 hj ws hM3
              have h := hI23 n23 v3_23 hj
              refine ww_iload_n dX14_rank_23 3 rfl ?_
              refine ww_aloadQ_n dX14_rank_24 0 rfl ?_
              obtain ⟨x_9, hx, h⟩ := h
              refine wm_getQ hM3 rfl in_X14 (ci := 12) rfl (by decide) 0 (Nat.le_of_ble_eq_true rfl) hx (fun _ _ => rfl) q1573 (fun _ _ h => h) dX14_rank_25 ?_
              obtain ⟨a_10, ea_10, h⟩ := h
              subst ea_10
              obtain ⟨n_11, hn, h⟩ := h
              refine wm_alen hM3 rfl hn dX14_rank_28 ?_
              obtain ⟨r_12, r_13, h⟩ := h
              obtain ⟨J49, hJ49, h⟩ := h
              have kJ49 : J49 → ∀ ws : va_W, Mrep G ws μ4 → WW G l cX14_rank RX14 6 (Option.some Jvm.ClassFile.FieldType.int) "rank" 4 0 0 (hMR G (hR1 P)) (fun u => [u.1, fr]) 0 0 [ws, fr] 49 [(0, va_rf (some b)), (1, vI v1_4), (2, vI v2_4), (3, vI v3_23)] [] := by
                clear h
                intro hj ws hM4
                have h := hJ49 hj
                refine ww_iload_n dX14_rank_49 3 rfl ?_
                refine ww_aloadQ_n dX14_rank_50 0 rfl ?_
                obtain ⟨x_14, hx, h⟩ := h
                refine wm_getQ hM4 rfl in_X14 (ci := 12) rfl (by decide) 0 (Nat.le_of_ble_eq_true rfl) hx (fun _ _ => rfl) q1573 (fun _ _ h => h) dX14_rank_51 ?_
                obtain ⟨a_15, ea_15, h⟩ := h
                subst ea_15
                obtain ⟨n_16, hn, h⟩ := h
                refine wm_alen hM4 rfl hn dX14_rank_54 ?_
                obtain ⟨r_17, r_18, h⟩ := h
                obtain ⟨J127, hJ127, h⟩ := h
                have kJ127 : ∀ (v1_127 : Int), ∀ (μ127 : HM), J127 v1_127 μ127 → ∀ ws : va_W, Mrep G ws μ127 → WW G l cX14_rank RX14 6 (Option.some Jvm.ClassFile.FieldType.int) "rank" 4 0 0 (hMR G (hR1 P)) (fun u => [u.1, fr]) 0 0 [ws, fr] 127 [(0, va_rf (some b)), (1, vI v1_127), (2, vI v2_4)] [] := by
                  clear h
                  intro v1_127 μ127 hj ws hM5
                  have h := hJ127 v1_127 μ127 hj
                  refine ww_iinc (lv2 := [(2, vI (v2_4 + 1)), (0, va_rf (some b)), (1, vI v1_127)]) dX14_rank_127 2 rfl (Nat.le_of_ble_eq_true rfl) rfl ?_
                  refine ww_goto (tgt := 4) dX14_rank_130 (by decide) ?_
                  refine ww_lv [1, 2, 0] rfl ?_
                  obtain ⟨m, hm, h⟩ := h
                  exact ih4 m hm _ _ _ h _ hM5
                refine ww_icmp_ne (tgt := 61) dX14_rank_55 (by decide) r_17 r_18 (fun c => ?_) (fun c => ?_)
                · replace h := h.1 c
                  refine ww_aloadQ_n dX14_rank_61 0 rfl ?_
                  obtain ⟨x_19, hx, h⟩ := h
                  refine wm_getQ hM4 rfl in_X14 (ci := 12) rfl (by decide) 0 (Nat.le_of_ble_eq_true rfl) hx (fun _ _ => rfl) q1573 (fun _ _ h => h) dX14_rank_62 ?_
                  refine ww_iload_n dX14_rank_65 3 rfl ?_
                  obtain ⟨a_20, ea_20, h⟩ := h
                  subst ea_20
                  obtain ⟨x_21, hx, h⟩ := h
                  refine wm_aald hM4 rfl (by decide) hx dX14_rank_66 ?_
                  refine ww_astoreQ (i := 4) (lv2 := [(4, va_rf x_21), (0, va_rf (some b)), (1, vI v1_4), (2, vI v2_4), (3, vI v3_23)]) dX14_rank_67 (Nat.le_of_ble_eq_true rfl) rfl ?_
                  refine ww_aloadQ_n dX14_rank_69 1 rfl ?_
                  obtain ⟨x_22, hx, h⟩ := h
                  refine wm_getQ hM4 rfl in_X14 (ci := 12) rfl (by decide) 0 (Nat.le_of_ble_eq_true rfl) hx (fun _ _ => rfl) q1573 (fun _ _ h => h) dX14_rank_70 ?_
                  refine ww_iload_n dX14_rank_73 4 rfl ?_
                  refine ww_aloadQ_n dX14_rank_74 1 rfl ?_
                  obtain ⟨x_23, hx, h⟩ := h
                  refine wm_getQ hM4 rfl in_X14 (ci := 12) rfl (by decide) 0 (Nat.le_of_ble_eq_true rfl) hx (fun _ _ => rfl) q1573 (fun _ _ h => h) dX14_rank_75 ?_
                  refine ww_iload_n dX14_rank_78 2 rfl ?_
                  obtain ⟨a_24, ea_24, h⟩ := h
                  subst ea_24
                  obtain ⟨x_25, hx, h⟩ := h
                  refine wm_aald hM4 rfl (by decide) hx dX14_rank_79 ?_
                  obtain ⟨a_26, ea_26, h⟩ := h
                  subst ea_26
                  obtain ⟨a_29, ea_29, h⟩ := h
                  subst ea_29
                  obtain ⟨n_27, f_28, hc, hx, hi, h⟩ := h
                  refine wm_aast hM4 rfl rfl hc hx hi.1 hi.2.1 hi.2.2 dX14_rank_80 (fun ws hM6 => ?_)
                  refine ww_aloadQ_n dX14_rank_81 1 rfl ?_
                  obtain ⟨x_30, hx, h⟩ := h
                  refine wm_getQ hM6 rfl in_X14 (ci := 12) rfl (by decide) 0 (Nat.le_of_ble_eq_true rfl) hx (fun _ _ => rfl) q1573 (fun _ _ h => h) dX14_rank_82 ?_
                  refine ww_iload_n dX14_rank_85 2 rfl ?_
                  refine ww_aloadQ dX14_rank_86 0 rfl ?_
                  obtain ⟨a_31, ea_31, h⟩ := h
                  subst ea_31
                  obtain ⟨a_34, ea_34, h⟩ := h
                  subst ea_34
                  obtain ⟨n_32, f_33, hc, hx, hi, h⟩ := h
                  refine wm_aast hM6 rfl rfl hc hx hi.1 hi.2.1 hi.2.2 dX14_rank_88 (fun ws hM7 => ?_)
                  refine ww_iload_n dX14_rank_89 2 rfl ?_
                  refine ww_iconst dX14_rank_90 ?_
                  refine ww_iadd dX14_rank_91 ?_
                  refine ww_istore (i := 5) (lv2 := [(5, vI (v1_4 + 1)), (4, va_rf (some a_34)), (0, va_rf (some b)), (1, vI v1_4), (2, vI v2_4), (3, vI v3_23)]) dX14_rank_92 (Nat.le_of_ble_eq_true rfl) rfl ?_
                  obtain ⟨I94, hI94, h⟩ := h
                  have kI94 : ∀ (n94 : Nat), ∀ (v5_94 : Int), ∀ (μ94 : HM), I94 n94 v5_94 μ94 → ∀ ws : va_W, Mrep G ws μ94 → WW G l cX14_rank RX14 6 (Option.some Jvm.ClassFile.FieldType.int) "rank" 4 0 0 (hMR G (hR1 P)) (fun u => [u.1, fr]) 0 0 [ws, fr] 94 [(0, va_rf (some b)), (1, vI v1_4), (2, vI v2_4), (4, va_rf (some a_34)), (5, vI v5_94)] [] := by
                    clear h
                    intro n94
                    induction n94 using Nat.strongRecOn with
                    | ind n94 ih94 =>
                      intro v5_94 μ94 hj ws hM8
                      have h := hI94 n94 v5_94 μ94 hj
                      refine ww_iload dX14_rank_94 4 rfl ?_
                      refine ww_aloadQ_n dX14_rank_96 0 rfl ?_
                      obtain ⟨x_35, hx, h⟩ := h
                      refine wm_getQ hM8 rfl in_X14 (ci := 12) rfl (by decide) 0 (Nat.le_of_ble_eq_true rfl) hx (fun _ _ => rfl) q1573 (fun _ _ h => h) dX14_rank_97 ?_
                      obtain ⟨a_36, ea_36, h⟩ := h
                      subst ea_36
                      obtain ⟨n_37, hn, h⟩ := h
                      refine wm_alen hM8 rfl hn dX14_rank_100 ?_
                      obtain ⟨r_38, r_39, h⟩ := h
                      refine ww_icmp_ge (tgt := 124) dX14_rank_101 (by decide) r_38 r_39 (fun c => ?_) (fun c => ?_)
                      · replace h := h.1 c
                        refine ww_iinc (lv2 := [(1, vI (v1_4 + 1)), (0, va_rf (some b)), (2, vI v2_4), (4, va_rf (some a_34)), (5, vI v5_94)]) dX14_rank_124 1 rfl (Nat.le_of_ble_eq_true rfl) rfl ?_
                        refine ww_lv [1, 0, 2] rfl ?_
                        exact kJ127 _ _ h _ hM8
                      · replace h := h.2 (Int.not_le.mp c)
                        refine ww_aloadQ_n dX14_rank_104 0 rfl ?_
                        refine ww_aloadQ_n dX14_rank_105 0 rfl ?_
                        obtain ⟨x_40, hx, h⟩ := h
                        refine wm_getQ hM8 rfl in_X14 (ci := 12) rfl (by decide) 0 (Nat.le_of_ble_eq_true rfl) hx (fun _ _ => rfl) q1573 (fun _ _ h => h) dX14_rank_106 ?_
                        refine ww_iload dX14_rank_109 4 rfl ?_
                        obtain ⟨a_41, ea_41, h⟩ := h
                        subst ea_41
                        obtain ⟨x_42, hx, h⟩ := h
                        refine wm_aald hM8 rfl (by decide) hx dX14_rank_111 ?_
                        refine ww_aloadQ dX14_rank_112 3 rfl ?_
                        refine ww_iload_n dX14_rank_114 2 rfl ?_
                        obtain ⟨hg, h⟩ := h
                        refine wm_callV (n := 3) hM8 (tm_X14_clears h) rfl hg rfl (lw_V q1587 q1589 qs34 q148 q1590) ⟨by decide, by decide, by decide +kernel⟩ rfl ⟨Nat.le_of_ble_eq_true rfl, Nat.le_of_ble_eq_true rfl⟩ rfl (Nat.le_of_ble_eq_true rfl) dX14_rank_115 ⟨Nat.le_refl _, Nat.le_refl _⟩ ?_
                        clear h
                        rintro _ μ_43 ws ⟨rfl, h⟩ hM9
                        refine ww_st0 ?_
                        refine ww_iinc (lv2 := [(5, vI (v5_94 + 1)), (0, va_rf (some b)), (1, vI v1_4), (2, vI v2_4), (4, va_rf (some a_34))]) dX14_rank_118 4 rfl (Nat.le_of_ble_eq_true rfl) rfl ?_
                        refine ww_goto (tgt := 94) dX14_rank_121 (by decide) ?_
                        refine ww_lv [1, 2, 3, 4, 0] rfl ?_
                        obtain ⟨m, hm, h⟩ := h
                        exact ih94 m hm _ _ h _ hM9
                  refine ww_lv [2, 3, 4, 1, 0] rfl ?_
                  obtain ⟨m, h⟩ := h
                  exact kI94 m _ _ h _ hM7
                · replace h := h.2 c
                  refine ww_goto (tgt := 127) dX14_rank_58 (by decide) ?_
                  refine ww_lv [0, 1, 2] rfl ?_
                  exact kJ127 _ _ h _ hM4
              refine ww_icmp_ge (tgt := 49) dX14_rank_29 (by decide) r_12 r_13 (fun c => ?_) (fun c => ?_)
              · replace h := h.1 c
                exact kJ49 h _ hM3
              · replace h := h.2 (Int.not_le.mp c)
                refine ww_aloadQ_n dX14_rank_32 0 rfl ?_
                obtain ⟨x_44, hx, h⟩ := h
                refine wm_getQ hM3 rfl in_X14 (ci := 12) rfl (by decide) 0 (Nat.le_of_ble_eq_true rfl) hx (fun _ _ => rfl) q1573 (fun _ _ h => h) dX14_rank_33 ?_
                refine ww_iload_n dX14_rank_36 3 rfl ?_
                obtain ⟨a_45, ea_45, h⟩ := h
                subst ea_45
                obtain ⟨x_46, hx, h⟩ := h
                refine wm_aald hM3 rfl (by decide) hx dX14_rank_37 ?_
                refine ww_iload_n dX14_rank_38 2 rfl ?_
                obtain ⟨a_47, ea_47, h⟩ := h
                subst ea_47
                obtain ⟨x_48, hx, h⟩ := h
                refine wm_iald hM3 rfl hx dX14_rank_39 ?_
                obtain ⟨r_49, h⟩ := h
                refine ww_if_ne (tgt := 49) dX14_rank_40 (by decide) r_49 (fun c => ?_) (fun c => ?_)
                · replace h := h.1 c
                  exact kJ49 h _ hM3
                · replace h := h.2 c
                  refine ww_iinc (lv2 := [(3, vI (v3_23 + 1)), (0, va_rf (some b)), (1, vI v1_4), (2, vI v2_4)]) dX14_rank_43 3 rfl (Nat.le_of_ble_eq_true rfl) rfl ?_
                  refine ww_goto (tgt := 23) dX14_rank_46 (by decide) ?_
                  refine ww_lv [1, 2, 3, 0] rfl ?_
                  obtain ⟨m, hm, h⟩ := h
                  exact ih23 m hm _ h _ hM3
          refine ww_lv [1, 2, 3, 0] rfl ?_
          obtain ⟨m, h⟩ := h
          exact kI23 m _ h _ hM2
  refine ww_lv [2, 1, 0] rfl ?_
  obtain ⟨m, h⟩ := h
  exact kI4 m _ _ _ h _ hM1
/-! X1_rank: HoloNet rank (II)I; flags (True, True, False), depth 5 -/
def wc_X1_rank (ad : Nat → Nat) (mc ms : Nat) (μ : HM) (b : Nat) (a1 : Int) (a2 : Int) (P : Int → HM → Prop) : Prop :=
  gC μ b = some 1 ∧
  wc_X1_isTable ad μ b a1 (fun y_1 =>
    ((y_1 = 0 →
      P (-1) μ) ∧
    (¬ y_1 = 0 →
      rI a2 ∧
      gC μ b = some 1 ∧
      wc_X1_at ad μ b a1 (fun y_4 =>
        ∃ a_7 : Nat, y_4 = some a_7 ∧
        ∃ x_6 : Option Nat, gQ μ a_7 7 3 = some x_6 ∧
        ∃ a_8 : Nat, x_6 = some a_8 ∧
        ∃ n_9 : Nat, gL μ a_8 = some n_9 ∧
        rI ((n_9 : Int) - 1) ∧
        wc_X1_within ad μ a2 0 ((n_9 : Int) - 1) (fun y_11 =>
          ((y_11 = 0 →
            P (-1) μ) ∧
          (¬ y_11 = 0 →
            (0 + 1 ≤ mc ∧ 0 + 3 ≤ ms) ∧ ∀ q_13 : Nat, μ q_13 = none →
            gC (hs μ q_13 (hO 12 (fun _ => 0) (fun _ => none))) b = some 1 ∧
            wc_X1_at ad (hs μ q_13 (hO 12 (fun _ => 0) (fun _ => none))) b a1 (fun y_15 =>
              ∃ c_17 s_18 : Nat, (0 + 1 + c_17 ≤ mc ∧ 0 + 3 + s_18 ≤ ms) ∧
              wc_X14_init ad c_17 s_18 (hs μ q_13 (hO 12 (fun _ => 0) (fun _ => none))) q_13 (some b) y_15 a2 (fun μ_20 =>
                gC μ_20 q_13 = some 12 ∧
                wc_X14_rank ad μ_20 q_13 (fun y_21 μ_23 =>
                  P y_21 μ_23))))))))))
set_option maxHeartbeats 4000000 in
theorem tm_X1_rank {G : g_G} {l : Launch} {mc ms : Nat} {μ : HM} {b : Nat} {a1 : Int} {a2 : Int} {P : Int → HM → Prop} (h : wc_X1_rank (g_ad G) mc ms μ b a1 a2 P) : CM G l yX1_rank cX1_rank 3 (Option.some Jvm.ClassFile.FieldType.int) 5 mc ms [.ref b, vI a1, vI a2] μ (hR1 P) := by
  unfold wc_X1_rank at h
  refine wm_of (lvs := [(0, va_rf (some b)), (1, vI a1), (2, vI a2)]) (by decide) (Nat.le_of_ble_eq_true rfl) rfl (fun fr ws hM1 => ?_)
  show WW G l cX1_rank RX1 3 (Option.some Jvm.ClassFile.FieldType.int) "rank" 5 mc ms (hMR G (hR1 P)) (fun u => [u.1, fr]) 0 0 [ws, fr] 0 [(0, va_rf (some b)), (1, vI a1), (2, vI a2)] []
  have hB : 0 ≤ mc ∧ 0 ≤ ms := ⟨Nat.zero_le _, Nat.zero_le _⟩
  refine ww_aloadQ_n dX1_rank_0 0 rfl ?_
  refine ww_iload_n dX1_rank_1 1 rfl ?_
  obtain ⟨hg, h⟩ := h
  refine wm_callV (n := 1) hM1 (tm_X1_isTable h) rfl hg rfl (lw_V q1503 q1505 qs29 q108 q1506) ⟨by decide, by decide, by decide +kernel⟩ rfl ⟨Nat.le_of_ble_eq_true rfl, Nat.le_of_ble_eq_true rfl⟩ rfl (Nat.le_of_ble_eq_true rfl) dX1_rank_2 hB ?_
  clear h
  rintro _ _ ws ⟨rfl, y_1, rfl, z_2, h⟩ hM2
  refine ww_st1 ?_
  refine ww_if_eq (tgt := 49) dX1_rank_5 (by decide) (r_z z_2) (fun c => ?_) (fun c => ?_)
  · replace h := h.1 c
    refine ww_iconst dX1_rank_49 ?_
    exact ww_iret (ws, μ) rfl ⟨hM2, ⟨_, rfl, h⟩⟩ rfl hB.1 hB.2 dX1_rank_50
  · replace h := h.2 c
    refine ww_iload_n dX1_rank_8 2 rfl ?_
    obtain ⟨r_3, h⟩ := h
    refine ww_i2l dX1_rank_9 r_3 ?_
    refine ww_lconst (v := 0) dX1_rank_10 rfl ?_
    refine ww_aloadQ_n dX1_rank_11 0 rfl ?_
    refine ww_iload_n dX1_rank_12 1 rfl ?_
    obtain ⟨hg, h⟩ := h
    refine wm_callV (n := 1) hM2 (tm_X1_at h) rfl hg rfl (lw_V q1512 q1514 qs30 q108 q1515) ⟨by decide, by decide, by decide +kernel⟩ rfl ⟨Nat.le_of_ble_eq_true rfl, Nat.le_of_ble_eq_true rfl⟩ rfl (Nat.le_of_ble_eq_true rfl) dX1_rank_13 hB ?_
    clear h
    rintro _ _ ws ⟨rfl, y_4, rfl, h⟩ hM3
    refine ww_st1 ?_
    obtain ⟨a_7, ea_7, h⟩ := h
    subst ea_7
    obtain ⟨x_6, hx, h⟩ := h
    refine wm_getQN hM3 rfl in_X9 (ci := 7) rfl (by decide) 3 (Nat.le_of_ble_eq_true rfl) hx (fun _ _ => rfl) q1156 (fun _ _ h => h) dX1_rank_16 ?_
    obtain ⟨a_8, ea_8, h⟩ := h
    subst ea_8
    obtain ⟨n_9, hn, h⟩ := h
    refine wm_alen hM3 rfl hn dX1_rank_19 ?_
    refine ww_iconst dX1_rank_20 ?_
    refine ww_isub dX1_rank_21 ?_
    obtain ⟨r_10, h⟩ := h
    refine ww_i2l dX1_rank_22 r_10 ?_
    refine wm_callS (n := 3) hM3 (tm_X1_within h) (lw_S q353 q354 q108 q355) ⟨by decide, by decide, by decide +kernel⟩ rfl ⟨Nat.le_of_ble_eq_true rfl, Nat.le_of_ble_eq_true rfl⟩ rfl (Nat.le_of_ble_eq_true rfl) dX1_rank_23 hB ?_
    clear h
    rintro _ _ ws ⟨rfl, y_11, rfl, z_12, h⟩ hM4
    refine ww_st1 ?_
    refine ww_if_eq (tgt := 49) dX1_rank_26 (by decide) (r_z z_12) (fun c => ?_) (fun c => ?_)
    · replace h := h.1 c
      refine ww_iconst dX1_rank_49 ?_
      exact ww_iret (ws, μ) rfl ⟨hM4, ⟨_, rfl, h⟩⟩ rfl hB.1 hB.2 dX1_rank_50
    · replace h := h.2 c
      obtain ⟨b_14, h⟩ := h
      refine wm_new hM4 in_X14 tyX14_ok q1561 q1562 q148 (ci := 12) rfl dfl_12 b_14.1 b_14.2 dX1_rank_29 (fun q_13 ws hq hM5 => ?_)
      replace h := h q_13 hq
      have hB := b_14
      refine ww_dup dX1_rank_32 (rf_cat _) ?_
      refine ww_aloadQ_n dX1_rank_33 0 rfl ?_
      refine ww_aloadQ_n dX1_rank_34 0 rfl ?_
      refine ww_iload_n dX1_rank_35 1 rfl ?_
      obtain ⟨hg, h⟩ := h
      refine wm_callV (n := 1) hM5 (tm_X1_at h) rfl hg rfl (lw_V q1512 q1514 qs30 q108 q1515) ⟨by decide, by decide, by decide +kernel⟩ rfl ⟨Nat.le_of_ble_eq_true rfl, Nat.le_of_ble_eq_true rfl⟩ rfl (by simp only [List.map_cons, List.map_nil, rf_cat, vI_cat, vL_cat, List.sum_cons, List.sum_nil]; decide) dX1_rank_36 hB ?_
      clear h
      rintro _ _ ws ⟨rfl, y_15, rfl, h⟩ hM6
      refine ww_st1 ?_
      refine ww_iload_n dX1_rank_39 2 rfl ?_
      obtain ⟨c_17, s_18, b_19, h⟩ := h
      refine wm_callI (n := 3) hM6 (tm_X14_init h) rfl q1565 q148 q1563 q1564 rfl ⟨by decide, by decide, by decide +kernel⟩ rfl ⟨Nat.le_of_ble_eq_true rfl, Nat.le_of_ble_eq_true rfl⟩ rfl (by simp only [List.map_cons, List.map_nil, rf_cat, vI_cat, vL_cat, List.sum_cons, List.sum_nil]; decide) dX1_rank_40 b_19 ?_
      clear h
      rintro _ μ_20 ws ⟨rfl, h⟩ hM7
      have hB := b_19
      refine ww_st0 ?_
      obtain ⟨hg, h⟩ := h
      refine wm_callV (n := 0) hM7 (tm_X14_rank h) rfl hg rfl (lw_V q1583 q1584 q1585 q148 q1586) ⟨by decide, by decide, by decide +kernel⟩ rfl ⟨Nat.le_of_ble_eq_true rfl, Nat.le_of_ble_eq_true rfl⟩ rfl (Nat.le_of_ble_eq_true rfl) dX1_rank_43 hB ?_
      clear h
      rintro _ μ_23 ws ⟨y_21, rfl, h⟩ hM8
      refine ww_st1 ?_
      refine ww_goto (tgt := 50) dX1_rank_46 (by decide) ?_
      exact ww_iret (ws, μ_23) rfl ⟨hM8, ⟨_, rfl, h⟩⟩ rfl hB.1 hB.2 dX1_rank_50
/-! X1_isBase: HoloNet isBase (I)Z; flags (False, False, False), depth 3 -/
def wc_X1_isBase (ad : Nat → Nat) (μ : HM) (b : Nat) (a1 : Int) (P : Int → Prop) : Prop :=
  ∃ x_1 : Option Nat, gQ μ b 1 2 = some x_1 ∧
  ∃ a_3 : Nat, x_1 = some a_3 ∧
  ∃ x_2 : Option Nat, gQ μ a_3 2 2 = some x_2 ∧
  wc_X3_isPlace ad μ x_2 a1 (fun y_4 =>
    (y_4 = 0 ∨ y_4 = 1) ∧ P y_4)
set_option maxHeartbeats 4000000 in
theorem tm_X1_isBase {G : g_G} {l : Launch} {μ : HM} {b : Nat} {a1 : Int} {P : Int → Prop} (h : wc_X1_isBase (g_ad G) μ b a1 P) : CM G l yX1_isBase cX1_isBase 2 (Option.some Jvm.ClassFile.FieldType.boolean) 3 0 0 [.ref b, vI a1] μ (hN2 μ P) := by
  unfold wc_X1_isBase at h
  refine wm_of (lvs := [(0, va_rf (some b)), (1, vI a1)]) (by decide) (Nat.le_of_ble_eq_true rfl) rfl (fun fr ws hM1 => ?_)
  show WW G l cX1_isBase RX1 2 (Option.some Jvm.ClassFile.FieldType.boolean) "isBase" 3 0 0 (hMR G (hN2 μ P)) (fun u => [u.1, fr]) 0 0 [ws, fr] 0 [(0, va_rf (some b)), (1, vI a1)] []
  refine ww_aloadQ_n dX1_isBase_0 0 rfl ?_
  obtain ⟨x_1, hx, h⟩ := h
  refine wm_getQ hM1 rfl in_X1 (ci := 1) rfl (by decide) 2 (Nat.le_of_ble_eq_true rfl) hx (fun _ _ => rfl) q319 (fun _ _ h => h) dX1_isBase_1 ?_
  obtain ⟨a_3, ea_3, h⟩ := h
  subst ea_3
  obtain ⟨x_2, hx, h⟩ := h
  refine wm_getQN hM1 rfl in_X2 (ci := 2) rfl (by decide) 2 (Nat.le_of_ble_eq_true rfl) hx (fun _ _ => rfl) q264 (fun _ _ h => h) dX1_isBase_4 ?_
  refine ww_iload_n dX1_isBase_7 1 rfl ?_
  refine wm_callS (n := 2) hM1 (tm_X3_isPlace h) (lw_S q1507 q1508 q110 q1509) ⟨by decide, by decide, by decide +kernel⟩ rfl ⟨Nat.le_of_ble_eq_true rfl, Nat.le_of_ble_eq_true rfl⟩ rfl (Nat.le_of_ble_eq_true rfl) dX1_isBase_8 ⟨Nat.le_refl _, Nat.le_refl _⟩ ?_
  clear h
  rintro _ _ ws ⟨rfl, y_4, rfl, z_5, h⟩ hM2
  refine ww_st1 ?_
  obtain ⟨hz, h⟩ := h
  exact ww_zret (ws, μ) rfl hz ⟨hM2, ⟨rfl, _, rfl, hz, h⟩⟩ rfl (Nat.le_refl _) (Nat.le_refl _) dX1_isBase_11
/-! X1_base: HoloNet base (II)I; flags (True, True, True), depth 8 -/
def wc_X1_base (ad : Nat → Nat) (mc ms : Nat) (μ : HM) (b : Nat) (a1 : Int) (a2 : Int) (P : Int → HM → Prop) (X : Nat → String → HM → Prop) : Prop :=
  gC μ b = some 1 ∧
  wc_X1_isBase ad μ b a1 (fun y_1 =>
    ∃ J20 : Prop, (J20 →
      (0 + 1 ≤ mc ∧ 0 + 6 ≤ ms) ∧ ∀ q_3 : Nat, μ q_3 = none →
      ∃ (fi_5 : Nat → Int) (fq_6 : Nat → Option Nat), (hs μ q_3 (hO 27 (fun _ => 0) (fun _ => none))) q_3 = some (hO 27 fi_5 fq_6) ∧ X q_3 "java/util/NoSuchElementException" (hs μ q_3 (hO 27 (fun _ => 0) (fun _ => none)))) ∧
    ((y_1 = 0 →
      J20) ∧
    (¬ y_1 = 0 →
      rI a2 ∧
      wc_X1_within ad μ a2 0 4 (fun y_8 =>
        ((¬ y_8 = 0 →
          ∃ x_10 : Option Nat, gQ μ b 1 2 = some x_10 ∧
          ∃ a_12 : Nat, x_10 = some a_12 ∧
          ∃ x_11 : Option Nat, gQ μ a_12 2 2 = some x_11 ∧
          ∃ a_13 : Nat, x_11 = some a_13 ∧
          gC μ a_13 = some 3 ∧
          wc_X3_get ad μ a_13 a1 (fun y_14 =>
            (∀ z : Nat, y_14 = some z → ∃ ci, gC μ z = some ci ∧ (ci = 8)) ∧
            ∃ a_17 : Nat, y_14 = some a_17 ∧
            ∃ x_16 : Option Nat, gQ μ a_17 8 2 = some x_16 ∧
            rI a2 ∧
            ((4 ≤ a2 →
              ∃ x_19 : Option Nat, gQ μ b 1 2 = some x_19 ∧
              ∃ a_20 : Nat, x_16 = some a_20 ∧
              ∃ x_21 : Int, gA μ a_20 0 0 = some x_21 ∧
              ∃ x_22 : Int, gA μ a_20 0 3 = some x_22 ∧
              ∃ x_23 : Int, gA μ a_20 0 1 = some x_23 ∧
              ∃ x_24 : Int, gA μ a_20 0 2 = some x_24 ∧
              rI ((x_21 * x_22) - (x_23 * x_24)) ∧
              ∃ a_26 : Nat, x_19 = some a_26 ∧
              gC μ a_26 = some 2 ∧
              wc_X2_mod ad μ a_26 ((x_21 * x_22) - (x_23 * x_24)) (fun y_27 =>
                P y_27 μ)) ∧
            (a2 < 4 →
              ∃ a_29 : Nat, x_16 = some a_29 ∧
              ∃ x_30 : Int, gA μ a_29 0 a2 = some x_30 ∧
              P x_30 μ)))) ∧
        (y_8 = 0 →
          J20))))))
set_option maxHeartbeats 4000000 in
theorem tm_X1_base {G : g_G} {l : Launch} {mc ms : Nat} {μ : HM} {b : Nat} {a1 : Int} {a2 : Int} {P : Int → HM → Prop} {X : Nat → String → HM → Prop} (h : wc_X1_base (g_ad G) mc ms μ b a1 a2 P X) : CMX G l yX1_base cX1_base 4 (Option.some Jvm.ClassFile.FieldType.int) 8 mc ms [.ref b, vI a1, vI a2] μ (hR1 P) X := by
  unfold wc_X1_base at h
  refine wm_ofX (lvs := [(0, va_rf (some b)), (1, vI a1), (2, vI a2)]) (by decide) (Nat.le_of_ble_eq_true rfl) rfl (fun fr ws hM1 => ?_)
  show WF G l cX1_base RX1 4 (Option.some Jvm.ClassFile.FieldType.int) "base" 8 mc ms (gFX G (hMR G (hR1 P)) (fun u => [u.1, fr]) (hMX G X) (fun u => [u.1, fr]) mc ms []) 0 0 [ws, fr] 0 [(0, va_rf (some b)), (1, vI a1), (2, vI a2)] []
  have hB : 0 ≤ mc ∧ 0 ≤ ms := ⟨Nat.zero_le _, Nat.zero_le _⟩
  refine ww_aloadQ_n dX1_base_0 0 rfl ?_
  refine ww_iload_n dX1_base_1 1 rfl ?_
  obtain ⟨hg, h⟩ := h
  refine wm_callV (n := 1) hM1 (tm_X1_isBase h) rfl hg rfl (lw_V q1601 q1603 qs35 q108 q1604) ⟨by decide, by decide, by decide +kernel⟩ rfl ⟨Nat.le_of_ble_eq_true rfl, Nat.le_of_ble_eq_true rfl⟩ rfl (Nat.le_of_ble_eq_true rfl) dX1_base_2 hB ?_
  clear h
  rintro _ _ ws ⟨rfl, y_1, rfl, z_2, h⟩ hM2
  refine ww_st1 ?_
  obtain ⟨J20, hJ20, h⟩ := h
  have kJ20 : J20 → ∀ ws : va_W, Mrep G ws μ → (0 ≤ mc ∧ 0 ≤ ms) → WF G l cX1_base RX1 4 (Option.some Jvm.ClassFile.FieldType.int) "base" 8 mc ms (gFX G (hMR G (hR1 P)) (fun u => [u.1, fr]) (hMX G X) (fun u => [u.1, fr]) mc ms []) 0 0 [ws, fr] 20 [] [] := by
    clear h
    intro hj ws hM3 hB
    have h := hJ20 hj
    obtain ⟨b_4, h⟩ := h
    refine wm_newNSE hM3 rfl (Nat.le_of_ble_eq_true rfl) (Nat.le_of_ble_eq_true rfl) b_4.1 b_4.2 dX1_base_20 dX1_base_23 dX1_base_24 (fun q_3 ws hq hM4 => ?_)
    replace h := h q_3 hq
    have hB := b_4
    obtain ⟨fi_5, fq_6, hc, h⟩ := h
    exact wx_athrow hM4 rfl hc rfl dX1_base_27 (wx_out (fun _ hz => nomatch hz) (ws, (hs μ q_3 (hO 27 (fun _ => 0) (fun _ => none)))) ⟨hM4, h⟩ rfl hB.1 hB.2)
  refine ww_if_eq (tgt := 20) dX1_base_5 (by decide) (r_z z_2) (fun c => ?_) (fun c => ?_)
  · replace h := h.1 c
    refine ww_lv [] rfl ?_
    exact kJ20 h _ hM2 hB
  · replace h := h.2 c
    refine ww_iload_n dX1_base_8 2 rfl ?_
    obtain ⟨r_7, h⟩ := h
    refine ww_i2l dX1_base_9 r_7 ?_
    refine ww_lconst (v := 0) dX1_base_10 rfl ?_
    refine ww_ldc2 (x := 4) dX1_base_11 q2139 rfl ?_
    refine wm_callS (n := 3) hM2 (tm_X1_within h) (lw_S q353 q354 q108 q355) ⟨by decide, by decide, by decide +kernel⟩ rfl ⟨Nat.le_of_ble_eq_true rfl, Nat.le_of_ble_eq_true rfl⟩ rfl (Nat.le_of_ble_eq_true rfl) dX1_base_14 hB ?_
    clear h
    rintro _ _ ws ⟨rfl, y_8, rfl, z_9, h⟩ hM5
    refine ww_st1 ?_
    refine ww_if_ne (tgt := 28) dX1_base_17 (by decide) (r_z z_9) (fun c => ?_) (fun c => ?_)
    · replace h := h.1 c
      refine ww_aloadQ_n dX1_base_28 0 rfl ?_
      obtain ⟨x_10, hx, h⟩ := h
      refine wm_getQ hM5 rfl in_X1 (ci := 1) rfl (by decide) 2 (Nat.le_of_ble_eq_true rfl) hx (fun _ _ => rfl) q319 (fun _ _ h => h) dX1_base_29 ?_
      obtain ⟨a_12, ea_12, h⟩ := h
      subst ea_12
      obtain ⟨x_11, hx, h⟩ := h
      refine wm_getQN hM5 rfl in_X2 (ci := 2) rfl (by decide) 2 (Nat.le_of_ble_eq_true rfl) hx (fun _ _ => rfl) q264 (fun _ _ h => h) dX1_base_32 ?_
      refine ww_iload_n dX1_base_35 1 rfl ?_
      obtain ⟨a_13, ea_13, h⟩ := h
      subst ea_13
      obtain ⟨hg, h⟩ := h
      refine wm_callV (n := 1) hM5 (tm_X3_get h) rfl hg rfl (lw_V q1516 q1405 q1406 q110 q1407) ⟨by decide, by decide, by decide +kernel⟩ rfl ⟨Nat.le_of_ble_eq_true rfl, Nat.le_of_ble_eq_true rfl⟩ rfl (Nat.le_of_ble_eq_true rfl) dX1_base_36 hB ?_
      clear h
      rintro _ _ ws ⟨rfl, y_14, rfl, h⟩ hM6
      refine ww_st1 ?_
      obtain ⟨hc, h⟩ := h
      refine wm_cast hM6 hc cast_6 q1609 dX1_base_39 ?_
      obtain ⟨a_17, ea_17, h⟩ := h
      subst ea_17
      obtain ⟨x_16, hx, h⟩ := h
      refine wm_getQN hM6 rfl in_X11 (ci := 8) rfl (by decide) 2 (Nat.le_of_ble_eq_true rfl) hx (fun _ _ => rfl) q1367 (fun _ _ h => h) dX1_base_42 ?_
      refine ww_astoreQ_n (i := 3) (lv2 := [(3, va_rf x_16), (0, va_rf (some b)), (1, vI a1), (2, vI a2)]) dX1_base_45 rfl (Nat.le_of_ble_eq_true rfl) rfl ?_
      refine ww_iload_n dX1_base_46 3 rfl ?_
      refine ww_iconst dX1_base_47 ?_
      obtain ⟨r_18, h⟩ := h
      refine ww_icmp_ge (tgt := 57) dX1_base_48 (by decide) r_18 (by decide) (fun c => ?_) (fun c => ?_)
      · replace h := h.1 c
        refine ww_aloadQ_n dX1_base_57 1 rfl ?_
        obtain ⟨x_19, hx, h⟩ := h
        refine wm_getQ hM6 rfl in_X1 (ci := 1) rfl (by decide) 2 (Nat.le_of_ble_eq_true rfl) hx (fun _ _ => rfl) q319 (fun _ _ h => h) dX1_base_58 ?_
        refine ww_aloadQ_n dX1_base_61 0 rfl ?_
        refine ww_iconst dX1_base_62 ?_
        obtain ⟨a_20, ea_20, h⟩ := h
        subst ea_20
        obtain ⟨x_21, hx, h⟩ := h
        refine wm_iald hM6 rfl hx dX1_base_63 ?_
        refine ww_aloadQ_n dX1_base_64 0 rfl ?_
        refine ww_iconst dX1_base_65 ?_
        obtain ⟨x_22, hx, h⟩ := h
        refine wm_iald hM6 rfl hx dX1_base_66 ?_
        refine ww_imul dX1_base_67 ?_
        refine ww_aloadQ_n dX1_base_68 0 rfl ?_
        refine ww_iconst dX1_base_69 ?_
        obtain ⟨x_23, hx, h⟩ := h
        refine wm_iald hM6 rfl hx dX1_base_70 ?_
        refine ww_aloadQ_n dX1_base_71 0 rfl ?_
        refine ww_iconst dX1_base_72 ?_
        obtain ⟨x_24, hx, h⟩ := h
        refine wm_iald hM6 rfl hx dX1_base_73 ?_
        refine ww_imul dX1_base_74 ?_
        refine ww_isub dX1_base_75 ?_
        obtain ⟨r_25, h⟩ := h
        refine ww_i2l dX1_base_76 r_25 ?_
        obtain ⟨a_26, ea_26, h⟩ := h
        subst ea_26
        obtain ⟨hg, h⟩ := h
        refine wm_callV (n := 1) hM6 (tm_X2_mod h) rfl hg rfl (lw_V q1536 q1349 q1350 q109 q1351) ⟨by decide, by decide, by decide +kernel⟩ rfl ⟨Nat.le_of_ble_eq_true rfl, Nat.le_of_ble_eq_true rfl⟩ rfl (Nat.le_of_ble_eq_true rfl) dX1_base_77 hB ?_
        clear h
        rintro _ _ ws ⟨rfl, y_27, rfl, h⟩ hM7
        refine ww_st1 ?_
        refine wx_lift ?_
        exact ww_iret (ws, μ) rfl ⟨hM7, ⟨_, rfl, h⟩⟩ rfl hB.1 hB.2 dX1_base_80
      · replace h := h.2 (Int.not_le.mp c)
        refine ww_aloadQ_n dX1_base_51 0 rfl ?_
        refine ww_iload_n dX1_base_52 3 rfl ?_
        obtain ⟨a_29, ea_29, h⟩ := h
        subst ea_29
        obtain ⟨x_30, hx, h⟩ := h
        refine wm_iald hM6 rfl hx dX1_base_53 ?_
        refine ww_goto (tgt := 80) dX1_base_54 (by decide) ?_
        refine wx_lift ?_
        exact ww_iret (ws, μ) rfl ⟨hM6, ⟨_, rfl, h⟩⟩ rfl hB.1 hB.2 dX1_base_80
    · replace h := h.2 c
      refine ww_lv [] rfl ?_
      exact kJ20 h _ hM5 hB
