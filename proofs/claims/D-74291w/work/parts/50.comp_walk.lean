/-! THE COMPONENT and what it calls: weakest preconditions and walks (printed by tools/comp.py) -/
set_option maxRecDepth 100000
/-! X15_init_15: HoloNet$Walk <init> (LHoloNet;)V; flags (True, True, False), depth 1 -/
def wc_X15_init_15 (ad : Nat → Nat) (mc ms : Nat) (μ : HM) (b : Nat) (o1 : Option Nat) (P : HM → Prop) : Prop :=
  ∃ (fi_1 : Nat → Int) (fq_2 : Nat → Option Nat), μ b = some (hO 15 fi_1 fq_2) ∧ 
  (0 ≤ (6 : Int) ∧ (6 : Int) < 50000000 ∧ 0 + 1 ≤ mc ∧ 0 + (6 : Int).toNat ≤ ms) ∧ ∀ q_3 : Nat, (hs μ b (hO 15 fi_1 (upF fq_2 2 o1))) q_3 = none →
  ∃ (fi_5 : Nat → Int) (fq_6 : Nat → Option Nat), (hs (hs μ b (hO 15 fi_1 (upF fq_2 2 o1))) q_3 (hA 0 (6 : Int).toNat (fun _ => 0))) b = some (hO 15 fi_5 fq_6) ∧ 
  (0 ≤ (6 : Int) ∧ (6 : Int) < 50000000 ∧ 0 + 1 + 1 ≤ mc ∧ 0 + (6 : Int).toNat + (6 : Int).toNat ≤ ms) ∧ ∀ q_7 : Nat, (hs (hs (hs μ b (hO 15 fi_1 (upF fq_2 2 o1))) q_3 (hA 0 (6 : Int).toNat (fun _ => 0))) b (hO 15 fi_5 (upF fq_6 0 (some q_3)))) q_7 = none →
  ∃ (fi_9 : Nat → Int) (fq_10 : Nat → Option Nat), (hs (hs (hs (hs μ b (hO 15 fi_1 (upF fq_2 2 o1))) q_3 (hA 0 (6 : Int).toNat (fun _ => 0))) b (hO 15 fi_5 (upF fq_6 0 (some q_3)))) q_7 (hA 0 (6 : Int).toNat (fun _ => 0))) b = some (hO 15 fi_9 fq_10) ∧ 
  P (hs (hs (hs (hs (hs μ b (hO 15 fi_1 (upF fq_2 2 o1))) q_3 (hA 0 (6 : Int).toNat (fun _ => 0))) b (hO 15 fi_5 (upF fq_6 0 (some q_3)))) q_7 (hA 0 (6 : Int).toNat (fun _ => 0))) b (hO 15 fi_9 (upF fq_10 1 (some q_7))))
set_option maxHeartbeats 4000000 in
theorem tm_X15_init_15 {G : g_G} {l : Launch} {mc ms : Nat} {μ : HM} {b : Nat} {o1 : Option Nat} {P : HM → Prop} (h : wc_X15_init_15 (g_ad G) mc ms μ b o1 P) : CM G l yX15_init cX15_init 2 (Option.none : Option Jvm.ClassFile.FieldType) 1 mc ms [.ref b, va_rf o1] μ (hR0 P) := by
  unfold wc_X15_init_15 at h
  refine wm_of (lvs := [(0, va_rf (some b)), (1, va_rf o1)]) (by decide) (by simp [lg_sl, rf_cat, vI_cat, vL_cat, ref_cat]) (by simp [lv_args, rf_cat, vI_cat, vL_cat, ref_cat, rf_some]) (fun fr ws hM1 => ?_)
  show WW G l cX15_init RX15 2 (Option.none : Option Jvm.ClassFile.FieldType) "<init>" 1 mc ms (hMR G (hR0 P)) (fun u => [u.1, fr]) 0 0 [ws, fr] 0 [(0, va_rf (some b)), (1, va_rf o1)] []
  have hB : 0 ≤ mc ∧ 0 ≤ ms := ⟨Nat.zero_le _, Nat.zero_le _⟩
  refine ww_aloadQ_n dX15_init_0 0 rfl ?_
  refine ww_aloadQ_n dX15_init_1 1 rfl ?_
  obtain ⟨fi_1, fq_2, hc, h⟩ := h
  refine wm_putQFD hM1 rfl in_X18 tyX18_ok faX18 ndX18 (ci := 15) rfl 2 (Nat.le_of_ble_eq_true rfl) hc (fun _ _ => rfl) (fun _ _ => Nat.le_of_ble_eq_true rfl) q1683 (fun _ _ h => h) rfl rfl rfl (narrow_rf rfl _) (fits_rf rfl _) dX15_init_2 (fun ws hM2 => ?_)
  refine ww_aloadQ_n dX15_init_5 0 rfl ?_
  refine wm_objInit rfl q1677 q170 q171 (Nat.le_of_ble_eq_true rfl) (Nat.le_of_ble_eq_true rfl) dX15_init_6 ?_
  refine ww_aloadQ_n dX15_init_9 0 rfl ?_
  refine ww_bipush (v := 6) dX15_init_10 rfl ?_
  obtain ⟨b_4, h⟩ := h
  refine wm_new0 hM2 q163 b_4.1 (by omega) b_4.2.2.1 b_4.2.2.2 dX15_init_12 (fun q_3 ws hq hM3 => ?_)
  replace h := h q_3 hq
  have hB := b_4.2.2
  obtain ⟨fi_5, fq_6, hc, h⟩ := h
  refine wm_putQFD hM3 rfl in_X18 tyX18_ok faX18 ndX18 (ci := 15) rfl 0 (Nat.le_of_ble_eq_true rfl) hc (fun _ _ => rfl) (fun _ _ => Nat.le_of_ble_eq_true rfl) q1679 (fun _ _ h => h) rfl rfl rfl (narrow_rf rfl _) (fits_rf rfl _) dX15_init_14 (fun ws hM4 => ?_)
  refine ww_aloadQ_n dX15_init_17 0 rfl ?_
  refine ww_bipush (v := 6) dX15_init_18 rfl ?_
  obtain ⟨b_8, h⟩ := h
  refine wm_new0 hM4 q163 b_8.1 (by omega) b_8.2.2.1 b_8.2.2.2 dX15_init_20 (fun q_7 ws hq hM5 => ?_)
  replace h := h q_7 hq
  have hB := b_8.2.2
  obtain ⟨fi_9, fq_10, hc, h⟩ := h
  refine wm_putQFD hM5 rfl in_X18 tyX18_ok faX18 ndX18 (ci := 15) rfl 1 (Nat.le_of_ble_eq_true rfl) hc (fun _ _ => rfl) (fun _ _ => Nat.le_of_ble_eq_true rfl) q1682 (fun _ _ h => h) rfl rfl rfl (narrow_rf rfl _) (fits_rf rfl _) dX15_init_22 (fun ws hM6 => ?_)
  exact ww_vret (ws, (hs (hs (hs (hs (hs μ b (hO 15 fi_1 (upF fq_2 2 o1))) q_3 (hA 0 (6 : Int).toNat (fun _ => 0))) b (hO 15 fi_5 (upF fq_6 0 (some q_3)))) q_7 (hA 0 (6 : Int).toNat (fun _ => 0))) b (hO 15 fi_9 (upF fq_10 1 (some q_7))))) rfl ⟨hM6, ⟨rfl, h⟩⟩ rfl hB.1 hB.2 dX15_init_25
/-! X18_init: HoloNet$3 <init> (LHoloNet;)V; flags (True, True, False), depth 2 -/
def wc_X18_init (ad : Nat → Nat) (mc ms : Nat) (μ : HM) (b : Nat) (o1 : Option Nat) (P : HM → Prop) : Prop :=
  ∃ (fi_1 : Nat → Int) (fq_2 : Nat → Option Nat), μ b = some (hO 15 fi_1 fq_2) ∧ 
  ∃ c_3 s_4 : Nat, (0 + c_3 ≤ mc ∧ 0 + s_4 ≤ ms) ∧
  wc_X15_init_15 ad c_3 s_4 (hs μ b (hO 15 fi_1 (upF fq_2 3 o1))) b o1 (fun μ_6 =>
    P μ_6)
set_option maxHeartbeats 4000000 in
theorem tm_X18_init {G : g_G} {l : Launch} {mc ms : Nat} {μ : HM} {b : Nat} {o1 : Option Nat} {P : HM → Prop} (h : wc_X18_init (g_ad G) mc ms μ b o1 P) : CM G l yX18_init cX18_init 2 (Option.none : Option Jvm.ClassFile.FieldType) 2 mc ms [.ref b, va_rf o1] μ (hR0 P) := by
  unfold wc_X18_init at h
  refine wm_of (lvs := [(0, va_rf (some b)), (1, va_rf o1)]) (by decide) (by simp [lg_sl, rf_cat, vI_cat, vL_cat, ref_cat]) (by simp [lv_args, rf_cat, vI_cat, vL_cat, ref_cat, rf_some]) (fun fr ws hM1 => ?_)
  show WW G l cX18_init RX18 2 (Option.none : Option Jvm.ClassFile.FieldType) "<init>" 2 mc ms (hMR G (hR0 P)) (fun u => [u.1, fr]) 0 0 [ws, fr] 0 [(0, va_rf (some b)), (1, va_rf o1)] []
  have hB : 0 ≤ mc ∧ 0 ≤ ms := ⟨Nat.zero_le _, Nat.zero_le _⟩
  refine ww_aloadQ_n dX18_init_0 0 rfl ?_
  refine ww_aloadQ_n dX18_init_1 1 rfl ?_
  obtain ⟨fi_1, fq_2, hc, h⟩ := h
  refine wm_putQFD hM1 rfl in_X18 tyX18_ok faX18 ndX18 (ci := 15) rfl 3 (Nat.le_of_ble_eq_true rfl) hc (fun _ _ => rfl) (fun _ _ => Nat.le_of_ble_eq_true rfl) q1858 (fun _ _ h => h) rfl rfl rfl (narrow_rf rfl _) (fits_rf rfl _) dX18_init_2 (fun ws hM2 => ?_)
  refine ww_aloadQ_n dX18_init_5 0 rfl ?_
  refine ww_aloadQ_n dX18_init_6 1 rfl ?_
  obtain ⟨c_3, s_4, b_5, h⟩ := h
  refine wm_callIN (n := 1) hM2 (tm_X15_init_15 h) rfl q1857 q1676 q150 q1675 rfl ⟨by decide, by decide, by decide +kernel⟩ rfl ⟨Nat.le_of_ble_eq_true rfl, Nat.le_of_ble_eq_true rfl⟩ rfl (Nat.le_of_ble_eq_true rfl) dX18_init_7 b_5 ?_
  clear h
  rintro _ μ_6 ws ⟨rfl, h⟩ hM3
  have hB := b_5
  refine ww_st0 ?_
  exact ww_vret (ws, μ_6) rfl ⟨hM3, ⟨rfl, h⟩⟩ rfl hB.1 hB.2 dX18_init_10
/-! X1_ways: HoloNet ways (I)I; flags (True, True, False), depth 8 -/
def wc_X1_ways (ad : Nat → Nat) (mc ms : Nat) (μ : HM) (b : Nat) (a1 : Int) (P : Int → HM → Prop) : Prop :=
  gC μ b = some 1 ∧
  wc_X1_isIndex ad μ b a1 (fun y_1 =>
    ((¬ y_1 = 0 →
      ∃ (fi_3 : Nat → Int) (fq_4 : Nat → Option Nat), μ b = some (hO 1 fi_3 fq_4) ∧ 
      (0 + 1 ≤ mc ∧ 0 + 4 ≤ ms) ∧ ∀ q_5 : Nat, (hs μ b (hO 1 (upF fi_3 7 0) fq_4)) q_5 = none →
      ∃ c_7 s_8 : Nat, (0 + 1 + c_7 ≤ mc ∧ 0 + 4 + s_8 ≤ ms) ∧
      wc_X18_init ad c_7 s_8 (hs (hs μ b (hO 1 (upF fi_3 7 0) fq_4)) q_5 (hO 15 (fun _ => 0) (fun _ => none))) q_5 (some b) (fun μ_10 =>
        gC μ_10 q_5 = some 15 ∧
        wc_X15_opens_15 ad μ_10 q_5 a1 (fun y_11 μ_13 =>
          ∃ a_14 : Nat, y_11 = some a_14 ∧
          gC μ_13 a_14 = some 15 ∧
          ∃ c_15 s_16 : Nat, (0 + 1 + c_7 + c_15 ≤ mc ∧ 0 + 4 + s_8 + s_16 ≤ ms) ∧
          wc_X15_goes_15 ad c_15 s_16 μ_13 a_14 (fun μ_18 =>
            ∃ x_19 : Int, gI μ_18 b 1 7 = some x_19 ∧
            P x_19 μ_18)))) ∧
    (y_1 = 0 →
      P (-1) μ)))
set_option maxHeartbeats 4000000 in
theorem tm_X1_ways {G : g_G} {l : Launch} {mc ms : Nat} {μ : HM} {b : Nat} {a1 : Int} {P : Int → HM → Prop} (h : wc_X1_ways (g_ad G) mc ms μ b a1 P) : CM G l yX1_ways cX1_ways 2 (Option.some Jvm.ClassFile.FieldType.int) 8 mc ms [.ref b, vI a1] μ (hR1 P) := by
  unfold wc_X1_ways at h
  refine wm_of (lvs := [(0, va_rf (some b)), (1, vI a1)]) (by decide) (Nat.le_of_ble_eq_true rfl) rfl (fun fr ws hM1 => ?_)
  show WW G l cX1_ways RX1 2 (Option.some Jvm.ClassFile.FieldType.int) "ways" 8 mc ms (hMR G (hR1 P)) (fun u => [u.1, fr]) 0 0 [ws, fr] 0 [(0, va_rf (some b)), (1, vI a1)] []
  have hB : 0 ≤ mc ∧ 0 ≤ ms := ⟨Nat.zero_le _, Nat.zero_le _⟩
  refine ww_aloadQ_n dX1_ways_0 0 rfl ?_
  refine ww_iload_n dX1_ways_1 1 rfl ?_
  obtain ⟨hg, h⟩ := h
  refine wm_callV (n := 1) hM1 (tm_X1_isIndex h) rfl hg rfl (lw_V q1665 q1667 qs44 q108 q1668) ⟨by decide, by decide, by decide +kernel⟩ rfl ⟨Nat.le_of_ble_eq_true rfl, Nat.le_of_ble_eq_true rfl⟩ rfl (Nat.le_of_ble_eq_true rfl) dX1_ways_2 hB ?_
  clear h
  rintro _ _ ws ⟨rfl, y_1, rfl, z_2, h⟩ hM2
  refine ww_st1 ?_
  refine ww_if_ne (tgt := 10) dX1_ways_5 (by decide) (r_z z_2) (fun c => ?_) (fun c => ?_)
  · replace h := h.1 c
    refine ww_aloadQ_n dX1_ways_10 0 rfl ?_
    refine ww_lconst (v := 0) dX1_ways_11 rfl ?_
    obtain ⟨fi_3, fq_4, hc, h⟩ := h
    refine wm_putL hM2 rfl in_X1 tyX1_ok nmX1 (ci := 1) rfl 7 (Nat.le_of_ble_eq_true rfl) hc (fun _ _ => rfl) (fun _ _ => Nat.le_of_ble_eq_true rfl) q330 (fun _ _ h => h) rfl rfl rfl dX1_ways_12 (fun ws hM3 => ?_)
    obtain ⟨b_6, h⟩ := h
    refine wm_new hM3 in_X18 tyX18_ok q1852 q1853 q154 (ci := 15) rfl dfl_15 b_6.1 b_6.2 dX1_ways_15 (fun q_5 ws hq hM4 => ?_)
    replace h := h q_5 hq
    have hB := b_6
    refine ww_dup dX1_ways_18 (rf_cat _) ?_
    refine ww_aloadQ_n dX1_ways_19 0 rfl ?_
    obtain ⟨c_7, s_8, b_9, h⟩ := h
    refine wm_callI (n := 1) hM4 (tm_X18_init h) rfl q1856 q154 q1854 q1855 rfl ⟨by decide, by decide, by decide +kernel⟩ rfl ⟨Nat.le_of_ble_eq_true rfl, Nat.le_of_ble_eq_true rfl⟩ rfl (by simp only [List.map_cons, List.map_nil, rf_cat, vI_cat, vL_cat, List.sum_cons, List.sum_nil]; decide) dX1_ways_20 b_9 ?_
    clear h
    rintro _ μ_10 ws ⟨rfl, h⟩ hM5
    have hB := b_9
    refine ww_st0 ?_
    refine ww_iload_n dX1_ways_23 1 rfl ?_
    obtain ⟨hg, h⟩ := h
    refine wm_callU (n := 1) hM5 (tm_X15_opens_15 h) rfl hg rfl (lw_U q1865 q1866 q1867 q1697 q150 q1698) rfl ⟨by decide, by decide, by decide +kernel⟩ rfl ⟨Nat.le_of_ble_eq_true rfl, Nat.le_of_ble_eq_true rfl⟩ rfl (Nat.le_of_ble_eq_true rfl) dX1_ways_24 hB ?_
    clear h
    rintro _ μ_13 ws ⟨y_11, rfl, h⟩ hM6
    refine ww_st1 ?_
    obtain ⟨a_14, ea_14, h⟩ := h
    subst ea_14
    obtain ⟨hg, h⟩ := h
    obtain ⟨c_15, s_16, b_17, h⟩ := h
    refine wm_callU (n := 0) hM6 (tm_X15_goes_15 h) rfl hg rfl (lw_U q1703 q1705 q1708 q1704 q150 q1710) rfl ⟨by decide, by decide, by decide +kernel⟩ rfl ⟨Nat.le_of_ble_eq_true rfl, Nat.le_of_ble_eq_true rfl⟩ rfl (Nat.le_of_ble_eq_true rfl) dX1_ways_27 b_17 ?_
    clear h
    rintro _ μ_18 ws ⟨rfl, h⟩ hM7
    have hB := b_17
    refine ww_st0 ?_
    refine ww_aloadQ_n dX1_ways_30 0 rfl ?_
    obtain ⟨x_19, hx, h⟩ := h
    refine wm_getL hM7 rfl in_X1 (ci := 1) rfl (by decide) 7 (Nat.le_of_ble_eq_true rfl) hx (fun _ _ => rfl) q330 (fun _ _ h => h) dX1_ways_31 ?_
    refine ww_l2i dX1_ways_34 ?_
    exact ww_iret (ws, μ_18) rfl ⟨hM7, ⟨_, rfl, h⟩⟩ rfl hB.1 hB.2 dX1_ways_35
  · replace h := h.2 c
    refine ww_iconst dX1_ways_8 ?_
    exact ww_iret (ws, μ) rfl ⟨hM2, ⟨_, rfl, h⟩⟩ rfl hB.1 hB.2 dX1_ways_9
/-! X15_sets_16: HoloNet$Walk sets (LHoloNet$Wire;)V; flags (True, False, False), depth 1 -/
def wc_X15_sets_16 (ad : Nat → Nat) (μ : HM) (b : Nat) (o1 : Option Nat) (P : HM → Prop) : Prop :=
  ∃ x_1 : Option Nat, gQ μ b 16 0 = some x_1 ∧
  ∃ a_2 : Nat, o1 = some a_2 ∧
  gC μ a_2 = some 10 ∧
  wc_X13_node ad μ a_2 (fun y_3 =>
    ∃ a_5 : Nat, x_1 = some a_5 ∧
    ∃ x_6 : Int, gA μ a_5 0 y_3 = some x_6 ∧
    gC μ a_2 = some 10 ∧
    wc_X13_leg ad μ a_2 (fun y_7 =>
      ∃ (n_9 : Nat) (f_10 : Int → Int), μ a_5 = some (hA 0 n_9 f_10) ∧ ((0 : Int) ≤ y_3 ∧ y_3 < (n_9 : Int) ∧ (n_9 : Int) < 2147483648) ∧ 
      ∃ x_11 : Option Nat, gQ (hs μ a_5 (hA 0 n_9 (updI f_10 y_3 (bO x_6 (bL 1 y_7))))) b 16 0 = some x_11 ∧
      gC (hs μ a_5 (hA 0 n_9 (updI f_10 y_3 (bO x_6 (bL 1 y_7))))) a_2 = some 10 ∧
      wc_X13_other ad (hs μ a_5 (hA 0 n_9 (updI f_10 y_3 (bO x_6 (bL 1 y_7))))) a_2 (fun y_12 =>
        ∃ a_14 : Nat, x_11 = some a_14 ∧
        ∃ x_15 : Int, gA (hs μ a_5 (hA 0 n_9 (updI f_10 y_3 (bO x_6 (bL 1 y_7))))) a_14 0 y_12 = some x_15 ∧
        gC (hs μ a_5 (hA 0 n_9 (updI f_10 y_3 (bO x_6 (bL 1 y_7))))) a_2 = some 10 ∧
        wc_X13_otherLeg ad (hs μ a_5 (hA 0 n_9 (updI f_10 y_3 (bO x_6 (bL 1 y_7))))) a_2 (fun y_16 =>
          ∃ (n_18 : Nat) (f_19 : Int → Int), (hs μ a_5 (hA 0 n_9 (updI f_10 y_3 (bO x_6 (bL 1 y_7))))) a_14 = some (hA 0 n_18 f_19) ∧ ((0 : Int) ≤ y_12 ∧ y_12 < (n_18 : Int) ∧ (n_18 : Int) < 2147483648) ∧ 
          P (hs (hs μ a_5 (hA 0 n_9 (updI f_10 y_3 (bO x_6 (bL 1 y_7))))) a_14 (hA 0 n_18 (updI f_19 y_12 (bO x_15 (bL 1 y_16)))))))))
set_option maxHeartbeats 4000000 in
theorem tm_X15_sets_16 {G : g_G} {l : Launch} {μ : HM} {b : Nat} {o1 : Option Nat} {P : HM → Prop} (h : wc_X15_sets_16 (g_ad G) μ b o1 P) : CM G l yX15_sets cX15_sets 2 (Option.none : Option Jvm.ClassFile.FieldType) 1 0 0 [.ref b, va_rf o1] μ (hR0 P) := by
  unfold wc_X15_sets_16 at h
  refine wm_of (lvs := [(0, va_rf (some b)), (1, va_rf o1)]) (by decide) (by simp [lg_sl, rf_cat, vI_cat, vL_cat, ref_cat]) (by simp [lv_args, rf_cat, vI_cat, vL_cat, ref_cat, rf_some]) (fun fr ws hM1 => ?_)
  show WW G l cX15_sets RX15 2 (Option.none : Option Jvm.ClassFile.FieldType) "sets" 1 0 0 (hMR G (hR0 P)) (fun u => [u.1, fr]) 0 0 [ws, fr] 0 [(0, va_rf (some b)), (1, va_rf o1)] []
  refine ww_aloadQ_n dX15_sets_0 0 rfl ?_
  obtain ⟨x_1, hx, h⟩ := h
  refine wm_getQ hM1 rfl in_X19 (ci := 16) rfl (by decide) 0 (Nat.le_of_ble_eq_true rfl) hx (fun _ _ => rfl) q1679 (fun _ _ h => h) dX15_sets_1 ?_
  refine ww_aloadQ_n dX15_sets_4 1 rfl ?_
  obtain ⟨a_2, ea_2, h⟩ := h
  subst ea_2
  obtain ⟨hg, h⟩ := h
  refine wm_callV (n := 0) hM1 (tm_X13_node h) rfl hg rfl (lw_V q1775 q1480 q1481 q147 q1482) ⟨by decide, by decide, by decide +kernel⟩ rfl ⟨Nat.le_of_ble_eq_true rfl, Nat.le_of_ble_eq_true rfl⟩ rfl (by simp only [List.map_cons, List.map_nil, rf_cat, vI_cat, vL_cat, List.sum_cons, List.sum_nil]; decide) dX15_sets_5 ⟨Nat.le_refl _, Nat.le_refl _⟩ ?_
  clear h
  rintro _ _ ws ⟨rfl, y_3, rfl, h⟩ hM2
  refine ww_st1 ?_
  refine ww_dup2 dX15_sets_8 rfl (rf_cat _) ?_
  obtain ⟨a_5, ea_5, h⟩ := h
  subst ea_5
  obtain ⟨x_6, hx, h⟩ := h
  refine wm_iald hM2 rfl hx dX15_sets_9 ?_
  refine ww_iconst dX15_sets_10 ?_
  refine ww_aloadQ_n dX15_sets_11 1 rfl ?_
  obtain ⟨hg, h⟩ := h
  refine wm_callV (n := 0) hM2 (tm_X13_leg h) rfl hg rfl (lw_V q1797 q1484 q1485 q147 q1486) ⟨by decide, by decide, by decide +kernel⟩ rfl ⟨Nat.le_of_ble_eq_true rfl, Nat.le_of_ble_eq_true rfl⟩ rfl (by simp only [List.map_cons, List.map_nil, rf_cat, vI_cat, vL_cat, List.sum_cons, List.sum_nil]; decide) dX15_sets_12 ⟨Nat.le_refl _, Nat.le_refl _⟩ ?_
  clear h
  rintro _ _ ws ⟨rfl, y_7, rfl, h⟩ hM3
  refine ww_st1 ?_
  refine ww_ishl dX15_sets_15 ?_
  refine ww_ior dX15_sets_16 ?_
  obtain ⟨n_9, f_10, hc, hi, h⟩ := h
  refine wm_iast hM3 rfl hc hi.1 hi.2.1 hi.2.2 dX15_sets_17 (fun ws hM4 => ?_)
  refine ww_aloadQ_n dX15_sets_18 0 rfl ?_
  obtain ⟨x_11, hx, h⟩ := h
  refine wm_getQ hM4 rfl in_X19 (ci := 16) rfl (by decide) 0 (Nat.le_of_ble_eq_true rfl) hx (fun _ _ => rfl) q1679 (fun _ _ h => h) dX15_sets_19 ?_
  refine ww_aloadQ_n dX15_sets_22 1 rfl ?_
  obtain ⟨hg, h⟩ := h
  refine wm_callV (n := 0) hM4 (tm_X13_other h) rfl hg rfl (lw_V q1787 q1488 q1489 q147 q1490) ⟨by decide, by decide, by decide +kernel⟩ rfl ⟨Nat.le_of_ble_eq_true rfl, Nat.le_of_ble_eq_true rfl⟩ rfl (by simp only [List.map_cons, List.map_nil, rf_cat, vI_cat, vL_cat, List.sum_cons, List.sum_nil]; decide) dX15_sets_23 ⟨Nat.le_refl _, Nat.le_refl _⟩ ?_
  clear h
  rintro _ _ ws ⟨rfl, y_12, rfl, h⟩ hM5
  refine ww_st1 ?_
  refine ww_dup2 dX15_sets_26 rfl (rf_cat _) ?_
  obtain ⟨a_14, ea_14, h⟩ := h
  subst ea_14
  obtain ⟨x_15, hx, h⟩ := h
  refine wm_iald hM5 rfl hx dX15_sets_27 ?_
  refine ww_iconst dX15_sets_28 ?_
  refine ww_aloadQ_n dX15_sets_29 1 rfl ?_
  obtain ⟨hg, h⟩ := h
  refine wm_callV (n := 0) hM5 (tm_X13_otherLeg h) rfl hg rfl (lw_V q1798 q1492 q1493 q147 q1494) ⟨by decide, by decide, by decide +kernel⟩ rfl ⟨Nat.le_of_ble_eq_true rfl, Nat.le_of_ble_eq_true rfl⟩ rfl (by simp only [List.map_cons, List.map_nil, rf_cat, vI_cat, vL_cat, List.sum_cons, List.sum_nil]; decide) dX15_sets_30 ⟨Nat.le_refl _, Nat.le_refl _⟩ ?_
  clear h
  rintro _ _ ws ⟨rfl, y_16, rfl, h⟩ hM6
  refine ww_st1 ?_
  refine ww_ishl dX15_sets_33 ?_
  refine ww_ior dX15_sets_34 ?_
  obtain ⟨n_18, f_19, hc, hi, h⟩ := h
  refine wm_iast hM6 rfl hc hi.1 hi.2.1 hi.2.2 dX15_sets_35 (fun ws hM7 => ?_)
  exact ww_vret (ws, (hs (hs μ a_5 (hA 0 n_9 (updI f_10 y_3 (bO x_6 (bL 1 y_7))))) a_14 (hA 0 n_18 (updI f_19 y_12 (bO x_15 (bL 1 y_16)))))) rfl ⟨hM7, ⟨rfl, h⟩⟩ rfl (Nat.le_refl _) (Nat.le_refl _) dX15_sets_36
/-! X15_worth_16: HoloNet$Walk worth (I)I; flags (False, False, False), depth 0 -/
def wc_X15_worth_16 (ad : Nat → Nat) (μ : HM) (b : Nat) (a1 : Int) (P : Int → Prop) : Prop :=
  ∃ x_1 : Option Nat, gQ μ b 16 2 = some x_1 ∧
  ∃ a_3 : Nat, x_1 = some a_3 ∧
  ∃ x_2 : Option Nat, gQ μ a_3 1 3 = some x_2 ∧
  ∃ a_5 : Nat, x_2 = some a_5 ∧
  ∃ x_4 : Option Nat, gQ μ a_5 4 0 = some x_4 ∧
  ∃ a_6 : Nat, x_4 = some a_6 ∧
  ∃ x_7 : Option Nat, gR μ a_6 6 a1 = some x_7 ∧
  ∃ x_8 : Option Nat, gQ μ b 16 0 = some x_8 ∧
  ∃ a_9 : Nat, x_8 = some a_9 ∧
  ∃ x_10 : Int, gA μ a_9 0 a1 = some x_10 ∧
  ∃ a_11 : Nat, x_7 = some a_11 ∧
  ∃ x_12 : Int, gA μ a_11 0 x_10 = some x_12 ∧
  P x_12
set_option maxHeartbeats 4000000 in
theorem tm_X15_worth_16 {G : g_G} {l : Launch} {μ : HM} {b : Nat} {a1 : Int} {P : Int → Prop} (h : wc_X15_worth_16 (g_ad G) μ b a1 P) : CM G l yX15_worth cX15_worth 2 (Option.some Jvm.ClassFile.FieldType.int) 0 0 0 [.ref b, vI a1] μ (hN1 μ P) := by
  unfold wc_X15_worth_16 at h
  refine wm_of (lvs := [(0, va_rf (some b)), (1, vI a1)]) (by decide) (Nat.le_of_ble_eq_true rfl) rfl (fun fr ws hM1 => ?_)
  show WW G l cX15_worth RX15 2 (Option.some Jvm.ClassFile.FieldType.int) "worth" 0 0 0 (hMR G (hN1 μ P)) (fun u => [u.1, fr]) 0 0 [ws, fr] 0 [(0, va_rf (some b)), (1, vI a1)] []
  refine ww_aloadQ_n dX15_worth_0 0 rfl ?_
  obtain ⟨x_1, hx, h⟩ := h
  refine wm_getQ hM1 rfl in_X19 (ci := 16) rfl (by decide) 2 (Nat.le_of_ble_eq_true rfl) hx (fun _ _ => rfl) q1683 (fun _ _ h => h) dX15_worth_1 ?_
  obtain ⟨a_3, ea_3, h⟩ := h
  subst ea_3
  obtain ⟨x_2, hx, h⟩ := h
  refine wm_getQN hM1 rfl in_X1 (ci := 1) rfl (by decide) 3 (Nat.le_of_ble_eq_true rfl) hx (fun _ _ => rfl) q321 (fun _ _ h => h) dX15_worth_4 ?_
  obtain ⟨a_5, ea_5, h⟩ := h
  subst ea_5
  obtain ⟨x_4, hx, h⟩ := h
  refine wm_getQN hM1 rfl in_X4 (ci := 4) rfl (by decide) 0 (Nat.le_of_ble_eq_true rfl) hx (fun _ _ => rfl) q295 (fun _ _ h => h) dX15_worth_7 ?_
  refine ww_iload_n dX15_worth_10 1 rfl ?_
  obtain ⟨a_6, ea_6, h⟩ := h
  subst ea_6
  obtain ⟨x_7, hx, h⟩ := h
  refine wm_aald hM1 rfl (by decide) hx dX15_worth_11 ?_
  refine ww_aloadQ_n dX15_worth_12 0 rfl ?_
  obtain ⟨x_8, hx, h⟩ := h
  refine wm_getQ hM1 rfl in_X19 (ci := 16) rfl (by decide) 0 (Nat.le_of_ble_eq_true rfl) hx (fun _ _ => rfl) q1679 (fun _ _ h => h) dX15_worth_13 ?_
  refine ww_iload_n dX15_worth_16 1 rfl ?_
  obtain ⟨a_9, ea_9, h⟩ := h
  subst ea_9
  obtain ⟨x_10, hx, h⟩ := h
  refine wm_iald hM1 rfl hx dX15_worth_17 ?_
  obtain ⟨a_11, ea_11, h⟩ := h
  subst ea_11
  obtain ⟨x_12, hx, h⟩ := h
  refine wm_iald hM1 rfl hx dX15_worth_18 ?_
  exact ww_iret (ws, μ) rfl ⟨hM1, ⟨rfl, _, rfl, h⟩⟩ rfl (Nat.le_refl _) (Nat.le_refl _) dX15_worth_19
/-! X19_isIn: HoloNet$4 isIn (I)Z; flags (False, False, False), depth 1 -/
def wc_X19_isIn (ad : Nat → Nat) (μ : HM) (b : Nat) (a1 : Int) (P : Int → Prop) : Prop :=
  ∃ x_1 : Int, gI μ b 16 3 = some x_1 ∧
  wc_X1_has ad μ x_1 a1 (fun y_2 =>
    (y_2 = 0 ∨ y_2 = 1) ∧ P y_2)
set_option maxHeartbeats 4000000 in
theorem tm_X19_isIn {G : g_G} {l : Launch} {μ : HM} {b : Nat} {a1 : Int} {P : Int → Prop} (h : wc_X19_isIn (g_ad G) μ b a1 P) : CM G l yX19_isIn cX19_isIn 2 (Option.some Jvm.ClassFile.FieldType.boolean) 1 0 0 [.ref b, vI a1] μ (hN2 μ P) := by
  unfold wc_X19_isIn at h
  refine wm_of (lvs := [(0, va_rf (some b)), (1, vI a1)]) (by decide) (Nat.le_of_ble_eq_true rfl) rfl (fun fr ws hM1 => ?_)
  show WW G l cX19_isIn RX19 2 (Option.some Jvm.ClassFile.FieldType.boolean) "isIn" 1 0 0 (hMR G (hN2 μ P)) (fun u => [u.1, fr]) 0 0 [ws, fr] 0 [(0, va_rf (some b)), (1, vI a1)] []
  refine ww_aloadQ_n dX19_isIn_0 0 rfl ?_
  obtain ⟨x_1, hx, h⟩ := h
  refine wm_getI hM1 rfl in_X19 (ci := 16) rfl (by decide) 3 (Nat.le_of_ble_eq_true rfl) hx (fun _ _ => rfl) q1878 (fun _ _ h => h) dX19_isIn_1 ?_
  refine ww_iload_n dX19_isIn_4 1 rfl ?_
  refine wm_callSN (n := 2) hM1 (tm_X1_has h) q1785 q1347 q108 q1346 ⟨by decide, by decide, by decide +kernel⟩ rfl ⟨Nat.le_of_ble_eq_true rfl, Nat.le_of_ble_eq_true rfl⟩ rfl (Nat.le_of_ble_eq_true rfl) dX19_isIn_5 ⟨Nat.le_refl _, Nat.le_refl _⟩ ?_
  clear h
  rintro _ _ ws ⟨rfl, y_2, rfl, z_3, h⟩ hM2
  refine ww_st1 ?_
  obtain ⟨hz, h⟩ := h
  exact ww_zret (ws, μ) rfl hz ⟨hM2, ⟨rfl, _, rfl, hz, h⟩⟩ rfl (Nat.le_refl _) (Nat.le_refl _) dX19_isIn_8
/-! X19_meets: HoloNet$4 meets (J)V; flags (True, False, False), depth 0 -/
def wc_X19_meets (ad : Nat → Nat) (μ : HM) (b : Nat) (a1 : Int) (P : HM → Prop) : Prop :=
  ∃ x_1 : Option Nat, gQ μ b 16 4 = some x_1 ∧
  ∃ a_3 : Nat, x_1 = some a_3 ∧
  ∃ x_2 : Int, gI μ a_3 1 7 = some x_2 ∧
  ∃ (fi_4 : Nat → Int) (fq_5 : Nat → Option Nat), μ a_3 = some (hO 1 fi_4 fq_5) ∧ 
  P (hs μ a_3 (hO 1 (upF fi_4 7 (x_2 + a1)) fq_5))
set_option maxHeartbeats 4000000 in
theorem tm_X19_meets {G : g_G} {l : Launch} {μ : HM} {b : Nat} {a1 : Int} {P : HM → Prop} (h : wc_X19_meets (g_ad G) μ b a1 P) : CM G l yX19_meets cX19_meets 3 (Option.none : Option Jvm.ClassFile.FieldType) 0 0 0 [.ref b, vL a1] μ (hR0 P) := by
  unfold wc_X19_meets at h
  refine wm_of (lvs := [(0, va_rf (some b)), (1, vL a1)]) (by decide) (Nat.le_of_ble_eq_true rfl) rfl (fun fr ws hM1 => ?_)
  show WW G l cX19_meets RX19 3 (Option.none : Option Jvm.ClassFile.FieldType) "meets" 0 0 0 (hMR G (hR0 P)) (fun u => [u.1, fr]) 0 0 [ws, fr] 0 [(0, va_rf (some b)), (1, vL a1)] []
  refine ww_aloadQ_n dX19_meets_0 0 rfl ?_
  obtain ⟨x_1, hx, h⟩ := h
  refine wm_getQ hM1 rfl in_X19 (ci := 16) rfl (by decide) 4 (Nat.le_of_ble_eq_true rfl) hx (fun _ _ => rfl) q1879 (fun _ _ h => h) dX19_meets_1 ?_
  refine ww_dup dX19_meets_4 (rf_cat _) ?_
  obtain ⟨a_3, ea_3, h⟩ := h
  subst ea_3
  obtain ⟨x_2, hx, h⟩ := h
  refine wm_getLN hM1 rfl in_X1 (ci := 1) rfl (by decide) 7 (Nat.le_of_ble_eq_true rfl) hx (fun _ _ => rfl) q329 (fun _ _ h => h) dX19_meets_5 ?_
  refine ww_lload_n dX19_meets_8 1 rfl ?_
  refine ww_ladd dX19_meets_9 ?_
  obtain ⟨fi_4, fq_5, hc, h⟩ := h
  refine wm_putLN hM1 rfl in_X1 tyX1_ok nmX1 (ci := 1) rfl 7 (Nat.le_of_ble_eq_true rfl) hc (fun _ _ => rfl) (fun _ _ => Nat.le_of_ble_eq_true rfl) q329 (fun _ _ h => h) rfl rfl rfl dX19_meets_10 (fun ws hM2 => ?_)
  exact ww_vret (ws, (hs μ a_3 (hO 1 (upF fi_4 7 (x_2 + a1)) fq_5))) rfl ⟨hM2, ⟨rfl, h⟩⟩ rfl (Nat.le_refl _) (Nat.le_refl _) dX19_meets_13
/-! X15_goes_16: HoloNet$Walk goes ()V; flags (True, True, False), depth 7 -/
def wc_X15_goes_16 (ad : Nat → Nat) (mc ms : Nat) (μ : HM) (b : Nat) (P : HM → Prop) : Prop :=
  (0 + 1 ≤ mc ∧ 0 + 3 ≤ ms) ∧ ∀ q_1 : Nat, μ q_1 = none →
  wc_J2_init ad (hs μ q_1 (hO 18 (fun _ => 0) (fun _ => none))) q_1 (fun μ_3 =>
    ∃ x_4 : Option Nat, gQ μ_3 b 16 2 = some x_4 ∧
    ∃ a_6 : Nat, x_4 = some a_6 ∧
    ∃ x_5 : Option Nat, gQ μ_3 a_6 1 3 = some x_5 ∧
    ∃ a_8 : Nat, x_5 = some a_8 ∧
    ∃ x_7 : Option Nat, gQ μ_3 a_8 4 1 = some x_7 ∧
    ∃ a_9 : Nat, x_7 = some a_9 ∧
    gC μ_3 a_9 = some 18 ∧
    ∃ c_10 s_11 : Nat, (0 + 1 + c_10 ≤ mc ∧ 0 + 3 + s_11 ≤ ms) ∧
    wc_J2_iterator ad c_10 s_11 μ_3 a_9 (fun y_13 μ_15 =>
      ∃ I22 : Nat → HM → Nat → Nat → Prop, (∀ (n22 : Nat) (μ22 : HM) (uc22 : Nat) (us22 : Nat), I22 n22 μ22 uc22 us22 →
        ∃ a_16 : Nat, y_13 = some a_16 ∧
        gC μ22 a_16 = some 23 ∧
        wc_J25_hasNext ad μ22 a_16 (fun y_17 =>
          ((y_17 = 0 →
            ∃ I74 : Nat → Int → HM → Prop, (∀ (n74 : Nat) (v2_74 : Int) (μ74 : HM), I74 n74 v2_74 μ74 →
              gC μ74 q_1 = some 18 ∧
              wc_J2_size ad μ74 q_1 (fun y_19 =>
                rI v2_74 ∧
                (((bL 1 y_19) ≤ v2_74 →
                  P μ74) ∧
                (v2_74 < (bL 1 y_19) →
                  ∃ x_22 : Option Nat, gQ μ74 b 16 1 = some x_22 ∧
                  ∃ x_23 : Option Nat, gQ μ74 b 16 0 = some x_23 ∧
                  ∃ a_24 : Nat, x_22 = some a_24 ∧
                  ∃ a_25 : Nat, x_23 = some a_25 ∧
                  ∃ (n_26 n_27 : Nat) (f_28 g_29 : Int → Int), μ74 a_24 = some (hA 0 n_26 f_28) ∧ μ74 a_25 = some (hA 0 n_27 g_29) ∧ ((0 : Int) ≤ (0 : Int) ∧ (0 : Int) ≤ (0 : Int) ∧ (0 : Int) ≤ (6 : Int) ∧ (0 : Int) + (6 : Int) ≤ (n_26 : Int) ∧ (0 : Int) + (6 : Int) ≤ (n_27 : Int) ∧ (n_26 : Int) < 2147483648 ∧ (n_27 : Int) < 2147483648) ∧ 
                  ∃ I101 : Nat → Int → HM → Prop, (∀ (n101 : Nat) (v3_101 : Int) (μ101 : HM), I101 n101 v3_101 μ101 →
                    gC μ101 q_1 = some 18 ∧
                    wc_J2_size ad μ101 q_1 (fun y_30 =>
                      rI v3_101 ∧
                      rI y_30 ∧
                      ((y_30 ≤ v3_101 →
                        ∃ I140 : Nat → Int → Int → Prop, (∀ (n140 : Nat) (v3_140 : Int) (v5_140 : Int), I140 n140 v3_140 v5_140 →
                          ∃ x_34 : Option Nat, gQ μ101 b 16 2 = some x_34 ∧
                          ∃ a_36 : Nat, x_34 = some a_36 ∧
                          ∃ x_35 : Option Nat, gQ μ101 a_36 1 2 = some x_35 ∧
                          ∃ a_38 : Nat, x_35 = some a_38 ∧
                          ∃ x_37 : Option Nat, gQ μ101 a_38 2 3 = some x_37 ∧
                          ∃ a_39 : Nat, x_37 = some a_39 ∧
                          gC μ101 a_39 = some 3 ∧
                          wc_X3_size ad μ101 a_39 (fun y_40 =>
                            rI v5_140 ∧
                            rI y_40 ∧
                            ((y_40 ≤ v5_140 →
                              gC μ101 b = some 16 ∧
                              wc_X19_meets ad μ101 b v3_140 (fun μ_44 =>
                                ∃ m : Nat, m < n74 ∧ I74 m (v2_74 + 1) μ_44)) ∧
                            (v5_140 < y_40 →
                              gC μ101 b = some 16 ∧
                              wc_X19_isIn ad μ101 b v5_140 (fun y_45 =>
                                ∃ J189 : Int → Prop, (∀ (v3_189 : Int), J189 v3_189 →
                                  ∃ m : Nat, m < n140 ∧ I140 m v3_189 (v5_140 + 1)) ∧
                                ((y_45 = 0 →
                                  J189 v3_140) ∧
                                (¬ y_45 = 0 →
                                  gC μ101 b = some 16 ∧
                                  wc_X15_worth_16 ad μ101 b v5_140 (fun y_47 =>
                                    rI y_47 ∧
                                    ∃ x_50 : Option Nat, gQ μ101 b 16 2 = some x_50 ∧
                                    ∃ a_52 : Nat, x_50 = some a_52 ∧
                                    ∃ x_51 : Option Nat, gQ μ101 a_52 1 2 = some x_51 ∧
                                    ∃ a_54 : Nat, x_51 = some a_54 ∧
                                    ∃ x_53 : Int, gI μ101 a_54 2 0 = some x_53 ∧
                                    rI x_53 ∧
                                    (rL (v3_140 * y_47) ∧ (0 : Int) < x_53 ∧ (x_53 : Int) < 2147483648) ∧
                                    ∀ x_57 : Int, x_57 = (v3_140 * y_47).tmod x_53 →
                                    J189 x_57)))))))) ∧
                        ∃ m : Nat, I140 m 1 0) ∧
                      (v3_101 < y_30 →
                        wc_X1_has ad μ101 v2_74 v3_101 (fun y_58 =>
                          ∃ J129 : HM → Prop, (∀ (μ129 : HM), J129 μ129 →
                            ∃ m : Nat, m < n101 ∧ I101 m (v3_101 + 1) μ129) ∧
                          ((y_58 = 0 →
                            J129 μ101) ∧
                          (¬ y_58 = 0 →
                            gC μ101 q_1 = some 18 ∧
                            wc_J2_get ad μ101 q_1 v3_101 (fun y_60 =>
                              (∀ z : Nat, y_60 = some z → ∃ ci, gC μ101 z = some ci ∧ (ci = 10)) ∧
                              gC μ101 b = some 16 ∧
                              wc_X15_sets_16 ad μ101 b y_60 (fun μ_62 =>
                                J129 μ_62))))))))) ∧
                  ∃ m : Nat, I101 m 0 (hs μ74 a_25 (hA 0 n_27 (cpyI f_28 g_29 (0 : Int) (0 : Int) (6 : Int)))))))) ∧
            ∃ m : Nat, I74 m 0 μ22) ∧
          (¬ y_17 = 0 →
            gC μ22 a_16 = some 23 ∧
            wc_J25_next ad μ22 a_16 (fun y_63 μ_65 =>
              (∀ z : Nat, y_63 = some z → ∃ ci, gC μ_65 z = some ci ∧ (ci = 10)) ∧
              ∃ a_66 : Nat, y_63 = some a_66 ∧
              gC μ_65 a_66 = some 10 ∧
              wc_X13_node ad μ_65 a_66 (fun y_67 =>
                gC μ_65 b = some 16 ∧
                wc_X19_isIn ad μ_65 b y_67 (fun y_69 =>
                  ∃ J69 : HM → Nat → Nat → Prop, (∀ (μ69 : HM) (uc69 : Nat) (us69 : Nat), J69 μ69 uc69 us69 →
                    ∃ m : Nat, m < n22 ∧ I22 m μ69 uc69 us69) ∧
                  ((y_69 = 0 →
                    J69 μ_65 uc22 us22) ∧
                  (¬ y_69 = 0 →
                    gC μ_65 a_66 = some 10 ∧
                    wc_X13_other ad μ_65 a_66 (fun y_71 =>
                      gC μ_65 b = some 16 ∧
                      wc_X19_isIn ad μ_65 b y_71 (fun y_73 =>
                        ((y_73 = 0 →
                          J69 μ_65 uc22 us22) ∧
                        (¬ y_73 = 0 →
                          gC μ_65 q_1 = some 18 ∧
                          ∃ c_75 s_76 : Nat, (uc22 + c_75 ≤ mc ∧ us22 + s_76 ≤ ms) ∧
                          wc_J2_add ad c_75 s_76 μ_65 q_1 (some a_66) (fun y_78 μ_80 =>
                            J69 μ_80 (uc22 + c_75) (us22 + s_76))))))))))))))) ∧
      ∃ m : Nat, I22 m μ_15 (0 + 1 + c_10) (0 + 3 + s_11)))
set_option maxHeartbeats 4000000 in
theorem tm_X15_goes_16 {G : g_G} {l : Launch} {mc ms : Nat} {μ : HM} {b : Nat} {P : HM → Prop} (h : wc_X15_goes_16 (g_ad G) mc ms μ b P) : CM G l yX15_goes cX15_goes 6 (Option.none : Option Jvm.ClassFile.FieldType) 7 mc ms [.ref b] μ (hR0 P) := by
  unfold wc_X15_goes_16 at h
  refine wm_of (lvs := [(0, va_rf (some b))]) (by decide) (Nat.le_of_ble_eq_true rfl) rfl (fun fr ws hM1 => ?_)
  show WW G l cX15_goes RX15 6 (Option.none : Option Jvm.ClassFile.FieldType) "goes" 7 mc ms (hMR G (hR0 P)) (fun u => [u.1, fr]) 0 0 [ws, fr] 0 [(0, va_rf (some b))] []
  have hB : 0 ≤ mc ∧ 0 ≤ ms := ⟨Nat.zero_le _, Nat.zero_le _⟩
  obtain ⟨b_2, h⟩ := h
  refine wm_new hM1 in_J2 tyJ2_ok q1711 q185 q113 (ci := 18) rfl dfl_18 b_2.1 b_2.2 dX15_goes_0 (fun q_1 ws hq hM2 => ?_)
  replace h := h q_1 hq
  have hB := b_2
  refine ww_dup dX15_goes_3 (rf_cat _) ?_
  refine wm_callI (n := 0) hM2 (tm_J2_init h) rfl q188 q113 q1712 q187 rfl ⟨by decide, by decide, by decide +kernel⟩ rfl ⟨Nat.le_of_ble_eq_true rfl, Nat.le_of_ble_eq_true rfl⟩ rfl (by simp only [List.map_cons, List.map_nil, rf_cat, vI_cat, vL_cat, List.sum_cons, List.sum_nil]; decide) dX15_goes_4 hB ?_
  clear h
  rintro _ μ_3 ws ⟨rfl, h⟩ hM3
  refine ww_st0 ?_
  refine ww_astoreQ_n (i := 1) (lv2 := [(1, va_rf (some q_1)), (0, va_rf (some b))]) dX15_goes_7 rfl (Nat.le_of_ble_eq_true rfl) rfl ?_
  refine ww_aloadQ_n dX15_goes_8 1 rfl ?_
  obtain ⟨x_4, hx, h⟩ := h
  refine wm_getQ hM3 rfl in_X19 (ci := 16) rfl (by decide) 2 (Nat.le_of_ble_eq_true rfl) hx (fun _ _ => rfl) q1683 (fun _ _ h => h) dX15_goes_9 ?_
  obtain ⟨a_6, ea_6, h⟩ := h
  subst ea_6
  obtain ⟨x_5, hx, h⟩ := h
  refine wm_getQN hM3 rfl in_X1 (ci := 1) rfl (by decide) 3 (Nat.le_of_ble_eq_true rfl) hx (fun _ _ => rfl) q321 (fun _ _ h => h) dX15_goes_12 ?_
  obtain ⟨a_8, ea_8, h⟩ := h
  subst ea_8
  obtain ⟨x_7, hx, h⟩ := h
  refine wm_getQN hM3 rfl in_X4 (ci := 4) rfl (by decide) 1 (Nat.le_of_ble_eq_true rfl) hx (fun _ _ => rfl) q299 (fun _ _ h => h) dX15_goes_15 ?_
  obtain ⟨a_9, ea_9, h⟩ := h
  subst ea_9
  obtain ⟨hg, h⟩ := h
  obtain ⟨c_10, s_11, b_12, h⟩ := h
  refine wm_callV (n := 0) hM3 (tm_J2_iterator h) rfl hg rfl (lw_V q1713 q1714 q1715 q113 q1716) ⟨by decide, by decide, by decide +kernel⟩ rfl ⟨Nat.le_of_ble_eq_true rfl, Nat.le_of_ble_eq_true rfl⟩ rfl (Nat.le_of_ble_eq_true rfl) dX15_goes_18 b_12 ?_
  clear h
  rintro _ μ_15 ws ⟨y_13, rfl, h⟩ hM4
  have hB := b_12
  refine ww_st1 ?_
  refine ww_astoreQ_n (i := 2) (lv2 := [(2, va_rf y_13), (1, va_rf (some q_1)), (0, va_rf (some b))]) dX15_goes_21 rfl (Nat.le_of_ble_eq_true rfl) rfl ?_
  obtain ⟨I22, hI22, h⟩ := h
  have kI22 : ∀ (n22 : Nat), ∀ (μ22 : HM), ∀ (uc22 : Nat), ∀ (us22 : Nat), I22 n22 μ22 uc22 us22 → ∀ ws : va_W, Mrep G ws μ22 → (uc22 ≤ mc ∧ us22 ≤ ms) → WW G l cX15_goes RX15 6 (Option.none : Option Jvm.ClassFile.FieldType) "goes" 7 mc ms (hMR G (hR0 P)) (fun u => [u.1, fr]) uc22 us22 [ws, fr] 22 [(0, va_rf (some b)), (1, va_rf (some q_1)), (2, va_rf y_13)] [] := by
    clear h
    intro n22
    induction n22 using Nat.strongRecOn with
    | ind n22 ih22 =>
      intro μ22 uc22 us22 hj ws hM5 hB
      have h := hI22 n22 μ22 uc22 us22 hj
      refine ww_aloadQ_n dX15_goes_22 2 rfl ?_
      obtain ⟨a_16, ea_16, h⟩ := h
      subst ea_16
      obtain ⟨hg, h⟩ := h
      refine wm_callF (n := 0) hM5 (tm_J25_hasNext h) rfl hg rfl (lw_F q1737 q1741 q1743 q152 q1745) (by decide) ⟨by decide, by decide, by decide +kernel⟩ rfl ⟨Nat.le_of_ble_eq_true rfl, Nat.le_of_ble_eq_true rfl⟩ rfl (Nat.le_of_ble_eq_true rfl) dX15_goes_23 hB ?_
      clear h
      rintro _ _ ws ⟨rfl, y_17, rfl, z_18, h⟩ hM6
      refine ww_st1 ?_
      refine ww_if_eq (tgt := 72) dX15_goes_28 (by decide) (r_z z_18) (fun c => ?_) (fun c => ?_)
      · replace h := h.1 c
        refine ww_iconst dX15_goes_72 ?_
        refine ww_istore_n (i := 2) (lv2 := [(2, vI 0), (0, va_rf (some b)), (1, va_rf (some q_1))]) dX15_goes_73 rfl (Nat.le_of_ble_eq_true rfl) rfl ?_
        obtain ⟨I74, hI74, h⟩ := h
        have kI74 : ∀ (n74 : Nat), ∀ (v2_74 : Int), ∀ (μ74 : HM), I74 n74 v2_74 μ74 → ∀ ws : va_W, Mrep G ws μ74 → (uc22 ≤ mc ∧ us22 ≤ ms) → WW G l cX15_goes RX15 6 (Option.none : Option Jvm.ClassFile.FieldType) "goes" 7 mc ms (hMR G (hR0 P)) (fun u => [u.1, fr]) uc22 us22 [ws, fr] 74 [(0, va_rf (some b)), (1, va_rf (some q_1)), (2, vI v2_74)] [] := by
          clear h
          intro n74
          induction n74 using Nat.strongRecOn with
          | ind n74 ih74 =>
            intro v2_74 μ74 hj ws hM7 hB
            have h := hI74 n74 v2_74 μ74 hj
            refine ww_iload_n dX15_goes_74 2 rfl ?_
            refine ww_iconst dX15_goes_75 ?_
            refine ww_aloadQ_n dX15_goes_76 1 rfl ?_
            obtain ⟨hg, h⟩ := h
            refine wm_callV (n := 0) hM7 (tm_J2_size h) rfl hg rfl (lw_V q1789 q856 q857 q113 q858) ⟨by decide, by decide, by decide +kernel⟩ rfl ⟨Nat.le_of_ble_eq_true rfl, Nat.le_of_ble_eq_true rfl⟩ rfl (Nat.le_of_ble_eq_true rfl) dX15_goes_77 hB ?_
            clear h
            rintro _ _ ws ⟨rfl, y_19, rfl, h⟩ hM8
            refine ww_st1 ?_
            refine ww_ishl dX15_goes_80 ?_
            obtain ⟨r_21, h⟩ := h
            refine ww_icmp_ge (tgt := 206) dX15_goes_81 (by decide) r_21 (rI_bL _ _) (fun c => ?_) (fun c => ?_)
            · replace h := h.1 c
              exact ww_vret (ws, μ74) rfl ⟨hM8, ⟨rfl, h⟩⟩ rfl hB.1 hB.2 dX15_goes_206
            · replace h := h.2 (Int.not_le.mp c)
              refine ww_aloadQ_n dX15_goes_84 0 rfl ?_
              obtain ⟨x_22, hx, h⟩ := h
              refine wm_getQ hM8 rfl in_X19 (ci := 16) rfl (by decide) 1 (Nat.le_of_ble_eq_true rfl) hx (fun _ _ => rfl) q1682 (fun _ _ h => h) dX15_goes_85 ?_
              refine ww_iconst dX15_goes_88 ?_
              refine ww_aloadQ_n dX15_goes_89 0 rfl ?_
              obtain ⟨x_23, hx, h⟩ := h
              refine wm_getQ hM8 rfl in_X19 (ci := 16) rfl (by decide) 0 (Nat.le_of_ble_eq_true rfl) hx (fun _ _ => rfl) q1679 (fun _ _ h => h) dX15_goes_90 ?_
              refine ww_iconst dX15_goes_93 ?_
              refine ww_bipush (v := 6) dX15_goes_94 rfl ?_
              obtain ⟨a_24, ea_24, h⟩ := h
              subst ea_24
              obtain ⟨a_25, ea_25, h⟩ := h
              subst ea_25
              obtain ⟨n_26, n_27, f_28, g_29, hc, hc1, hi, h⟩ := h
              refine wm_copyI 0 (ty := .int) hM8 rfl rfl hc hc1 (by decide) rfl rfl hi.1 hi.2.1 hi.2.2.1 hi.2.2.2.1 hi.2.2.2.2.1 hi.2.2.2.2.2.1 hi.2.2.2.2.2.2 (fun _ _ _ => rfl) q1790 q488 q487 q126 (Nat.le_of_ble_eq_true rfl) (Nat.le_of_ble_eq_true rfl) dX15_goes_96 (fun ws hM9 => ?_)
              refine ww_iconst dX15_goes_99 ?_
              refine ww_istore_n (i := 3) (lv2 := [(3, vI 0), (0, va_rf (some b)), (1, va_rf (some q_1)), (2, vI v2_74)]) dX15_goes_100 rfl (Nat.le_of_ble_eq_true rfl) rfl ?_
              obtain ⟨I101, hI101, h⟩ := h
              have kI101 : ∀ (n101 : Nat), ∀ (v3_101 : Int), ∀ (μ101 : HM), I101 n101 v3_101 μ101 → ∀ ws : va_W, Mrep G ws μ101 → (uc22 ≤ mc ∧ us22 ≤ ms) → WW G l cX15_goes RX15 6 (Option.none : Option Jvm.ClassFile.FieldType) "goes" 7 mc ms (hMR G (hR0 P)) (fun u => [u.1, fr]) uc22 us22 [ws, fr] 101 [(0, va_rf (some b)), (1, va_rf (some q_1)), (2, vI v2_74), (3, vI v3_101)] [] := by
                clear h
                intro n101
                induction n101 using Nat.strongRecOn with
                | ind n101 ih101 =>
                  intro v3_101 μ101 hj ws hM10 hB
                  have h := hI101 n101 v3_101 μ101 hj
                  refine ww_iload_n dX15_goes_101 3 rfl ?_
                  refine ww_aloadQ_n dX15_goes_102 1 rfl ?_
                  obtain ⟨hg, h⟩ := h
                  refine wm_callV (n := 0) hM10 (tm_J2_size h) rfl hg rfl (lw_V q1789 q856 q857 q113 q858) ⟨by decide, by decide, by decide +kernel⟩ rfl ⟨Nat.le_of_ble_eq_true rfl, Nat.le_of_ble_eq_true rfl⟩ rfl (Nat.le_of_ble_eq_true rfl) dX15_goes_103 hB ?_
                  clear h
                  rintro _ _ ws ⟨rfl, y_30, rfl, h⟩ hM11
                  refine ww_st1 ?_
                  obtain ⟨r_32, r_33, h⟩ := h
                  refine ww_icmp_ge (tgt := 135) dX15_goes_106 (by decide) r_32 r_33 (fun c => ?_) (fun c => ?_)
                  · replace h := h.1 c
                    refine ww_lconst (v := 1) dX15_goes_135 rfl ?_
                    refine ww_lstore_n (i := 3) (lv2 := [(3, vL 1), (0, va_rf (some b)), (1, va_rf (some q_1)), (2, vI v2_74)]) dX15_goes_136 rfl (Nat.le_of_ble_eq_true rfl) rfl ?_
                    refine ww_iconst dX15_goes_137 ?_
                    refine ww_istore (i := 5) (lv2 := [(5, vI 0), (3, vL 1), (0, va_rf (some b)), (1, va_rf (some q_1)), (2, vI v2_74)]) dX15_goes_138 (Nat.le_of_ble_eq_true rfl) rfl ?_
                    obtain ⟨I140, hI140, h⟩ := h
                    have kI140 : ∀ (n140 : Nat), ∀ (v3_140 : Int), ∀ (v5_140 : Int), I140 n140 v3_140 v5_140 → ∀ ws : va_W, Mrep G ws μ101 → (uc22 ≤ mc ∧ us22 ≤ ms) → WW G l cX15_goes RX15 6 (Option.none : Option Jvm.ClassFile.FieldType) "goes" 7 mc ms (hMR G (hR0 P)) (fun u => [u.1, fr]) uc22 us22 [ws, fr] 140 [(0, va_rf (some b)), (1, va_rf (some q_1)), (2, vI v2_74), (3, vL v3_140), (5, vI v5_140)] [] := by
                      clear h
                      intro n140
                      induction n140 using Nat.strongRecOn with
                      | ind n140 ih140 =>
                        intro v3_140 v5_140 hj ws hM12 hB
                        have h := hI140 n140 v3_140 v5_140 hj
                        refine ww_iload dX15_goes_140 4 rfl ?_
                        refine ww_aloadQ_n dX15_goes_142 0 rfl ?_
                        obtain ⟨x_34, hx, h⟩ := h
                        refine wm_getQ hM12 rfl in_X19 (ci := 16) rfl (by decide) 2 (Nat.le_of_ble_eq_true rfl) hx (fun _ _ => rfl) q1683 (fun _ _ h => h) dX15_goes_143 ?_
                        obtain ⟨a_36, ea_36, h⟩ := h
                        subst ea_36
                        obtain ⟨x_35, hx, h⟩ := h
                        refine wm_getQN hM12 rfl in_X1 (ci := 1) rfl (by decide) 2 (Nat.le_of_ble_eq_true rfl) hx (fun _ _ => rfl) q317 (fun _ _ h => h) dX15_goes_146 ?_
                        obtain ⟨a_38, ea_38, h⟩ := h
                        subst ea_38
                        obtain ⟨x_37, hx, h⟩ := h
                        refine wm_getQN hM12 rfl in_X2 (ci := 2) rfl (by decide) 3 (Nat.le_of_ble_eq_true rfl) hx (fun _ _ => rfl) q267 (fun _ _ h => h) dX15_goes_149 ?_
                        obtain ⟨a_39, ea_39, h⟩ := h
                        subst ea_39
                        obtain ⟨hg, h⟩ := h
                        refine wm_callV (n := 0) hM12 (tm_X3_size h) rfl hg rfl (lw_V q1699 q1140 q1141 q110 q1142) ⟨by decide, by decide, by decide +kernel⟩ rfl ⟨Nat.le_of_ble_eq_true rfl, Nat.le_of_ble_eq_true rfl⟩ rfl (Nat.le_of_ble_eq_true rfl) dX15_goes_152 hB ?_
                        clear h
                        rintro _ _ ws ⟨rfl, y_40, rfl, h⟩ hM13
                        refine ww_st1 ?_
                        obtain ⟨r_42, r_43, h⟩ := h
                        refine ww_icmp_ge (tgt := 195) dX15_goes_155 (by decide) r_42 r_43 (fun c => ?_) (fun c => ?_)
                        · replace h := h.1 c
                          refine ww_aloadQ_n dX15_goes_195 0 rfl ?_
                          refine ww_lload_n dX15_goes_196 3 rfl ?_
                          obtain ⟨hg, h⟩ := h
                          refine wm_callA (n := 1) (owner := "HoloNet$Walk") hM13 (tm_X19_meets h) rfl hg rfl (lw_U q1812 q1814 q1824 q1825 q155 q1826) q1813 ⟨by decide, by decide, by decide +kernel⟩ rfl ⟨Nat.le_of_ble_eq_true rfl, Nat.le_of_ble_eq_true rfl⟩ rfl (Nat.le_of_ble_eq_true rfl) dX15_goes_197 hB ?_
                          clear h
                          rintro _ μ_44 ws ⟨rfl, h⟩ hM14
                          refine ww_st0 ?_
                          refine ww_iinc (lv2 := [(2, vI (v2_74 + 1)), (0, va_rf (some b)), (1, va_rf (some q_1)), (3, vL v3_140), (5, vI v5_140)]) dX15_goes_200 2 rfl (Nat.le_of_ble_eq_true rfl) rfl ?_
                          refine ww_goto (tgt := 74) dX15_goes_203 (by decide) ?_
                          refine ww_lv [1, 2, 0] rfl ?_
                          obtain ⟨m, hm, h⟩ := h
                          exact ih74 m hm _ _ h _ hM14 hB
                        · replace h := h.2 (Int.not_le.mp c)
                          refine ww_aloadQ_n dX15_goes_158 0 rfl ?_
                          refine ww_iload dX15_goes_159 4 rfl ?_
                          obtain ⟨hg, h⟩ := h
                          refine wm_callO (n := 1) (owner := "HoloNet$Walk") hM13 (tm_X19_isIn h) rfl hg rfl (lw_O q1776 q1778 q1777 q1782 q1783 q155 q1784) q1786 ⟨by decide, by decide, by decide +kernel⟩ rfl ⟨Nat.le_of_ble_eq_true rfl, Nat.le_of_ble_eq_true rfl⟩ rfl (Nat.le_of_ble_eq_true rfl) dX15_goes_161 hB ?_
                          clear h
                          rintro _ _ ws ⟨rfl, y_45, rfl, z_46, h⟩ hM15
                          refine ww_st1 ?_
                          obtain ⟨J189, hJ189, h⟩ := h
                          have kJ189 : ∀ (v3_189 : Int), J189 v3_189 → ∀ ws : va_W, Mrep G ws μ101 → (uc22 ≤ mc ∧ us22 ≤ ms) → WW G l cX15_goes RX15 6 (Option.none : Option Jvm.ClassFile.FieldType) "goes" 7 mc ms (hMR G (hR0 P)) (fun u => [u.1, fr]) uc22 us22 [ws, fr] 189 [(0, va_rf (some b)), (1, va_rf (some q_1)), (2, vI v2_74), (3, vL v3_189), (5, vI v5_140)] [] := by
                            clear h
                            intro v3_189 hj ws hM16 hB
                            have h := hJ189 v3_189 hj
                            refine ww_iinc (lv2 := [(5, vI (v5_140 + 1)), (0, va_rf (some b)), (1, va_rf (some q_1)), (2, vI v2_74), (3, vL v3_189)]) dX15_goes_189 4 rfl (Nat.le_of_ble_eq_true rfl) rfl ?_
                            refine ww_goto (tgt := 140) dX15_goes_192 (by decide) ?_
                            refine ww_lv [1, 2, 3, 4, 0] rfl ?_
                            obtain ⟨m, hm, h⟩ := h
                            exact ih140 m hm _ _ h _ hM16 hB
                          refine ww_if_eq (tgt := 189) dX15_goes_164 (by decide) (r_z z_46) (fun c => ?_) (fun c => ?_)
                          · replace h := h.1 c
                            exact kJ189 _ h _ hM15 hB
                          · replace h := h.2 c
                            refine ww_lload_n dX15_goes_167 3 rfl ?_
                            refine ww_aloadQ_n dX15_goes_168 0 rfl ?_
                            refine ww_iload dX15_goes_169 4 rfl ?_
                            obtain ⟨hg, h⟩ := h
                            refine wm_callU (n := 1) hM15 (tm_X15_worth_16 h) rfl hg rfl (lw_U q1799 q1801 q1810 q1800 q150 q1811) rfl ⟨by decide, by decide, by decide +kernel⟩ rfl ⟨Nat.le_of_ble_eq_true rfl, Nat.le_of_ble_eq_true rfl⟩ rfl (Nat.le_of_ble_eq_true rfl) dX15_goes_171 hB ?_
                            clear h
                            rintro _ _ ws ⟨rfl, y_47, rfl, h⟩ hM17
                            refine ww_st1 ?_
                            obtain ⟨r_49, h⟩ := h
                            refine ww_i2l dX15_goes_174 r_49 ?_
                            refine ww_lmul dX15_goes_175 ?_
                            refine ww_aloadQ_n dX15_goes_176 0 rfl ?_
                            obtain ⟨x_50, hx, h⟩ := h
                            refine wm_getQ hM17 rfl in_X19 (ci := 16) rfl (by decide) 2 (Nat.le_of_ble_eq_true rfl) hx (fun _ _ => rfl) q1683 (fun _ _ h => h) dX15_goes_177 ?_
                            obtain ⟨a_52, ea_52, h⟩ := h
                            subst ea_52
                            obtain ⟨x_51, hx, h⟩ := h
                            refine wm_getQN hM17 rfl in_X1 (ci := 1) rfl (by decide) 2 (Nat.le_of_ble_eq_true rfl) hx (fun _ _ => rfl) q317 (fun _ _ h => h) dX15_goes_180 ?_
                            obtain ⟨a_54, ea_54, h⟩ := h
                            subst ea_54
                            obtain ⟨x_53, hx, h⟩ := h
                            refine wm_getIN hM17 rfl in_X2 (ci := 2) rfl (by decide) 0 (Nat.le_of_ble_eq_true rfl) hx (fun _ _ => rfl) q257 (fun _ _ h => h) dX15_goes_183 ?_
                            obtain ⟨r_55, h⟩ := h
                            refine ww_i2l dX15_goes_186 r_55 ?_
                            obtain ⟨r_56, h⟩ := h
                            refine ww_lrem dX15_goes_187 r_56 ?_
                            refine ww_nmL (fun x_57 ex_57 => ?_)
                            replace h := h x_57 ex_57
                            refine ww_lstore_n (i := 3) (lv2 := [(3, vL x_57), (0, va_rf (some b)), (1, va_rf (some q_1)), (2, vI v2_74), (5, vI v5_140)]) dX15_goes_188 rfl (Nat.le_of_ble_eq_true rfl) rfl ?_
                            refine ww_lv [1, 2, 3, 0, 4] rfl ?_
                            exact kJ189 _ h _ hM17 hB
                    refine ww_lv [2, 3, 4, 1, 0] rfl ?_
                    obtain ⟨m, h⟩ := h
                    exact kI140 m _ _ h _ hM11 hB
                  · replace h := h.2 (Int.not_le.mp c)
                    refine ww_iload_n dX15_goes_109 2 rfl ?_
                    refine ww_iload_n dX15_goes_110 3 rfl ?_
                    refine wm_callSN (n := 2) hM11 (tm_X1_has h) q1791 q1347 q108 q1346 ⟨by decide, by decide, by decide +kernel⟩ rfl ⟨Nat.le_of_ble_eq_true rfl, Nat.le_of_ble_eq_true rfl⟩ rfl (Nat.le_of_ble_eq_true rfl) dX15_goes_111 hB ?_
                    clear h
                    rintro _ _ ws ⟨rfl, y_58, rfl, z_59, h⟩ hM18
                    refine ww_st1 ?_
                    obtain ⟨J129, hJ129, h⟩ := h
                    have kJ129 : ∀ (μ129 : HM), J129 μ129 → ∀ ws : va_W, Mrep G ws μ129 → (uc22 ≤ mc ∧ us22 ≤ ms) → WW G l cX15_goes RX15 6 (Option.none : Option Jvm.ClassFile.FieldType) "goes" 7 mc ms (hMR G (hR0 P)) (fun u => [u.1, fr]) uc22 us22 [ws, fr] 129 [(0, va_rf (some b)), (1, va_rf (some q_1)), (2, vI v2_74), (3, vI v3_101)] [] := by
                      clear h
                      intro μ129 hj ws hM19 hB
                      have h := hJ129 μ129 hj
                      refine ww_iinc (lv2 := [(3, vI (v3_101 + 1)), (0, va_rf (some b)), (1, va_rf (some q_1)), (2, vI v2_74)]) dX15_goes_129 3 rfl (Nat.le_of_ble_eq_true rfl) rfl ?_
                      refine ww_goto (tgt := 101) dX15_goes_132 (by decide) ?_
                      refine ww_lv [1, 2, 3, 0] rfl ?_
                      obtain ⟨m, hm, h⟩ := h
                      exact ih101 m hm _ _ h _ hM19 hB
                    refine ww_if_eq (tgt := 129) dX15_goes_114 (by decide) (r_z z_59) (fun c => ?_) (fun c => ?_)
                    · replace h := h.1 c
                      exact kJ129 _ h _ hM18 hB
                    · replace h := h.2 c
                      refine ww_aloadQ_n dX15_goes_117 0 rfl ?_
                      refine ww_aloadQ_n dX15_goes_118 1 rfl ?_
                      refine ww_iload_n dX15_goes_119 3 rfl ?_
                      obtain ⟨hg, h⟩ := h
                      refine wm_callV (n := 1) hM18 (tm_J2_get h) rfl hg rfl (lw_V q1792 q1409 q1410 q113 q1411) ⟨by decide, by decide, by decide +kernel⟩ rfl ⟨Nat.le_of_ble_eq_true rfl, Nat.le_of_ble_eq_true rfl⟩ rfl (by simp only [List.map_cons, List.map_nil, rf_cat, vI_cat, vL_cat, List.sum_cons, List.sum_nil]; decide) dX15_goes_120 hB ?_
                      clear h
                      rintro _ _ ws ⟨rfl, y_60, rfl, h⟩ hM20
                      refine ww_st1 ?_
                      obtain ⟨hc, h⟩ := h
                      refine wm_cast hM20 hc cast_7 q1774 dX15_goes_123 ?_
                      obtain ⟨hg, h⟩ := h
                      refine wm_callP (n := 1) hM20 (tm_X15_sets_16 h) rfl hg rfl (nI := 5) q1873 q1794 q1793 q2664 q1795 q150 q1796 ⟨by decide, by decide, by decide +kernel⟩ rfl ⟨Nat.le_of_ble_eq_true rfl, Nat.le_of_ble_eq_true rfl⟩ rfl (Nat.le_of_ble_eq_true rfl) dX15_goes_126 hB ?_
                      clear h
                      rintro _ μ_62 ws ⟨rfl, h⟩ hM21
                      refine ww_st0 ?_
                      exact kJ129 _ h _ hM21 hB
              refine ww_lv [1, 2, 3, 0] rfl ?_
              obtain ⟨m, h⟩ := h
              exact kI101 m _ _ h _ hM9 hB
        refine ww_lv [1, 2, 0] rfl ?_
        obtain ⟨m, h⟩ := h
        exact kI74 m _ _ h _ hM6 hB
      · replace h := h.2 c
        refine ww_aloadQ_n dX15_goes_31 2 rfl ?_
        obtain ⟨hg, h⟩ := h
        refine wm_callF (n := 0) hM6 (tm_J25_next h) rfl hg rfl (lw_F q1747 q1750 q1752 q152 q1754) (by decide) ⟨by decide, by decide, by decide +kernel⟩ rfl ⟨Nat.le_of_ble_eq_true rfl, Nat.le_of_ble_eq_true rfl⟩ rfl (Nat.le_of_ble_eq_true rfl) dX15_goes_32 hB ?_
        clear h
        rintro _ μ_65 ws ⟨y_63, rfl, h⟩ hM22
        refine ww_st1 ?_
        obtain ⟨hc, h⟩ := h
        refine wm_cast hM22 hc cast_7 q1774 dX15_goes_37 ?_
        refine ww_astoreQ_n (i := 3) (lv2 := [(3, va_rf y_63), (0, va_rf (some b)), (1, va_rf (some q_1)), (2, va_rf (some a_16))]) dX15_goes_40 rfl (Nat.le_of_ble_eq_true rfl) rfl ?_
        refine ww_aloadQ_n dX15_goes_41 1 rfl ?_
        refine ww_aloadQ_n dX15_goes_42 0 rfl ?_
        obtain ⟨a_66, ea_66, h⟩ := h
        subst ea_66
        obtain ⟨hg, h⟩ := h
        refine wm_callV (n := 0) hM22 (tm_X13_node h) rfl hg rfl (lw_V q1775 q1480 q1481 q147 q1482) ⟨by decide, by decide, by decide +kernel⟩ rfl ⟨Nat.le_of_ble_eq_true rfl, Nat.le_of_ble_eq_true rfl⟩ rfl (by simp only [List.map_cons, List.map_nil, rf_cat, vI_cat, vL_cat, List.sum_cons, List.sum_nil]; decide) dX15_goes_43 hB ?_
        clear h
        rintro _ _ ws ⟨rfl, y_67, rfl, h⟩ hM23
        refine ww_st1 ?_
        obtain ⟨hg, h⟩ := h
        refine wm_callO (n := 1) (owner := "HoloNet$Walk") hM23 (tm_X19_isIn h) rfl hg rfl (lw_O q1776 q1778 q1777 q1782 q1783 q155 q1784) q1786 ⟨by decide, by decide, by decide +kernel⟩ rfl ⟨Nat.le_of_ble_eq_true rfl, Nat.le_of_ble_eq_true rfl⟩ rfl (Nat.le_of_ble_eq_true rfl) dX15_goes_46 hB ?_
        clear h
        rintro _ _ ws ⟨rfl, y_69, rfl, z_70, h⟩ hM24
        refine ww_st1 ?_
        obtain ⟨J69, hJ69, h⟩ := h
        have kJ69 : ∀ (μ69 : HM), ∀ (uc69 : Nat), ∀ (us69 : Nat), J69 μ69 uc69 us69 → ∀ ws : va_W, Mrep G ws μ69 → (uc69 ≤ mc ∧ us69 ≤ ms) → WW G l cX15_goes RX15 6 (Option.none : Option Jvm.ClassFile.FieldType) "goes" 7 mc ms (hMR G (hR0 P)) (fun u => [u.1, fr]) uc69 us69 [ws, fr] 69 [(0, va_rf (some b)), (1, va_rf (some q_1)), (2, va_rf (some a_16))] [] := by
          clear h
          intro μ69 uc69 us69 hj ws hM25 hB
          have h := hJ69 μ69 uc69 us69 hj
          refine ww_goto (tgt := 22) dX15_goes_69 (by decide) ?_
          obtain ⟨m, hm, h⟩ := h
          exact ih22 m hm _ _ _ h _ hM25 hB
        refine ww_if_eq (tgt := 69) dX15_goes_49 (by decide) (r_z z_70) (fun c => ?_) (fun c => ?_)
        · replace h := h.1 c
          refine ww_lv [1, 2, 3] rfl ?_
          exact kJ69 _ _ _ h _ hM24 hB
        · replace h := h.2 c
          refine ww_aloadQ_n dX15_goes_52 1 rfl ?_
          refine ww_aloadQ_n dX15_goes_53 0 rfl ?_
          obtain ⟨hg, h⟩ := h
          refine wm_callV (n := 0) hM24 (tm_X13_other h) rfl hg rfl (lw_V q1787 q1488 q1489 q147 q1490) ⟨by decide, by decide, by decide +kernel⟩ rfl ⟨Nat.le_of_ble_eq_true rfl, Nat.le_of_ble_eq_true rfl⟩ rfl (by simp only [List.map_cons, List.map_nil, rf_cat, vI_cat, vL_cat, List.sum_cons, List.sum_nil]; decide) dX15_goes_54 hB ?_
          clear h
          rintro _ _ ws ⟨rfl, y_71, rfl, h⟩ hM26
          refine ww_st1 ?_
          obtain ⟨hg, h⟩ := h
          refine wm_callO (n := 1) (owner := "HoloNet$Walk") hM26 (tm_X19_isIn h) rfl hg rfl (lw_O q1776 q1778 q1777 q1782 q1783 q155 q1784) q1786 ⟨by decide, by decide, by decide +kernel⟩ rfl ⟨Nat.le_of_ble_eq_true rfl, Nat.le_of_ble_eq_true rfl⟩ rfl (Nat.le_of_ble_eq_true rfl) dX15_goes_57 hB ?_
          clear h
          rintro _ _ ws ⟨rfl, y_73, rfl, z_74, h⟩ hM27
          refine ww_st1 ?_
          refine ww_if_eq (tgt := 69) dX15_goes_60 (by decide) (r_z z_74) (fun c => ?_) (fun c => ?_)
          · replace h := h.1 c
            refine ww_lv [1, 2, 3] rfl ?_
            exact kJ69 _ _ _ h _ hM27 hB
          · replace h := h.2 c
            refine ww_aloadQ_n dX15_goes_63 2 rfl ?_
            refine ww_aloadQ_n dX15_goes_64 0 rfl ?_
            obtain ⟨hg, h⟩ := h
            obtain ⟨c_75, s_76, b_77, h⟩ := h
            refine wm_callV (n := 1) hM27 (tm_J2_add h) rfl hg rfl (lw_V q1788 q1176 q1177 q113 q1178) ⟨by decide, by decide, by decide +kernel⟩ rfl ⟨Nat.le_of_ble_eq_true rfl, Nat.le_of_ble_eq_true rfl⟩ rfl (Nat.le_of_ble_eq_true rfl) dX15_goes_65 b_77 ?_
            clear h
            rintro _ μ_80 ws ⟨y_78, rfl, z_79, h⟩ hM28
            have hB := b_77
            refine ww_st1 ?_
            refine ww_pop dX15_goes_68 rfl ?_
            refine ww_lv [1, 2, 3] rfl ?_
            exact kJ69 _ _ _ h _ hM28 hB
  refine ww_lv [2, 1, 0] rfl ?_
  obtain ⟨m, h⟩ := h
  exact kI22 m _ _ _ h _ hM4 hB
/-! X15_init_16: HoloNet$Walk <init> (LHoloNet;)V; flags (True, True, False), depth 1 -/
def wc_X15_init_16 (ad : Nat → Nat) (mc ms : Nat) (μ : HM) (b : Nat) (o1 : Option Nat) (P : HM → Prop) : Prop :=
  ∃ (fi_1 : Nat → Int) (fq_2 : Nat → Option Nat), μ b = some (hO 16 fi_1 fq_2) ∧ 
  (0 ≤ (6 : Int) ∧ (6 : Int) < 50000000 ∧ 0 + 1 ≤ mc ∧ 0 + (6 : Int).toNat ≤ ms) ∧ ∀ q_3 : Nat, (hs μ b (hO 16 fi_1 (upF fq_2 2 o1))) q_3 = none →
  ∃ (fi_5 : Nat → Int) (fq_6 : Nat → Option Nat), (hs (hs μ b (hO 16 fi_1 (upF fq_2 2 o1))) q_3 (hA 0 (6 : Int).toNat (fun _ => 0))) b = some (hO 16 fi_5 fq_6) ∧ 
  (0 ≤ (6 : Int) ∧ (6 : Int) < 50000000 ∧ 0 + 1 + 1 ≤ mc ∧ 0 + (6 : Int).toNat + (6 : Int).toNat ≤ ms) ∧ ∀ q_7 : Nat, (hs (hs (hs μ b (hO 16 fi_1 (upF fq_2 2 o1))) q_3 (hA 0 (6 : Int).toNat (fun _ => 0))) b (hO 16 fi_5 (upF fq_6 0 (some q_3)))) q_7 = none →
  ∃ (fi_9 : Nat → Int) (fq_10 : Nat → Option Nat), (hs (hs (hs (hs μ b (hO 16 fi_1 (upF fq_2 2 o1))) q_3 (hA 0 (6 : Int).toNat (fun _ => 0))) b (hO 16 fi_5 (upF fq_6 0 (some q_3)))) q_7 (hA 0 (6 : Int).toNat (fun _ => 0))) b = some (hO 16 fi_9 fq_10) ∧ 
  P (hs (hs (hs (hs (hs μ b (hO 16 fi_1 (upF fq_2 2 o1))) q_3 (hA 0 (6 : Int).toNat (fun _ => 0))) b (hO 16 fi_5 (upF fq_6 0 (some q_3)))) q_7 (hA 0 (6 : Int).toNat (fun _ => 0))) b (hO 16 fi_9 (upF fq_10 1 (some q_7))))
set_option maxHeartbeats 4000000 in
theorem tm_X15_init_16 {G : g_G} {l : Launch} {mc ms : Nat} {μ : HM} {b : Nat} {o1 : Option Nat} {P : HM → Prop} (h : wc_X15_init_16 (g_ad G) mc ms μ b o1 P) : CM G l yX15_init cX15_init 2 (Option.none : Option Jvm.ClassFile.FieldType) 1 mc ms [.ref b, va_rf o1] μ (hR0 P) := by
  unfold wc_X15_init_16 at h
  refine wm_of (lvs := [(0, va_rf (some b)), (1, va_rf o1)]) (by decide) (by simp [lg_sl, rf_cat, vI_cat, vL_cat, ref_cat]) (by simp [lv_args, rf_cat, vI_cat, vL_cat, ref_cat, rf_some]) (fun fr ws hM1 => ?_)
  show WW G l cX15_init RX15 2 (Option.none : Option Jvm.ClassFile.FieldType) "<init>" 1 mc ms (hMR G (hR0 P)) (fun u => [u.1, fr]) 0 0 [ws, fr] 0 [(0, va_rf (some b)), (1, va_rf o1)] []
  have hB : 0 ≤ mc ∧ 0 ≤ ms := ⟨Nat.zero_le _, Nat.zero_le _⟩
  refine ww_aloadQ_n dX15_init_0 0 rfl ?_
  refine ww_aloadQ_n dX15_init_1 1 rfl ?_
  obtain ⟨fi_1, fq_2, hc, h⟩ := h
  refine wm_putQFD hM1 rfl in_X19 tyX19_ok faX19 ndX19 (ci := 16) rfl 2 (Nat.le_of_ble_eq_true rfl) hc (fun _ _ => rfl) (fun _ _ => Nat.le_of_ble_eq_true rfl) q1683 (fun _ _ h => h) rfl rfl rfl (narrow_rf rfl _) (fits_rf rfl _) dX15_init_2 (fun ws hM2 => ?_)
  refine ww_aloadQ_n dX15_init_5 0 rfl ?_
  refine wm_objInit rfl q1677 q170 q171 (Nat.le_of_ble_eq_true rfl) (Nat.le_of_ble_eq_true rfl) dX15_init_6 ?_
  refine ww_aloadQ_n dX15_init_9 0 rfl ?_
  refine ww_bipush (v := 6) dX15_init_10 rfl ?_
  obtain ⟨b_4, h⟩ := h
  refine wm_new0 hM2 q163 b_4.1 (by omega) b_4.2.2.1 b_4.2.2.2 dX15_init_12 (fun q_3 ws hq hM3 => ?_)
  replace h := h q_3 hq
  have hB := b_4.2.2
  obtain ⟨fi_5, fq_6, hc, h⟩ := h
  refine wm_putQFD hM3 rfl in_X19 tyX19_ok faX19 ndX19 (ci := 16) rfl 0 (Nat.le_of_ble_eq_true rfl) hc (fun _ _ => rfl) (fun _ _ => Nat.le_of_ble_eq_true rfl) q1679 (fun _ _ h => h) rfl rfl rfl (narrow_rf rfl _) (fits_rf rfl _) dX15_init_14 (fun ws hM4 => ?_)
  refine ww_aloadQ_n dX15_init_17 0 rfl ?_
  refine ww_bipush (v := 6) dX15_init_18 rfl ?_
  obtain ⟨b_8, h⟩ := h
  refine wm_new0 hM4 q163 b_8.1 (by omega) b_8.2.2.1 b_8.2.2.2 dX15_init_20 (fun q_7 ws hq hM5 => ?_)
  replace h := h q_7 hq
  have hB := b_8.2.2
  obtain ⟨fi_9, fq_10, hc, h⟩ := h
  refine wm_putQFD hM5 rfl in_X19 tyX19_ok faX19 ndX19 (ci := 16) rfl 1 (Nat.le_of_ble_eq_true rfl) hc (fun _ _ => rfl) (fun _ _ => Nat.le_of_ble_eq_true rfl) q1682 (fun _ _ h => h) rfl rfl rfl (narrow_rf rfl _) (fits_rf rfl _) dX15_init_22 (fun ws hM6 => ?_)
  exact ww_vret (ws, (hs (hs (hs (hs (hs μ b (hO 16 fi_1 (upF fq_2 2 o1))) q_3 (hA 0 (6 : Int).toNat (fun _ => 0))) b (hO 16 fi_5 (upF fq_6 0 (some q_3)))) q_7 (hA 0 (6 : Int).toNat (fun _ => 0))) b (hO 16 fi_9 (upF fq_10 1 (some q_7))))) rfl ⟨hM6, ⟨rfl, h⟩⟩ rfl hB.1 hB.2 dX15_init_25
/-! X19_init: HoloNet$4 <init> (LHoloNet;I)V; flags (True, True, False), depth 2 -/
def wc_X19_init (ad : Nat → Nat) (mc ms : Nat) (μ : HM) (b : Nat) (o1 : Option Nat) (a2 : Int) (P : HM → Prop) : Prop :=
  ∃ (fi_1 : Nat → Int) (fq_2 : Nat → Option Nat), μ b = some (hO 16 fi_1 fq_2) ∧ 
  ∃ (fi_3 : Nat → Int) (fq_4 : Nat → Option Nat), (hs μ b (hO 16 fi_1 (upF fq_2 4 o1))) b = some (hO 16 fi_3 fq_4) ∧ 
  ∃ c_5 s_6 : Nat, (0 + c_5 ≤ mc ∧ 0 + s_6 ≤ ms) ∧
  wc_X15_init_16 ad c_5 s_6 (hs (hs μ b (hO 16 fi_1 (upF fq_2 4 o1))) b (hO 16 (upF fi_3 3 a2) fq_4)) b o1 (fun μ_8 =>
    P μ_8)
set_option maxHeartbeats 4000000 in
theorem tm_X19_init {G : g_G} {l : Launch} {mc ms : Nat} {μ : HM} {b : Nat} {o1 : Option Nat} {a2 : Int} {P : HM → Prop} (h : wc_X19_init (g_ad G) mc ms μ b o1 a2 P) : CM G l yX19_init cX19_init 3 (Option.none : Option Jvm.ClassFile.FieldType) 2 mc ms [.ref b, va_rf o1, vI a2] μ (hR0 P) := by
  unfold wc_X19_init at h
  refine wm_of (lvs := [(0, va_rf (some b)), (1, va_rf o1), (2, vI a2)]) (by decide) (by simp [lg_sl, rf_cat, vI_cat, vL_cat, ref_cat]) (by simp [lv_args, rf_cat, vI_cat, vL_cat, ref_cat, rf_some]) (fun fr ws hM1 => ?_)
  show WW G l cX19_init RX19 3 (Option.none : Option Jvm.ClassFile.FieldType) "<init>" 2 mc ms (hMR G (hR0 P)) (fun u => [u.1, fr]) 0 0 [ws, fr] 0 [(0, va_rf (some b)), (1, va_rf o1), (2, vI a2)] []
  have hB : 0 ≤ mc ∧ 0 ≤ ms := ⟨Nat.zero_le _, Nat.zero_le _⟩
  refine ww_aloadQ_n dX19_init_0 0 rfl ?_
  refine ww_aloadQ_n dX19_init_1 1 rfl ?_
  obtain ⟨fi_1, fq_2, hc, h⟩ := h
  refine wm_putQFD hM1 rfl in_X19 tyX19_ok faX19 ndX19 (ci := 16) rfl 4 (Nat.le_of_ble_eq_true rfl) hc (fun _ _ => rfl) (fun _ _ => Nat.le_of_ble_eq_true rfl) q1879 (fun _ _ h => h) rfl rfl rfl (narrow_rf rfl _) (fits_rf rfl _) dX19_init_2 (fun ws hM2 => ?_)
  refine ww_aloadQ_n dX19_init_5 0 rfl ?_
  refine ww_iload_n dX19_init_6 2 rfl ?_
  obtain ⟨fi_3, fq_4, hc, h⟩ := h
  refine wm_putIFD hM2 rfl in_X19 tyX19_ok faX19 ndX19 (ci := 16) rfl 3 (Nat.le_of_ble_eq_true rfl) hc (fun _ _ => rfl) (fun _ _ => Nat.le_of_ble_eq_true rfl) q1878 (fun _ _ h => h) rfl rfl rfl rfl rfl dX19_init_7 (fun ws hM3 => ?_)
  refine ww_aloadQ_n dX19_init_10 0 rfl ?_
  refine ww_aloadQ_n dX19_init_11 1 rfl ?_
  obtain ⟨c_5, s_6, b_7, h⟩ := h
  refine wm_callIN (n := 1) hM3 (tm_X15_init_16 h) rfl q1877 q1676 q150 q1675 rfl ⟨by decide, by decide, by decide +kernel⟩ rfl ⟨Nat.le_of_ble_eq_true rfl, Nat.le_of_ble_eq_true rfl⟩ rfl (Nat.le_of_ble_eq_true rfl) dX19_init_12 b_7 ?_
  clear h
  rintro _ μ_8 ws ⟨rfl, h⟩ hM4
  have hB := b_7
  refine ww_st0 ?_
  exact ww_vret (ws, μ_8) rfl ⟨hM4, ⟨rfl, h⟩⟩ rfl hB.1 hB.2 dX19_init_15
