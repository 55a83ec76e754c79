/-! THE COMPONENT and what it calls: weakest preconditions and walks (printed by tools/comp.py) -/
set_option maxRecDepth 100000
/-! J2_fastRemove: java/util/ArrayList fastRemove ([Ljava/lang/Object;I)V; flags (True, False, False), depth 1 -/
def wc_J2_fastRemove (ad : Nat → Nat) (μ : HM) (b : Nat) (o1 : Option Nat) (a2 : Int) (P : HM → Prop) : Prop :=
  ∃ x_1 : Int, gI μ b 18 0 = some x_1 ∧
  ∃ (fi_2 : Nat → Int) (fq_3 : Nat → Option Nat), μ b = some (hO 18 fi_2 fq_3) ∧ 
  ∃ x_4 : Int, gI (hs μ b (hO 18 (upF fi_2 0 (x_1 + 1)) fq_3)) b 18 2 = some x_4 ∧
  rI (x_4 - 1) ∧
  rI a2 ∧
  ∃ J34 : HM → Prop, (∀ (μ34 : HM), J34 μ34 →
    ∃ (fi_7 : Nat → Int) (fq_8 : Nat → Option Nat), μ34 b = some (hO 18 fi_7 fq_8) ∧ 
    ∃ a_9 : Nat, o1 = some a_9 ∧
    ∃ (n_10 : Nat) (f_11 : Int → Option Nat), (hs μ34 b (hO 18 (upF fi_7 2 (x_4 - 1)) fq_8)) a_9 = some (hQ 4 n_10 f_11) ∧ ((0 : Int) ≤ x_4 - 1 ∧ x_4 - 1 < (n_10 : Int) ∧ (n_10 : Int) < 2147483648) ∧
    P (hs (hs μ34 b (hO 18 (upF fi_7 2 (x_4 - 1)) fq_8)) a_9 (hQ 4 n_10 (updI f_11 (x_4 - 1) none)))) ∧
  (((x_4 - 1) ≤ a2 →
    J34 (hs μ b (hO 18 (upF fi_2 0 (x_1 + 1)) fq_3))) ∧
  (a2 < (x_4 - 1) →
    ∃ a_12 : Nat, o1 = some a_12 ∧
    ∃ μ_17 : HM, ((∃ (n_13 n_14 : Nat) (f_15 g_16 : Int → Option Nat), (hs μ b (hO 18 (upF fi_2 0 (x_1 + 1)) fq_3)) a_12 = some (hQ 4 n_13 f_15) ∧ (hs μ b (hO 18 (upF fi_2 0 (x_1 + 1)) fq_3)) a_12 = some (hQ 4 n_14 g_16) ∧ ((0 : Int) ≤ (a2 + 1) ∧ (0 : Int) ≤ a2 ∧ (0 : Int) ≤ ((x_4 - 1) - a2) ∧ (a2 + 1) + ((x_4 - 1) - a2) ≤ (n_13 : Int) ∧ a2 + ((x_4 - 1) - a2) ≤ (n_14 : Int) ∧ (n_13 : Int) < 2147483648 ∧ (n_14 : Int) < 2147483648) ∧ (∀ (j : Int) (y : Nat), (a2 + 1) ≤ j → j < (a2 + 1) + ((x_4 - 1) - a2) → f_15 j = some y → hst (hs μ b (hO 18 (upF fi_2 0 (x_1 + 1)) fq_3)) 4 y) ∧ μ_17 = hs (hs μ b (hO 18 (upF fi_2 0 (x_1 + 1)) fq_3)) a_12 (hQ 4 n_14 (cpyI f_15 g_16 (a2 + 1) a2 ((x_4 - 1) - a2)))) ∨ (∃ (n_14 : Nat) (g_16 : Int → Option Nat), a_12 = ad 0 ∧ (hs μ b (hO 18 (upF fi_2 0 (x_1 + 1)) fq_3)) a_12 = some (hQ 4 n_14 g_16) ∧ (a2 + 1) = 0 ∧ 0 ≤ a2 ∧ ((x_4 - 1) - a2) = 0 ∧ a2 ≤ (n_14 : Int) ∧ (n_14 : Int) < 2147483648 ∧ μ_17 = hs (hs μ b (hO 18 (upF fi_2 0 (x_1 + 1)) fq_3)) a_12 (hQ 4 n_14 g_16))) ∧
    J34 μ_17))
set_option maxHeartbeats 4000000 in
theorem tm_J2_fastRemove {G : g_G} {l : Launch} {μ : HM} {b : Nat} {o1 : Option Nat} {a2 : Int} {P : HM → Prop} (h : wc_J2_fastRemove (g_ad G) μ b o1 a2 P) : CM G l yJ2_fastRemove cJ2_fastRemove 4 (Option.none : Option Jvm.ClassFile.FieldType) 1 0 0 [.ref b, va_rf o1, vI a2] μ (hR0 P) := by
  unfold wc_J2_fastRemove at h
  refine wm_of (lvs := [(0, va_rf (some b)), (1, va_rf o1), (2, vI a2)]) (by decide) (by simp [lg_sl, rf_cat, vI_cat, vL_cat, ref_cat]) (by simp [lv_args, rf_cat, vI_cat, vL_cat, ref_cat, rf_some]) (fun fr ws hM1 => ?_)
  show WW G l cJ2_fastRemove RJ2 4 (Option.none : Option Jvm.ClassFile.FieldType) "fastRemove" 1 0 0 (hMR G (hR0 P)) (fun u => [u.1, fr]) 0 0 [ws, fr] 0 [(0, va_rf (some b)), (1, va_rf o1), (2, vI a2)] []
  refine ww_aloadQ_n dJ2_fastRemove_0 0 rfl ?_
  refine ww_dup dJ2_fastRemove_1 (rf_cat _) ?_
  obtain ⟨x_1, hx, h⟩ := h
  refine wm_getIS hM1 rfl in_J2 (ci := 18) rfl (by decide) 0 (Nat.le_of_ble_eq_true rfl) hx (fun _ _ => rfl) q205 (g_sameF q204) dJ2_fastRemove_2 ?_
  refine ww_iconst dJ2_fastRemove_5 ?_
  refine ww_iadd dJ2_fastRemove_6 ?_
  obtain ⟨fi_2, fq_3, hc, h⟩ := h
  refine wm_putIS hM1 rfl in_J2 tyJ2_ok nmJ2 (ci := 18) rfl 0 (Nat.le_of_ble_eq_true rfl) hc (fun _ _ => rfl) (fun _ _ => Nat.le_of_ble_eq_true rfl) q205 (g_sameF q204) rfl rfl rfl dJ2_fastRemove_7 (fun ws hM2 => ?_)
  refine ww_aloadQ_n dJ2_fastRemove_10 0 rfl ?_
  obtain ⟨x_4, hx, h⟩ := h
  refine wm_getI hM2 rfl in_J2 (ci := 18) rfl (by decide) 2 (Nat.le_of_ble_eq_true rfl) hx (fun _ _ => rfl) q201 (fun _ _ h => h) dJ2_fastRemove_11 ?_
  refine ww_iconst dJ2_fastRemove_14 ?_
  refine ww_isub dJ2_fastRemove_15 ?_
  refine ww_dup dJ2_fastRemove_16 rfl ?_
  refine ww_istore_n (i := 3) (lv2 := [(3, vI (x_4 - 1)), (0, va_rf (some b)), (1, va_rf o1), (2, vI a2)]) dJ2_fastRemove_17 rfl (Nat.le_of_ble_eq_true rfl) rfl ?_
  refine ww_iload_n dJ2_fastRemove_18 3 rfl ?_
  obtain ⟨r_5, r_6, h⟩ := h
  obtain ⟨J34, hJ34, h⟩ := h
  have kJ34 : ∀ (μ34 : HM), J34 μ34 → ∀ ws : va_W, Mrep G ws μ34 → WW G l cJ2_fastRemove RJ2 4 (Option.none : Option Jvm.ClassFile.FieldType) "fastRemove" 1 0 0 (hMR G (hR0 P)) (fun u => [u.1, fr]) 0 0 [ws, fr] 34 [(0, va_rf (some b)), (1, va_rf o1), (3, vI (x_4 - 1))] [] := by
    clear h
    intro μ34 hj ws hM3
    have h := hJ34 μ34 hj
    refine ww_aloadQ_n dJ2_fastRemove_34 1 rfl ?_
    refine ww_aloadQ_n dJ2_fastRemove_35 0 rfl ?_
    refine ww_iload_n dJ2_fastRemove_36 2 rfl ?_
    refine ww_dup_x1 dJ2_fastRemove_37 rfl (rf_cat _) ?_
    obtain ⟨fi_7, fq_8, hc, h⟩ := h
    refine wm_putI hM3 rfl in_J2 tyJ2_ok nmJ2 (ci := 18) rfl 2 (Nat.le_of_ble_eq_true rfl) hc (fun _ _ => rfl) (fun _ _ => Nat.le_of_ble_eq_true rfl) q201 (fun _ _ h => h) rfl rfl rfl dJ2_fastRemove_38 (fun ws hM4 => ?_)
    refine ww_nullQ dJ2_fastRemove_41 ?_
    obtain ⟨a_9, ea_9, h⟩ := h
    subst ea_9
    obtain ⟨n_10, f_11, hc, hi, h⟩ := h
    refine wm_aastN 4 rfl hM4 rfl hc hi.1 hi.2.1 hi.2.2 dJ2_fastRemove_42 (fun ws hM5 => ?_)
    exact ww_vret (ws, (hs (hs μ34 b (hO 18 (upF fi_7 2 (x_4 - 1)) fq_8)) a_9 (hQ 4 n_10 (updI f_11 (x_4 - 1) none)))) rfl ⟨hM5, ⟨rfl, h⟩⟩ rfl (Nat.le_refl _) (Nat.le_refl _) dJ2_fastRemove_43
  refine ww_icmp_le (tgt := 34) dJ2_fastRemove_19 (by decide) r_5 r_6 (fun c => ?_) (fun c => ?_)
  · replace h := h.1 c
    refine ww_lv [1, 2, 0] rfl ?_
    exact kJ34 _ h _ hM2
  · replace h := h.2 (Int.not_le.mp c)
    refine ww_aloadQ_n dJ2_fastRemove_22 2 rfl ?_
    refine ww_iload_n dJ2_fastRemove_23 3 rfl ?_
    refine ww_iconst dJ2_fastRemove_24 ?_
    refine ww_iadd dJ2_fastRemove_25 ?_
    refine ww_aloadQ_n dJ2_fastRemove_26 2 rfl ?_
    refine ww_iload_n dJ2_fastRemove_27 3 rfl ?_
    refine ww_iload_n dJ2_fastRemove_28 0 rfl ?_
    refine ww_iload_n dJ2_fastRemove_29 3 rfl ?_
    refine ww_isub dJ2_fastRemove_30 ?_
    obtain ⟨a_12, ea_12, h⟩ := h
    subst ea_12
    obtain ⟨μ_17, hc, h⟩ := h
    refine wm_copyQ (ty := .object "java/lang/Object") hM2 rfl rfl hc q2037 q488 q487 q126 (Nat.le_of_ble_eq_true rfl) (Nat.le_of_ble_eq_true rfl) dJ2_fastRemove_31 (fun ws hM6 => ?_)
    refine ww_lv [1, 2, 0] rfl ?_
    exact kJ34 _ h _ hM6
/-! J2_remove: java/util/ArrayList remove (I)Ljava/lang/Object;; flags (True, False, False), depth 2 -/
def wc_J2_remove (ad : Nat → Nat) (μ : HM) (b : Nat) (a1 : Int) (P : Option Nat → HM → Prop) : Prop :=
  ∃ x_1 : Int, gI μ b 18 2 = some x_1 ∧
  wc_J16_checkIndex ad μ a1 x_1 (fun y_2 =>
    ∃ x_4 : Option Nat, gQ μ b 18 1 = some x_4 ∧
    ∃ a_5 : Nat, x_4 = some a_5 ∧
    ∃ x_6 : Option Nat, gR μ a_5 4 a1 = some x_6 ∧
    gC μ b = some 18 ∧
    wc_J2_fastRemove ad μ b (some a_5) a1 (fun μ_7 =>
      P x_6 μ_7))
set_option maxHeartbeats 4000000 in
theorem tm_J2_remove {G : g_G} {l : Launch} {μ : HM} {b : Nat} {a1 : Int} {P : Option Nat → HM → Prop} (h : wc_J2_remove (g_ad G) μ b a1 P) : CM G l yJ2_remove cJ2_remove 4 (Option.some (Jvm.ClassFile.FieldType.object "java/lang/Object")) 2 0 0 [.ref b, vI a1] μ (hR4 P) := by
  unfold wc_J2_remove at h
  refine wm_of (lvs := [(0, va_rf (some b)), (1, vI a1)]) (by decide) (Nat.le_of_ble_eq_true rfl) rfl (fun fr ws hM1 => ?_)
  show WW G l cJ2_remove RJ2 4 (Option.some (Jvm.ClassFile.FieldType.object "java/lang/Object")) "remove" 2 0 0 (hMR G (hR4 P)) (fun u => [u.1, fr]) 0 0 [ws, fr] 0 [(0, va_rf (some b)), (1, vI a1)] []
  refine ww_iload_n dJ2_remove_0 1 rfl ?_
  refine ww_aloadQ_n dJ2_remove_1 0 rfl ?_
  obtain ⟨x_1, hx, h⟩ := h
  refine wm_getI hM1 rfl in_J2 (ci := 18) rfl (by decide) 2 (Nat.le_of_ble_eq_true rfl) hx (fun _ _ => rfl) q201 (fun _ _ h => h) dJ2_remove_2 ?_
  refine wm_callS (n := 2) hM1 (tm_J16_checkIndex h) (lw_S q1412 q1413 q132 q1414) ⟨by decide, by decide, by decide +kernel⟩ rfl ⟨Nat.le_of_ble_eq_true rfl, Nat.le_of_ble_eq_true rfl⟩ rfl (Nat.le_of_ble_eq_true rfl) dJ2_remove_5 ⟨Nat.le_refl _, Nat.le_refl _⟩ ?_
  clear h
  rintro _ _ ws ⟨rfl, y_2, rfl, h⟩ hM2
  refine ww_st1 ?_
  refine ww_pop dJ2_remove_8 rfl ?_
  refine ww_aloadQ_n dJ2_remove_9 0 rfl ?_
  obtain ⟨x_4, hx, h⟩ := h
  refine wm_getQ hM2 rfl in_J2 (ci := 18) rfl (by decide) 1 (Nat.le_of_ble_eq_true rfl) hx (fun _ _ => rfl) q198 (fun _ _ h => h) dJ2_remove_10 ?_
  refine ww_astoreQ_n (i := 2) (lv2 := [(2, va_rf x_4), (0, va_rf (some b)), (1, vI a1)]) dJ2_remove_13 rfl (Nat.le_of_ble_eq_true rfl) rfl ?_
  refine ww_aloadQ_n dJ2_remove_14 0 rfl ?_
  refine ww_iload_n dJ2_remove_15 2 rfl ?_
  obtain ⟨a_5, ea_5, h⟩ := h
  subst ea_5
  obtain ⟨x_6, hx, h⟩ := h
  refine wm_aald hM2 rfl (by decide) hx dJ2_remove_16 ?_
  refine ww_astoreQ_n (i := 3) (lv2 := [(3, va_rf x_6), (2, va_rf (some a_5)), (0, va_rf (some b)), (1, vI a1)]) dJ2_remove_17 rfl (Nat.le_of_ble_eq_true rfl) rfl ?_
  refine ww_aloadQ_n dJ2_remove_18 2 rfl ?_
  refine ww_aloadQ_n dJ2_remove_19 1 rfl ?_
  refine ww_iload_n dJ2_remove_20 3 rfl ?_
  obtain ⟨hg, h⟩ := h
  refine wm_callV (n := 2) hM2 (tm_J2_fastRemove h) rfl hg rfl (lw_V q2033 q2035 qs51 q113 q2036) ⟨by decide, by decide, by decide +kernel⟩ rfl ⟨Nat.le_of_ble_eq_true rfl, Nat.le_of_ble_eq_true rfl⟩ rfl (Nat.le_of_ble_eq_true rfl) dJ2_remove_21 ⟨Nat.le_refl _, Nat.le_refl _⟩ ?_
  clear h
  rintro _ μ_7 ws ⟨rfl, h⟩ hM3
  refine ww_st0 ?_
  refine ww_aloadQ_n dJ2_remove_24 0 rfl ?_
  exact ww_aret (ws, μ_7) rfl (by first | exact Or.inl ⟨_, rfl⟩ | exact Or.inr ⟨_, rfl⟩) (rf_or _) ⟨hM3, ⟨_, rfl, h⟩⟩ rfl (Nat.le_refl _) (Nat.le_refl _) dJ2_remove_25
/-! J2_toArray: java/util/ArrayList toArray ()[Ljava/lang/Object;; flags (True, True, False), depth 3 -/
def wc_J2_toArray (ad : Nat → Nat) (mc ms : Nat) (μ : HM) (b : Nat) (P : Option Nat → HM → Prop) : Prop :=
  ∃ x_1 : Option Nat, gQ μ b 18 1 = some x_1 ∧
  ∃ x_2 : Int, gI μ b 18 2 = some x_2 ∧
  ∃ c_3 s_4 : Nat, (0 + c_3 ≤ mc ∧ 0 + s_4 ≤ ms) ∧
  wc_J11_copyOf_2 ad c_3 s_4 μ x_1 x_2 (fun y_6 μ_8 =>
    P y_6 μ_8)
set_option maxHeartbeats 4000000 in
theorem tm_J2_toArray {G : g_G} {l : Launch} {mc ms : Nat} {μ : HM} {b : Nat} {P : Option Nat → HM → Prop} (h : wc_J2_toArray (g_ad G) mc ms μ b P) : CM G l yJ2_toArray cJ2_toArray 1 (Option.some (Jvm.ClassFile.FieldType.array (Jvm.ClassFile.FieldType.object "java/lang/Object"))) 3 mc ms [.ref b] μ (hR4 P) := by
  unfold wc_J2_toArray at h
  refine wm_of (lvs := [(0, va_rf (some b))]) (by decide) (Nat.le_of_ble_eq_true rfl) rfl (fun fr ws hM1 => ?_)
  show WW G l cJ2_toArray RJ2 1 (Option.some (Jvm.ClassFile.FieldType.array (Jvm.ClassFile.FieldType.object "java/lang/Object"))) "toArray" 3 mc ms (hMR G (hR4 P)) (fun u => [u.1, fr]) 0 0 [ws, fr] 0 [(0, va_rf (some b))] []
  have hB : 0 ≤ mc ∧ 0 ≤ ms := ⟨Nat.zero_le _, Nat.zero_le _⟩
  refine ww_aloadQ_n dJ2_toArray_0 0 rfl ?_
  obtain ⟨x_1, hx, h⟩ := h
  refine wm_getQ hM1 rfl in_J2 (ci := 18) rfl (by decide) 1 (Nat.le_of_ble_eq_true rfl) hx (fun _ _ => rfl) q198 (fun _ _ h => h) dJ2_toArray_1 ?_
  refine ww_aloadQ_n dJ2_toArray_4 0 rfl ?_
  obtain ⟨x_2, hx, h⟩ := h
  refine wm_getI hM1 rfl in_J2 (ci := 18) rfl (by decide) 2 (Nat.le_of_ble_eq_true rfl) hx (fun _ _ => rfl) q201 (fun _ _ h => h) dJ2_toArray_5 ?_
  obtain ⟨c_3, s_4, b_5, h⟩ := h
  refine wm_callS (n := 2) hM1 (tm_J11_copyOf_2 h) (lw_S q1192 q1193 q125 q1194) ⟨by decide, by decide, by decide +kernel⟩ rfl ⟨Nat.le_of_ble_eq_true rfl, Nat.le_of_ble_eq_true rfl⟩ rfl (Nat.le_of_ble_eq_true rfl) dJ2_toArray_8 b_5 ?_
  clear h
  rintro _ μ_8 ws ⟨y_6, rfl, h⟩ hM2
  have hB := b_5
  refine ww_st1 ?_
  exact ww_aret (ws, μ_8) rfl (by first | exact Or.inl ⟨_, rfl⟩ | exact Or.inr ⟨_, rfl⟩) (rf_or _) ⟨hM2, ⟨_, rfl, h⟩⟩ rfl hB.1 hB.2 dJ2_toArray_11
/-! J2_addAll: java/util/ArrayList addAll (Ljava/util/Collection;)Z; flags (True, True, False), depth 4 -/
def wc_J2_addAll (ad : Nat → Nat) (mc ms : Nat) (μ : HM) (b : Nat) (o1 : Option Nat) (P : Int → HM → Prop) : Prop :=
  ∃ a_1 : Nat, o1 = some a_1 ∧
  gC μ a_1 = some 18 ∧
  ∃ c_2 s_3 : Nat, (0 + c_2 ≤ mc ∧ 0 + s_3 ≤ ms) ∧
  wc_J2_toArray ad c_2 s_3 μ a_1 (fun y_5 μ_7 =>
    ∃ x_8 : Int, gI μ_7 b 18 0 = some x_8 ∧
    ∃ (fi_9 : Nat → Int) (fq_10 : Nat → Option Nat), μ_7 b = some (hO 18 fi_9 fq_10) ∧ 
    ∃ a_11 : Nat, y_5 = some a_11 ∧
    ∃ n_12 : Nat, gL (hs μ_7 b (hO 18 (upF fi_9 0 (x_8 + 1)) fq_10)) a_11 = some n_12 ∧
    rI (n_12 : Int) ∧
    ((¬ (n_12 : Int) = 0 →
      ∃ x_14 : Option Nat, gQ (hs μ_7 b (hO 18 (upF fi_9 0 (x_8 + 1)) fq_10)) b 18 1 = some x_14 ∧
      ∃ a_15 : Nat, x_14 = some a_15 ∧
      ∃ n_16 : Nat, gL (hs μ_7 b (hO 18 (upF fi_9 0 (x_8 + 1)) fq_10)) a_15 = some n_16 ∧
      ∃ x_17 : Int, gI (hs μ_7 b (hO 18 (upF fi_9 0 (x_8 + 1)) fq_10)) b 18 2 = some x_17 ∧
      rI (n_12 : Int) ∧
      rI ((n_16 : Int) - x_17) ∧
      ∃ J56 : Option Nat → HM → Nat → Nat → Prop, (∀ (v4_56 : Option Nat) (μ56 : HM) (uc56 : Nat) (us56 : Nat), J56 v4_56 μ56 uc56 us56 →
        ∃ a_20 : Nat, v4_56 = some a_20 ∧
        ∃ μ_25 : HM, ((∃ (n_21 n_22 : Nat) (f_23 g_24 : Int → Option Nat), μ56 a_11 = some (hQ 4 n_21 f_23) ∧ μ56 a_20 = some (hQ 4 n_22 g_24) ∧ ((0 : Int) ≤ (0 : Int) ∧ (0 : Int) ≤ x_17 ∧ (0 : Int) ≤ (n_12 : Int) ∧ (0 : Int) + (n_12 : Int) ≤ (n_21 : Int) ∧ x_17 + (n_12 : Int) ≤ (n_22 : Int) ∧ (n_21 : Int) < 2147483648 ∧ (n_22 : Int) < 2147483648) ∧ (∀ (j : Int) (y : Nat), (0 : Int) ≤ j → j < (0 : Int) + (n_12 : Int) → f_23 j = some y → hst μ56 4 y) ∧ μ_25 = hs μ56 a_20 (hQ 4 n_22 (cpyI f_23 g_24 (0 : Int) x_17 (n_12 : Int)))) ∨ (∃ (n_22 : Nat) (g_24 : Int → Option Nat), a_11 = ad 0 ∧ μ56 a_20 = some (hQ 4 n_22 g_24) ∧ (0 : Int) = 0 ∧ 0 ≤ x_17 ∧ (n_12 : Int) = 0 ∧ x_17 ≤ (n_22 : Int) ∧ (n_22 : Int) < 2147483648 ∧ μ_25 = hs μ56 a_20 (hQ 4 n_22 g_24))) ∧
        ∃ (fi_26 : Nat → Int) (fq_27 : Nat → Option Nat), μ_25 b = some (hO 18 fi_26 fq_27) ∧ 
        P 1 (hs μ_25 b (hO 18 (upF fi_26 2 (x_17 + (n_12 : Int))) fq_27))) ∧
      (((n_12 : Int) ≤ ((n_16 : Int) - x_17) →
        J56 (some a_15) (hs μ_7 b (hO 18 (upF fi_9 0 (x_8 + 1)) fq_10)) (0 + c_2) (0 + s_3)) ∧
      (((n_16 : Int) - x_17) < (n_12 : Int) →
        gC (hs μ_7 b (hO 18 (upF fi_9 0 (x_8 + 1)) fq_10)) b = some 18 ∧
        ∃ c_28 s_29 : Nat, (0 + c_2 + c_28 ≤ mc ∧ 0 + s_3 + s_29 ≤ ms) ∧
        wc_J2_grow_2 ad c_28 s_29 (hs μ_7 b (hO 18 (upF fi_9 0 (x_8 + 1)) fq_10)) b (x_17 + (n_12 : Int)) (fun y_31 μ_33 =>
          J56 y_31 μ_33 (0 + c_2 + c_28) (0 + s_3 + s_29))))) ∧
    ((n_12 : Int) = 0 →
      P 0 (hs μ_7 b (hO 18 (upF fi_9 0 (x_8 + 1)) fq_10)))))
set_option maxHeartbeats 4000000 in
theorem tm_J2_addAll {G : g_G} {l : Launch} {mc ms : Nat} {μ : HM} {b : Nat} {o1 : Option Nat} {P : Int → HM → Prop} (h : wc_J2_addAll (g_ad G) mc ms μ b o1 P) : CM G l yJ2_addAll cJ2_addAll 6 (Option.some Jvm.ClassFile.FieldType.boolean) 4 mc ms [.ref b, va_rf o1] μ (hR2 P) := by
  unfold wc_J2_addAll at h
  refine wm_of (lvs := [(0, va_rf (some b)), (1, va_rf o1)]) (by decide) (by simp [lg_sl, rf_cat, vI_cat, vL_cat, ref_cat]) (by simp [lv_args, rf_cat, vI_cat, vL_cat, ref_cat, rf_some]) (fun fr ws hM1 => ?_)
  show WW G l cJ2_addAll RJ2 6 (Option.some Jvm.ClassFile.FieldType.boolean) "addAll" 4 mc ms (hMR G (hR2 P)) (fun u => [u.1, fr]) 0 0 [ws, fr] 0 [(0, va_rf (some b)), (1, va_rf o1)] []
  have hB : 0 ≤ mc ∧ 0 ≤ ms := ⟨Nat.zero_le _, Nat.zero_le _⟩
  refine ww_aloadQ_n dJ2_addAll_0 1 rfl ?_
  obtain ⟨a_1, ea_1, h⟩ := h
  subst ea_1
  obtain ⟨hg, h⟩ := h
  obtain ⟨c_2, s_3, b_4, h⟩ := h
  refine wm_callF (n := 0) hM1 (tm_J2_toArray h) rfl hg rfl (lw_F q2047 q2051 q2053 q113 q2055) (by decide) ⟨by decide, by decide, by decide +kernel⟩ rfl ⟨Nat.le_of_ble_eq_true rfl, Nat.le_of_ble_eq_true rfl⟩ rfl (Nat.le_of_ble_eq_true rfl) dJ2_addAll_1 b_4 ?_
  clear h
  rintro _ μ_7 ws ⟨y_5, rfl, h⟩ hM2
  have hB := b_4
  refine ww_st1 ?_
  refine ww_astoreQ_n (i := 2) (lv2 := [(2, va_rf y_5), (0, va_rf (some b)), (1, va_rf (some a_1))]) dJ2_addAll_6 rfl (Nat.le_of_ble_eq_true rfl) rfl ?_
  refine ww_aloadQ_n dJ2_addAll_7 1 rfl ?_
  refine ww_dup dJ2_addAll_8 (rf_cat _) ?_
  obtain ⟨x_8, hx, h⟩ := h
  refine wm_getIS hM2 rfl in_J2 (ci := 18) rfl (by decide) 0 (Nat.le_of_ble_eq_true rfl) hx (fun _ _ => rfl) q205 (g_sameF q204) dJ2_addAll_9 ?_
  refine ww_iconst dJ2_addAll_12 ?_
  refine ww_iadd dJ2_addAll_13 ?_
  obtain ⟨fi_9, fq_10, hc, h⟩ := h
  refine wm_putIS hM2 rfl in_J2 tyJ2_ok nmJ2 (ci := 18) rfl 0 (Nat.le_of_ble_eq_true rfl) hc (fun _ _ => rfl) (fun _ _ => Nat.le_of_ble_eq_true rfl) q205 (g_sameF q204) rfl rfl rfl dJ2_addAll_14 (fun ws hM3 => ?_)
  refine ww_aloadQ_n dJ2_addAll_17 0 rfl ?_
  obtain ⟨a_11, ea_11, h⟩ := h
  subst ea_11
  obtain ⟨n_12, hn, h⟩ := h
  refine wm_alen hM3 rfl hn dJ2_addAll_18 ?_
  refine ww_istore_n (i := 3) (lv2 := [(3, vI (n_12 : Int)), (2, va_rf (some a_11)), (0, va_rf (some b)), (1, va_rf (some a_1))]) dJ2_addAll_19 rfl (Nat.le_of_ble_eq_true rfl) rfl ?_
  refine ww_iload_n dJ2_addAll_20 0 rfl ?_
  obtain ⟨r_13, h⟩ := h
  refine ww_if_ne (tgt := 26) dJ2_addAll_21 (by decide) r_13 (fun c => ?_) (fun c => ?_)
  · replace h := h.1 c
    refine ww_iload_n dJ2_addAll_26 0 rfl ?_
    refine ww_aloadQ_n dJ2_addAll_27 2 rfl ?_
    obtain ⟨x_14, hx, h⟩ := h
    refine wm_getQ hM3 rfl in_J2 (ci := 18) rfl (by decide) 1 (Nat.le_of_ble_eq_true rfl) hx (fun _ _ => rfl) q198 (fun _ _ h => h) dJ2_addAll_28 ?_
    refine ww_dup dJ2_addAll_31 (rf_cat _) ?_
    refine ww_astoreQ (i := 4) (lv2 := [(4, va_rf x_14), (3, vI (n_12 : Int)), (2, va_rf (some a_11)), (0, va_rf (some b)), (1, va_rf (some a_1))]) dJ2_addAll_32 (Nat.le_of_ble_eq_true rfl) rfl ?_
    obtain ⟨a_15, ea_15, h⟩ := h
    subst ea_15
    obtain ⟨n_16, hn, h⟩ := h
    refine wm_alen hM3 rfl hn dJ2_addAll_34 ?_
    refine ww_aloadQ_n dJ2_addAll_35 3 rfl ?_
    obtain ⟨x_17, hx, h⟩ := h
    refine wm_getI hM3 rfl in_J2 (ci := 18) rfl (by decide) 2 (Nat.le_of_ble_eq_true rfl) hx (fun _ _ => rfl) q201 (fun _ _ h => h) dJ2_addAll_36 ?_
    refine ww_dup dJ2_addAll_39 rfl ?_
    refine ww_istore (i := 5) (lv2 := [(5, vI x_17), (4, va_rf (some a_15)), (3, vI (n_12 : Int)), (2, va_rf (some a_11)), (0, va_rf (some b)), (1, va_rf (some a_1))]) dJ2_addAll_40 (Nat.le_of_ble_eq_true rfl) rfl ?_
    refine ww_isub dJ2_addAll_42 ?_
    obtain ⟨r_18, r_19, h⟩ := h
    obtain ⟨J56, hJ56, h⟩ := h
    have kJ56 : ∀ (v4_56 : Option Nat), ∀ (μ56 : HM), ∀ (uc56 : Nat), ∀ (us56 : Nat), J56 v4_56 μ56 uc56 us56 → ∀ ws : va_W, Mrep G ws μ56 → (uc56 ≤ mc ∧ us56 ≤ ms) → WW G l cJ2_addAll RJ2 6 (Option.some Jvm.ClassFile.FieldType.boolean) "addAll" 4 mc ms (hMR G (hR2 P)) (fun u => [u.1, fr]) uc56 us56 [ws, fr] 56 [(0, va_rf (some b)), (2, va_rf (some a_11)), (3, vI (n_12 : Int)), (4, va_rf v4_56), (5, vI x_17)] [] := by
      clear h
      intro v4_56 μ56 uc56 us56 hj ws hM4 hB
      have h := hJ56 v4_56 μ56 uc56 us56 hj
      refine ww_aloadQ_n dJ2_addAll_56 1 rfl ?_
      refine ww_iconst dJ2_addAll_57 ?_
      refine ww_aloadQ dJ2_addAll_58 3 rfl ?_
      refine ww_iload dJ2_addAll_60 4 rfl ?_
      refine ww_iload_n dJ2_addAll_62 2 rfl ?_
      obtain ⟨a_20, ea_20, h⟩ := h
      subst ea_20
      obtain ⟨μ_25, hc, h⟩ := h
      refine wm_copyQ (ty := .object "java/lang/Object") hM4 rfl rfl hc q2037 q488 q487 q126 (Nat.le_of_ble_eq_true rfl) (Nat.le_of_ble_eq_true rfl) dJ2_addAll_63 (fun ws hM5 => ?_)
      refine ww_aloadQ_n dJ2_addAll_66 0 rfl ?_
      refine ww_iload dJ2_addAll_67 4 rfl ?_
      refine ww_iload_n dJ2_addAll_69 2 rfl ?_
      refine ww_iadd dJ2_addAll_70 ?_
      obtain ⟨fi_26, fq_27, hc, h⟩ := h
      refine wm_putI hM5 rfl in_J2 tyJ2_ok nmJ2 (ci := 18) rfl 2 (Nat.le_of_ble_eq_true rfl) hc (fun _ _ => rfl) (fun _ _ => Nat.le_of_ble_eq_true rfl) q201 (fun _ _ h => h) rfl rfl rfl dJ2_addAll_71 (fun ws hM6 => ?_)
      refine ww_iconst dJ2_addAll_74 ?_
      exact ww_zret (ws, (hs μ_25 b (hO 18 (upF fi_26 2 (x_17 + (n_12 : Int))) fq_27))) rfl (Or.inr rfl) ⟨hM6, ⟨_, rfl, Or.inr rfl, h⟩⟩ rfl hB.1 hB.2 dJ2_addAll_75
    refine ww_icmp_le (tgt := 56) dJ2_addAll_43 (by decide) r_18 r_19 (fun c => ?_) (fun c => ?_)
    · replace h := h.1 c
      refine ww_lv [4, 3, 2, 1, 0] rfl ?_
      exact kJ56 _ _ _ _ h _ hM3 hB
    · replace h := h.2 (Int.not_le.mp c)
      refine ww_aloadQ_n dJ2_addAll_46 4 rfl ?_
      refine ww_iload dJ2_addAll_47 0 rfl ?_
      refine ww_iload_n dJ2_addAll_49 2 rfl ?_
      refine ww_iadd dJ2_addAll_50 ?_
      obtain ⟨hg, h⟩ := h
      obtain ⟨c_28, s_29, b_30, h⟩ := h
      refine wm_callV (n := 1) hM3 (tm_J2_grow_2 h) rfl hg rfl (lw_V q1187 q1189 qs14 q113 q1190) ⟨by decide, by decide, by decide +kernel⟩ rfl ⟨Nat.le_of_ble_eq_true rfl, Nat.le_of_ble_eq_true rfl⟩ rfl (Nat.le_of_ble_eq_true rfl) dJ2_addAll_51 b_30 ?_
      clear h
      rintro _ μ_33 ws ⟨y_31, rfl, h⟩ hM7
      have hB := b_30
      refine ww_st1 ?_
      refine ww_astoreQ (i := 4) (lv2 := [(4, va_rf y_31), (5, vI x_17), (3, vI (n_12 : Int)), (2, va_rf (some a_11)), (0, va_rf (some b)), (1, va_rf (some a_1))]) dJ2_addAll_54 (Nat.le_of_ble_eq_true rfl) rfl ?_
      refine ww_lv [4, 3, 2, 0, 1] rfl ?_
      exact kJ56 _ _ _ _ h _ hM7 hB
  · replace h := h.2 c
    refine ww_iconst dJ2_addAll_24 ?_
    exact ww_zret (ws, (hs μ_7 b (hO 18 (upF fi_9 0 (x_8 + 1)) fq_10))) rfl (Or.inl rfl) ⟨hM3, ⟨_, rfl, Or.inl rfl, h⟩⟩ rfl hB.1 hB.2 dJ2_addAll_25
/-! X4_init_2: HoloNet$State <init> (LHoloNet$State;)V; flags (True, True, False), depth 5 -/
def wc_X4_init_2 (ad : Nat → Nat) (mc ms : Nat) (μ : HM) (b : Nat) (o1 : Option Nat) (P : HM → Prop) : Prop :=
  (0 ≤ (6 : Int) ∧ (6 : Int) < 50000000 ∧ 0 + 1 ≤ mc ∧ 0 + (6 : Int).toNat ≤ ms) ∧ ∀ q_1 : Nat, μ q_1 = none →
  ∃ (fi_3 : Nat → Int) (fq_4 : Nat → Option Nat), (hs μ q_1 (hQ 6 (6 : Int).toNat (fun _ => none))) b = some (hO 4 fi_3 fq_4) ∧ 
  (0 + 1 + 1 ≤ mc ∧ 0 + (6 : Int).toNat + 3 ≤ ms) ∧ ∀ q_5 : Nat, (hs (hs μ q_1 (hQ 6 (6 : Int).toNat (fun _ => none))) b (hO 4 fi_3 (upF fq_4 0 (some q_1)))) q_5 = none →
  wc_J2_init ad (hs (hs (hs μ q_1 (hQ 6 (6 : Int).toNat (fun _ => none))) b (hO 4 fi_3 (upF fq_4 0 (some q_1)))) q_5 (hO 18 (fun _ => 0) (fun _ => none))) q_5 (fun μ_7 =>
    ∃ (fi_8 : Nat → Int) (fq_9 : Nat → Option Nat), μ_7 b = some (hO 4 fi_8 fq_9) ∧ 
    (0 ≤ (6 : Int) ∧ (6 : Int) < 50000000 ∧ 0 + 1 + 1 + 1 ≤ mc ∧ 0 + (6 : Int).toNat + 3 + (6 : Int).toNat ≤ ms) ∧ ∀ q_10 : Nat, (hs μ_7 b (hO 4 fi_8 (upF fq_9 1 (some q_5)))) q_10 = none →
    ∃ (fi_12 : Nat → Int) (fq_13 : Nat → Option Nat), (hs (hs μ_7 b (hO 4 fi_8 (upF fq_9 1 (some q_5)))) q_10 (hA 0 (6 : Int).toNat (fun _ => 0))) b = some (hO 4 fi_12 fq_13) ∧ 
    ∃ a_15 : Nat, o1 = some a_15 ∧
    ∃ x_14 : Option Nat, gQ (hs (hs (hs μ_7 b (hO 4 fi_8 (upF fq_9 1 (some q_5)))) q_10 (hA 0 (6 : Int).toNat (fun _ => 0))) b (hO 4 fi_12 (upF fq_13 2 (some q_10)))) a_15 4 0 = some x_14 ∧
    ∃ x_16 : Option Nat, gQ (hs (hs (hs μ_7 b (hO 4 fi_8 (upF fq_9 1 (some q_5)))) q_10 (hA 0 (6 : Int).toNat (fun _ => 0))) b (hO 4 fi_12 (upF fq_13 2 (some q_10)))) b 4 0 = some x_16 ∧
    ∃ a_17 : Nat, x_14 = some a_17 ∧
    ∃ a_18 : Nat, x_16 = some a_18 ∧
    ∃ (n_19 n_20 : Nat) (f_21 g_22 : Int → Option Nat), (hs (hs (hs μ_7 b (hO 4 fi_8 (upF fq_9 1 (some q_5)))) q_10 (hA 0 (6 : Int).toNat (fun _ => 0))) b (hO 4 fi_12 (upF fq_13 2 (some q_10)))) a_17 = some (hQ 6 n_19 f_21) ∧ (hs (hs (hs μ_7 b (hO 4 fi_8 (upF fq_9 1 (some q_5)))) q_10 (hA 0 (6 : Int).toNat (fun _ => 0))) b (hO 4 fi_12 (upF fq_13 2 (some q_10)))) a_18 = some (hQ 6 n_20 g_22) ∧ ((0 : Int) ≤ (0 : Int) ∧ (0 : Int) ≤ (0 : Int) ∧ (0 : Int) ≤ (6 : Int) ∧ (0 : Int) + (6 : Int) ≤ (n_19 : Int) ∧ (0 : Int) + (6 : Int) ≤ (n_20 : Int) ∧ (n_19 : Int) < 2147483648 ∧ (n_20 : Int) < 2147483648) ∧ (∀ (j : Int) (y : Nat), (0 : Int) ≤ j → j < (0 : Int) + (6 : Int) → f_21 j = some y → hst (hs (hs (hs μ_7 b (hO 4 fi_8 (upF fq_9 1 (some q_5)))) q_10 (hA 0 (6 : Int).toNat (fun _ => 0))) b (hO 4 fi_12 (upF fq_13 2 (some q_10)))) 6 y) ∧
    ∃ x_24 : Option Nat, gQ (hs (hs (hs (hs μ_7 b (hO 4 fi_8 (upF fq_9 1 (some q_5)))) q_10 (hA 0 (6 : Int).toNat (fun _ => 0))) b (hO 4 fi_12 (upF fq_13 2 (some q_10)))) a_18 (hQ 6 n_20 (cpyI f_21 g_22 (0 : Int) (0 : Int) (6 : Int)))) a_15 4 2 = some x_24 ∧
    ∃ x_25 : Option Nat, gQ (hs (hs (hs (hs μ_7 b (hO 4 fi_8 (upF fq_9 1 (some q_5)))) q_10 (hA 0 (6 : Int).toNat (fun _ => 0))) b (hO 4 fi_12 (upF fq_13 2 (some q_10)))) a_18 (hQ 6 n_20 (cpyI f_21 g_22 (0 : Int) (0 : Int) (6 : Int)))) b 4 2 = some x_25 ∧
    ∃ a_26 : Nat, x_24 = some a_26 ∧
    ∃ a_27 : Nat, x_25 = some a_27 ∧
    ∃ (n_28 n_29 : Nat) (f_30 g_31 : Int → Int), (hs (hs (hs (hs μ_7 b (hO 4 fi_8 (upF fq_9 1 (some q_5)))) q_10 (hA 0 (6 : Int).toNat (fun _ => 0))) b (hO 4 fi_12 (upF fq_13 2 (some q_10)))) a_18 (hQ 6 n_20 (cpyI f_21 g_22 (0 : Int) (0 : Int) (6 : Int)))) a_26 = some (hA 0 n_28 f_30) ∧ (hs (hs (hs (hs μ_7 b (hO 4 fi_8 (upF fq_9 1 (some q_5)))) q_10 (hA 0 (6 : Int).toNat (fun _ => 0))) b (hO 4 fi_12 (upF fq_13 2 (some q_10)))) a_18 (hQ 6 n_20 (cpyI f_21 g_22 (0 : Int) (0 : Int) (6 : Int)))) a_27 = some (hA 0 n_29 g_31) ∧ ((0 : Int) ≤ (0 : Int) ∧ (0 : Int) ≤ (0 : Int) ∧ (0 : Int) ≤ (6 : Int) ∧ (0 : Int) + (6 : Int) ≤ (n_28 : Int) ∧ (0 : Int) + (6 : Int) ≤ (n_29 : Int) ∧ (n_28 : Int) < 2147483648 ∧ (n_29 : Int) < 2147483648) ∧ 
    ∀ μ_32 : HM, μ_32 = hs (hs (hs (hs (hs μ_7 b (hO 4 fi_8 (upF fq_9 1 (some q_5)))) q_10 (hA 0 (6 : Int).toNat (fun _ => 0))) b (hO 4 fi_12 (upF fq_13 2 (some q_10)))) a_18 (hQ 6 n_20 (cpyI f_21 g_22 (0 : Int) (0 : Int) (6 : Int)))) a_27 (hA 0 n_29 (cpyI f_30 g_31 (0 : Int) (0 : Int) (6 : Int))) →
    ∃ x_33 : Option Nat, gQ μ_32 b 4 1 = some x_33 ∧
    ∃ x_34 : Option Nat, gQ μ_32 a_15 4 1 = some x_34 ∧
    ∃ a_35 : Nat, x_33 = some a_35 ∧
    gC μ_32 a_35 = some 18 ∧
    ∃ c_36 s_37 : Nat, (0 + 1 + 1 + 1 + c_36 ≤ mc ∧ 0 + (6 : Int).toNat + 3 + (6 : Int).toNat + s_37 ≤ ms) ∧
    wc_J2_addAll ad c_36 s_37 μ_32 a_35 x_34 (fun y_39 μ_41 =>
      P μ_41))
set_option maxHeartbeats 4000000 in
theorem tm_X4_init_2 {G : g_G} {l : Launch} {mc ms : Nat} {μ : HM} {b : Nat} {o1 : Option Nat} {P : HM → Prop} (h : wc_X4_init_2 (g_ad G) mc ms μ b o1 P) : CM G l yX4_init_2 cX4_init_2 2 (Option.none : Option Jvm.ClassFile.FieldType) 5 mc ms [.ref b, va_rf o1] μ (hR0 P) := by
  unfold wc_X4_init_2 at h
  refine wm_of (lvs := [(0, va_rf (some b)), (1, va_rf o1)]) (by decide) (by simp [lg_sl, rf_cat, vI_cat, vL_cat, ref_cat]) (by simp [lv_args, rf_cat, vI_cat, vL_cat, ref_cat, rf_some]) (fun fr ws hM1 => ?_)
  show WW G l cX4_init_2 RX4 2 (Option.none : Option Jvm.ClassFile.FieldType) "<init>" 5 mc ms (hMR G (hR0 P)) (fun u => [u.1, fr]) 0 0 [ws, fr] 0 [(0, va_rf (some b)), (1, va_rf o1)] []
  have hB : 0 ≤ mc ∧ 0 ≤ ms := ⟨Nat.zero_le _, Nat.zero_le _⟩
  refine ww_aloadQ_n dX4_init_2_0 0 rfl ?_
  refine wm_objInit rfl q288 q170 q171 (Nat.le_of_ble_eq_true rfl) (Nat.le_of_ble_eq_true rfl) dX4_init_2_1 ?_
  refine ww_aloadQ_n dX4_init_2_4 0 rfl ?_
  refine ww_bipush (v := 6) dX4_init_2_5 rfl ?_
  obtain ⟨b_2, h⟩ := h
  refine wm_anew6 hM1 q289 b_2.1 (by omega) b_2.2.2.1 b_2.2.2.2 dX4_init_2_7 (fun q_1 ws hq hM2 => ?_)
  replace h := h q_1 hq
  have hB := b_2.2.2
  obtain ⟨fi_3, fq_4, hc, h⟩ := h
  refine wm_putQF hM2 rfl in_X4 tyX4_ok nmX4 (ci := 4) rfl 0 (Nat.le_of_ble_eq_true rfl) hc (fun _ _ => rfl) (fun _ _ => Nat.le_of_ble_eq_true rfl) q293 (fun _ _ h => h) rfl rfl rfl (narrow_rf rfl _) (fits_rf rfl _) dX4_init_2_10 (fun ws hM3 => ?_)
  refine ww_aloadQ_n dX4_init_2_13 0 rfl ?_
  obtain ⟨b_6, h⟩ := h
  refine wm_new hM3 in_J2 tyJ2_ok q291 q185 q113 (ci := 18) rfl dfl_18 b_6.1 b_6.2 dX4_init_2_14 (fun q_5 ws hq hM4 => ?_)
  replace h := h q_5 hq
  have hB := b_6
  refine ww_dup dX4_init_2_17 (rf_cat _) ?_
  refine wm_callI (n := 0) hM4 (tm_J2_init h) rfl q188 q113 q292 q187 rfl ⟨by decide, by decide, by decide +kernel⟩ rfl ⟨Nat.le_of_ble_eq_true rfl, Nat.le_of_ble_eq_true rfl⟩ rfl (by simp only [List.map_cons, List.map_nil, rf_cat, vI_cat, vL_cat, List.sum_cons, List.sum_nil]; decide) dX4_init_2_18 hB ?_
  clear h
  rintro _ μ_7 ws ⟨rfl, h⟩ hM5
  refine ww_st0 ?_
  obtain ⟨fi_8, fq_9, hc, h⟩ := h
  refine wm_putQF hM5 rfl in_X4 tyX4_ok nmX4 (ci := 4) rfl 1 (Nat.le_of_ble_eq_true rfl) hc (fun _ _ => rfl) (fun _ _ => Nat.le_of_ble_eq_true rfl) q298 (fun _ _ h => h) rfl rfl rfl (narrow_rf rfl _) (fits_rf rfl _) dX4_init_2_21 (fun ws hM6 => ?_)
  refine ww_aloadQ_n dX4_init_2_24 0 rfl ?_
  refine ww_bipush (v := 6) dX4_init_2_25 rfl ?_
  obtain ⟨b_11, h⟩ := h
  refine wm_new0 hM6 q163 b_11.1 (by omega) b_11.2.2.1 b_11.2.2.2 dX4_init_2_27 (fun q_10 ws hq hM7 => ?_)
  replace h := h q_10 hq
  have hB := b_11.2.2
  obtain ⟨fi_12, fq_13, hc, h⟩ := h
  refine wm_putQF hM7 rfl in_X4 tyX4_ok nmX4 (ci := 4) rfl 2 (Nat.le_of_ble_eq_true rfl) hc (fun _ _ => rfl) (fun _ _ => Nat.le_of_ble_eq_true rfl) q302 (fun _ _ h => h) rfl rfl rfl (narrow_rf rfl _) (fits_rf rfl _) dX4_init_2_29 (fun ws hM8 => ?_)
  refine ww_aloadQ_n dX4_init_2_32 1 rfl ?_
  obtain ⟨a_15, ea_15, h⟩ := h
  subst ea_15
  obtain ⟨x_14, hx, h⟩ := h
  refine wm_getQ hM8 rfl in_X4 (ci := 4) rfl (by decide) 0 (Nat.le_of_ble_eq_true rfl) hx (fun _ _ => rfl) q293 (fun _ _ h => h) dX4_init_2_33 ?_
  refine ww_iconst dX4_init_2_36 ?_
  refine ww_aloadQ_n dX4_init_2_37 0 rfl ?_
  obtain ⟨x_16, hx, h⟩ := h
  refine wm_getQ hM8 rfl in_X4 (ci := 4) rfl (by decide) 0 (Nat.le_of_ble_eq_true rfl) hx (fun _ _ => rfl) q293 (fun _ _ h => h) dX4_init_2_38 ?_
  refine ww_iconst dX4_init_2_41 ?_
  refine ww_bipush (v := 6) dX4_init_2_42 rfl ?_
  obtain ⟨a_17, ea_17, h⟩ := h
  subst ea_17
  obtain ⟨a_18, ea_18, h⟩ := h
  subst ea_18
  obtain ⟨n_19, n_20, f_21, g_22, hc, hc1, hi, hx, h⟩ := h
  refine wm_copyR 6 (ty := .array .int) hM8 rfl rfl hc hc1 rfl rfl (fun o => fits_rf rfl o) hi.1 hi.2.1 hi.2.2.1 hi.2.2.2.1 hi.2.2.2.2.1 hi.2.2.2.2.2.1 hi.2.2.2.2.2.2 hx q2041 q488 q487 q126 (Nat.le_of_ble_eq_true rfl) (Nat.le_of_ble_eq_true rfl) dX4_init_2_44 (fun ws hM9 => ?_)
  refine ww_aloadQ_n dX4_init_2_47 1 rfl ?_
  obtain ⟨x_24, hx, h⟩ := h
  refine wm_getQ hM9 rfl in_X4 (ci := 4) rfl (by decide) 2 (Nat.le_of_ble_eq_true rfl) hx (fun _ _ => rfl) q302 (fun _ _ h => h) dX4_init_2_48 ?_
  refine ww_iconst dX4_init_2_51 ?_
  refine ww_aloadQ_n dX4_init_2_52 0 rfl ?_
  obtain ⟨x_25, hx, h⟩ := h
  refine wm_getQ hM9 rfl in_X4 (ci := 4) rfl (by decide) 2 (Nat.le_of_ble_eq_true rfl) hx (fun _ _ => rfl) q302 (fun _ _ h => h) dX4_init_2_53 ?_
  refine ww_iconst dX4_init_2_56 ?_
  refine ww_bipush (v := 6) dX4_init_2_57 rfl ?_
  obtain ⟨a_26, ea_26, h⟩ := h
  subst ea_26
  obtain ⟨a_27, ea_27, h⟩ := h
  subst ea_27
  obtain ⟨n_28, n_29, f_30, g_31, hc, hc1, hi, h⟩ := h
  refine wm_copyI 0 (ty := .int) hM9 rfl rfl hc hc1 (by decide) rfl rfl hi.1 hi.2.1 hi.2.2.1 hi.2.2.2.1 hi.2.2.2.2.1 hi.2.2.2.2.2.1 hi.2.2.2.2.2.2 (fun _ _ _ => rfl) q2041 q488 q487 q126 (Nat.le_of_ble_eq_true rfl) (Nat.le_of_ble_eq_true rfl) dX4_init_2_59 (fun ws hM10 => ?_)
  obtain ⟨μ_32, eμ_32⟩ : ∃ z : HM, z = hs (hs (hs (hs (hs μ_7 b (hO 4 fi_8 (upF fq_9 1 (some q_5)))) q_10 (hA 0 (6 : Int).toNat (fun _ => 0))) b (hO 4 fi_12 (upF fq_13 2 (some q_10)))) a_18 (hQ 6 n_20 (cpyI f_21 g_22 (0 : Int) (0 : Int) (6 : Int)))) a_27 (hA 0 n_29 (cpyI f_30 g_31 (0 : Int) (0 : Int) (6 : Int))) := ⟨_, rfl⟩
  replace h := h μ_32 eμ_32
  rw [← eμ_32] at hM10
  refine ww_aloadQ_n dX4_init_2_62 0 rfl ?_
  obtain ⟨x_33, hx, h⟩ := h
  refine wm_getQ hM10 rfl in_X4 (ci := 4) rfl (by decide) 1 (Nat.le_of_ble_eq_true rfl) hx (fun _ _ => rfl) q298 (fun _ _ h => h) dX4_init_2_63 ?_
  refine ww_aloadQ_n dX4_init_2_66 1 rfl ?_
  obtain ⟨x_34, hx, h⟩ := h
  refine wm_getQ hM10 rfl in_X4 (ci := 4) rfl (by decide) 1 (Nat.le_of_ble_eq_true rfl) hx (fun _ _ => rfl) q298 (fun _ _ h => h) dX4_init_2_67 ?_
  obtain ⟨a_35, ea_35, h⟩ := h
  subst ea_35
  obtain ⟨hg, h⟩ := h
  obtain ⟨c_36, s_37, b_38, h⟩ := h
  refine wm_callV (n := 1) hM10 (tm_J2_addAll h) rfl hg rfl (lw_V q2042 q2043 q2044 q113 q2045) ⟨by decide, by decide, by decide +kernel⟩ rfl ⟨Nat.le_of_ble_eq_true rfl, Nat.le_of_ble_eq_true rfl⟩ rfl (Nat.le_of_ble_eq_true rfl) dX4_init_2_70 b_38 ?_
  clear h
  rintro _ μ_41 ws ⟨y_39, rfl, z_40, h⟩ hM11
  have hB := b_38
  refine ww_st1 ?_
  refine ww_pop dX4_init_2_73 rfl ?_
  exact ww_vret (ws, μ_41) rfl ⟨hM11, ⟨rfl, h⟩⟩ rfl hB.1 hB.2 dX4_init_2_74
/-! X1_keepsAhead: HoloNet keepsAhead ()V; flags (True, True, False), depth 7 -/
def wc_X1_keepsAhead (ad : Nat → Nat) (mc ms : Nat) (μ : HM) (b : Nat) (P : HM → Prop) : Prop :=
  ∃ x_1 : Option Nat, gQ μ b 1 4 = some x_1 ∧
  ∃ a_2 : Nat, x_1 = some a_2 ∧
  gC μ a_2 = some 18 ∧
  wc_J2_size ad μ a_2 (fun y_3 =>
    rI y_3 ∧
    ∃ J21 : HM → Prop, (∀ (μ21 : HM), J21 μ21 →
      ∃ x_6 : Option Nat, gQ μ21 b 1 4 = some x_6 ∧
      (0 + 1 ≤ mc ∧ 0 + 3 ≤ ms) ∧ ∀ q_7 : Nat, μ21 q_7 = none →
      ∃ x_9 : Option Nat, gQ (hs μ21 q_7 (hO 4 (fun _ => 0) (fun _ => none))) b 1 3 = some x_9 ∧
      ∃ c_10 s_11 : Nat, (0 + 1 + c_10 ≤ mc ∧ 0 + 3 + s_11 ≤ ms) ∧
      wc_X4_init_2 ad c_10 s_11 (hs μ21 q_7 (hO 4 (fun _ => 0) (fun _ => none))) q_7 x_9 (fun μ_13 =>
        ∃ a_14 : Nat, x_6 = some a_14 ∧
        gC μ_13 a_14 = some 18 ∧
        ∃ c_15 s_16 : Nat, (0 + 1 + c_10 + c_15 ≤ mc ∧ 0 + 3 + s_11 + s_16 ≤ ms) ∧
        wc_J2_add ad c_15 s_16 μ_13 a_14 (some q_7) (fun y_18 μ_20 =>
          P μ_20))) ∧
    ((¬ y_3 = 12 →
      J21 μ) ∧
    (y_3 = 12 →
      ∃ x_21 : Option Nat, gQ μ b 1 4 = some x_21 ∧
      ∃ a_22 : Nat, x_21 = some a_22 ∧
      gC μ a_22 = some 18 ∧
      wc_J2_remove ad μ a_22 0 (fun y_23 μ_25 =>
        J21 μ_25))))
set_option maxHeartbeats 4000000 in
theorem tm_X1_keepsAhead {G : g_G} {l : Launch} {mc ms : Nat} {μ : HM} {b : Nat} {P : HM → Prop} (h : wc_X1_keepsAhead (g_ad G) mc ms μ b P) : CM G l yX1_keepsAhead cX1_keepsAhead 1 (Option.none : Option Jvm.ClassFile.FieldType) 7 mc ms [.ref b] μ (hR0 P) := by
  unfold wc_X1_keepsAhead at h
  refine wm_of (lvs := [(0, va_rf (some b))]) (by decide) (Nat.le_of_ble_eq_true rfl) rfl (fun fr ws hM1 => ?_)
  show WW G l cX1_keepsAhead RX1 1 (Option.none : Option Jvm.ClassFile.FieldType) "keepsAhead" 7 mc ms (hMR G (hR0 P)) (fun u => [u.1, fr]) 0 0 [ws, fr] 0 [(0, va_rf (some b))] []
  have hB : 0 ≤ mc ∧ 0 ≤ ms := ⟨Nat.zero_le _, Nat.zero_le _⟩
  refine ww_aloadQ_n dX1_keepsAhead_0 0 rfl ?_
  obtain ⟨x_1, hx, h⟩ := h
  refine wm_getQ hM1 rfl in_X1 (ci := 1) rfl (by decide) 4 (Nat.le_of_ble_eq_true rfl) hx (fun _ _ => rfl) q323 (fun _ _ h => h) dX1_keepsAhead_1 ?_
  obtain ⟨a_2, ea_2, h⟩ := h
  subst ea_2
  obtain ⟨hg, h⟩ := h
  refine wm_callV (n := 0) hM1 (tm_J2_size h) rfl hg rfl (lw_V q2006 q856 q857 q113 q858) ⟨by decide, by decide, by decide +kernel⟩ rfl ⟨Nat.le_of_ble_eq_true rfl, Nat.le_of_ble_eq_true rfl⟩ rfl (Nat.le_of_ble_eq_true rfl) dX1_keepsAhead_4 hB ?_
  clear h
  rintro _ _ ws ⟨rfl, y_3, rfl, h⟩ hM2
  refine ww_st1 ?_
  refine ww_bipush (v := 12) dX1_keepsAhead_7 rfl ?_
  obtain ⟨r_5, h⟩ := h
  obtain ⟨J21, hJ21, h⟩ := h
  have kJ21 : ∀ (μ21 : HM), J21 μ21 → ∀ ws : va_W, Mrep G ws μ21 → (0 ≤ mc ∧ 0 ≤ ms) → WW G l cX1_keepsAhead RX1 1 (Option.none : Option Jvm.ClassFile.FieldType) "keepsAhead" 7 mc ms (hMR G (hR0 P)) (fun u => [u.1, fr]) 0 0 [ws, fr] 21 [(0, va_rf (some b))] [] := by
    clear h
    intro μ21 hj ws hM3 hB
    have h := hJ21 μ21 hj
    refine ww_aloadQ_n dX1_keepsAhead_21 0 rfl ?_
    obtain ⟨x_6, hx, h⟩ := h
    refine wm_getQ hM3 rfl in_X1 (ci := 1) rfl (by decide) 4 (Nat.le_of_ble_eq_true rfl) hx (fun _ _ => rfl) q323 (fun _ _ h => h) dX1_keepsAhead_22 ?_
    obtain ⟨b_8, h⟩ := h
    refine wm_new hM3 in_X4 tyX4_ok q283 q284 q116 (ci := 4) rfl dfl_4 b_8.1 b_8.2 dX1_keepsAhead_25 (fun q_7 ws hq hM4 => ?_)
    replace h := h q_7 hq
    have hB := b_8
    refine ww_dup dX1_keepsAhead_28 (rf_cat _) ?_
    refine ww_aloadQ_n dX1_keepsAhead_29 0 rfl ?_
    obtain ⟨x_9, hx, h⟩ := h
    refine wm_getQ hM4 rfl in_X1 (ci := 1) rfl (by decide) 3 (Nat.le_of_ble_eq_true rfl) hx (fun _ _ => rfl) q322 (fun _ _ h => h) dX1_keepsAhead_30 ?_
    obtain ⟨c_10, s_11, b_12, h⟩ := h
    refine wm_callI (n := 1) hM4 (tm_X4_init_2 h) rfl q2040 q116 q2038 q2039 rfl ⟨by decide, by decide, by decide +kernel⟩ rfl ⟨Nat.le_of_ble_eq_true rfl, Nat.le_of_ble_eq_true rfl⟩ rfl (by simp only [List.map_cons, List.map_nil, rf_cat, vI_cat, vL_cat, List.sum_cons, List.sum_nil]; decide) dX1_keepsAhead_33 b_12 ?_
    clear h
    rintro _ μ_13 ws ⟨rfl, h⟩ hM5
    have hB := b_12
    refine ww_st0 ?_
    obtain ⟨a_14, ea_14, h⟩ := h
    subst ea_14
    obtain ⟨hg, h⟩ := h
    obtain ⟨c_15, s_16, b_17, h⟩ := h
    refine wm_callV (n := 1) hM5 (tm_J2_add h) rfl hg rfl (lw_V q2062 q1176 q1177 q113 q1178) ⟨by decide, by decide, by decide +kernel⟩ rfl ⟨Nat.le_of_ble_eq_true rfl, Nat.le_of_ble_eq_true rfl⟩ rfl (Nat.le_of_ble_eq_true rfl) dX1_keepsAhead_36 b_17 ?_
    clear h
    rintro _ μ_20 ws ⟨y_18, rfl, z_19, h⟩ hM6
    have hB := b_17
    refine ww_st1 ?_
    refine ww_pop dX1_keepsAhead_39 rfl ?_
    exact ww_vret (ws, μ_20) rfl ⟨hM6, ⟨rfl, h⟩⟩ rfl hB.1 hB.2 dX1_keepsAhead_40
  refine ww_icmp_ne (tgt := 21) dX1_keepsAhead_9 (by decide) r_5 (by decide) (fun c => ?_) (fun c => ?_)
  · replace h := h.1 c
    exact kJ21 _ h _ hM2 hB
  · replace h := h.2 c
    refine ww_aloadQ_n dX1_keepsAhead_12 0 rfl ?_
    obtain ⟨x_21, hx, h⟩ := h
    refine wm_getQ hM2 rfl in_X1 (ci := 1) rfl (by decide) 4 (Nat.le_of_ble_eq_true rfl) hx (fun _ _ => rfl) q323 (fun _ _ h => h) dX1_keepsAhead_13 ?_
    refine ww_iconst dX1_keepsAhead_16 ?_
    obtain ⟨a_22, ea_22, h⟩ := h
    subst ea_22
    obtain ⟨hg, h⟩ := h
    refine wm_callV (n := 1) hM2 (tm_J2_remove h) rfl hg rfl (lw_V q2029 q2030 q2031 q113 q2032) ⟨by decide, by decide, by decide +kernel⟩ rfl ⟨Nat.le_of_ble_eq_true rfl, Nat.le_of_ble_eq_true rfl⟩ rfl (Nat.le_of_ble_eq_true rfl) dX1_keepsAhead_17 hB ?_
    clear h
    rintro _ μ_25 ws ⟨y_23, rfl, h⟩ hM7
    refine ww_st1 ?_
    refine ww_pop dX1_keepsAhead_20 (rf_cat _) ?_
    exact kJ21 _ h _ hM7 hB
/-! X1_change: HoloNet change (II)Z; flags (True, True, False), depth 8 -/
def wc_X1_change (ad : Nat → Nat) (mc ms : Nat) (μ : HM) (b : Nat) (a1 : Int) (a2 : Int) (P : Int → HM → Prop) : Prop :=
  gC μ b = some 1 ∧
  wc_X1_isWire ad μ b a1 (fun y_1 =>
    ((y_1 = 0 →
      P 0 μ) ∧
    (¬ y_1 = 0 →
      gC μ b = some 1 ∧
      wc_X1_isBase ad μ b a2 (fun y_3 =>
        ((¬ y_3 = 0 →
          gC μ b = some 1 ∧
          ∃ c_5 s_6 : Nat, (0 + c_5 ≤ mc ∧ 0 + s_6 ≤ ms) ∧
          wc_X1_keepsAhead ad c_5 s_6 μ b (fun μ_8 =>
            ∃ x_9 : Option Nat, gQ μ_8 b 1 3 = some x_9 ∧
            ∃ a_11 : Nat, x_9 = some a_11 ∧
            ∃ x_10 : Option Nat, gQ μ_8 a_11 4 1 = some x_10 ∧
            ∃ a_12 : Nat, x_10 = some a_12 ∧
            gC μ_8 a_12 = some 18 ∧
            wc_J2_get ad μ_8 a_12 a1 (fun y_13 =>
              (∀ z : Nat, y_13 = some z → ∃ ci, gC μ_8 z = some ci ∧ (ci = 10)) ∧
              ∃ x_15 : Option Nat, gQ μ_8 b 1 2 = some x_15 ∧
              ∃ a_17 : Nat, x_15 = some a_17 ∧
              ∃ x_16 : Option Nat, gQ μ_8 a_17 2 2 = some x_16 ∧
              ∃ a_18 : Nat, x_16 = some a_18 ∧
              gC μ_8 a_18 = some 3 ∧
              wc_X3_get ad μ_8 a_18 a2 (fun y_19 =>
                (∀ z : Nat, y_19 = some z → ∃ ci, gC μ_8 z = some ci ∧ (ci = 8)) ∧
                ∃ a_22 : Nat, y_19 = some a_22 ∧
                ∃ x_21 : Option Nat, gQ μ_8 a_22 8 2 = some x_21 ∧
                ∃ x_23 : Option Nat, gQ μ_8 b 1 2 = some x_23 ∧
                ∃ x_24 : Option Nat, gQ μ_8 b 1 2 = some x_24 ∧
                ∃ a_25 : Nat, x_21 = some a_25 ∧
                ∃ x_26 : Int, gA μ_8 a_25 0 0 = some x_26 ∧
                ∃ x_27 : Int, gA μ_8 a_25 0 3 = some x_27 ∧
                ∃ x_28 : Int, gA μ_8 a_25 0 1 = some x_28 ∧
                ∃ x_29 : Int, gA μ_8 a_25 0 2 = some x_29 ∧
                rI ((x_26 * x_27) - (x_28 * x_29)) ∧
                ∃ a_31 : Nat, x_24 = some a_31 ∧
                gC μ_8 a_31 = some 2 ∧
                wc_X2_mod ad μ_8 a_31 ((x_26 * x_27) - (x_28 * x_29)) (fun y_32 =>
                  ∃ a_34 : Nat, x_23 = some a_34 ∧
                  gC μ_8 a_34 = some 2 ∧
                  wc_X2_inverse ad μ_8 a_34 y_32 (fun y_35 =>
                    ∃ a_37 : Nat, y_13 = some a_37 ∧
                    gC μ_8 a_37 = some 10 ∧
                    wc_X13_node ad μ_8 a_37 (fun y_38 =>
                      gC μ_8 a_37 = some 10 ∧
                      wc_X13_leg ad μ_8 a_37 (fun y_40 =>
                        ∃ x_42 : Int, gA μ_8 a_25 0 0 = some x_42 ∧
                        ∃ x_43 : Int, gA μ_8 a_25 0 1 = some x_43 ∧
                        ∃ x_44 : Int, gA μ_8 a_25 0 2 = some x_44 ∧
                        ∃ x_45 : Int, gA μ_8 a_25 0 3 = some x_45 ∧
                        gC μ_8 b = some 1 ∧
                        ∃ c_46 s_47 : Nat, (0 + c_5 + c_46 ≤ mc ∧ 0 + s_6 + s_47 ≤ ms) ∧
                        wc_X1_changes_2 ad c_46 s_47 μ_8 b y_38 y_40 x_42 x_43 x_44 x_45 (fun μ_49 =>
                          gC μ_49 a_37 = some 10 ∧
                          wc_X13_other ad μ_49 a_37 (fun y_50 =>
                            gC μ_49 a_37 = some 10 ∧
                            wc_X13_otherLeg ad μ_49 a_37 (fun y_52 =>
                              ∃ x_54 : Int, gA μ_49 a_25 0 3 = some x_54 ∧
                              ∃ x_55 : Int, gA μ_49 a_25 0 2 = some x_55 ∧
                              ∃ x_56 : Int, gA μ_49 a_25 0 1 = some x_56 ∧
                              ∃ x_57 : Int, gA μ_49 a_25 0 0 = some x_57 ∧
                              gC μ_49 b = some 1 ∧
                              ∃ c_58 s_59 : Nat, (0 + c_5 + c_46 + c_58 ≤ mc ∧ 0 + s_6 + s_47 + s_59 ≤ ms) ∧
                              wc_X1_changes_2 ad c_58 s_59 μ_49 b y_50 y_52 (x_54 * y_35) ((-x_55) * y_35) ((-x_56) * y_35) (x_57 * y_35) (fun μ_61 =>
                                P 1 μ_61)))))))))))) ∧
        (y_3 = 0 →
          P 0 μ))))))
set_option maxHeartbeats 4000000 in
theorem tm_X1_change {G : g_G} {l : Launch} {mc ms : Nat} {μ : HM} {b : Nat} {a1 : Int} {a2 : Int} {P : Int → HM → Prop} (h : wc_X1_change (g_ad G) mc ms μ b a1 a2 P) : CM G l yX1_change cX1_change 6 (Option.some Jvm.ClassFile.FieldType.boolean) 8 mc ms [.ref b, vI a1, vI a2] μ (hR2 P) := by
  unfold wc_X1_change at h
  refine wm_of (lvs := [(0, va_rf (some b)), (1, vI a1), (2, vI a2)]) (by decide) (Nat.le_of_ble_eq_true rfl) rfl (fun fr ws hM1 => ?_)
  show WW G l cX1_change RX1 6 (Option.some Jvm.ClassFile.FieldType.boolean) "change" 8 mc ms (hMR G (hR2 P)) (fun u => [u.1, fr]) 0 0 [ws, fr] 0 [(0, va_rf (some b)), (1, vI a1), (2, vI a2)] []
  have hB : 0 ≤ mc ∧ 0 ≤ ms := ⟨Nat.zero_le _, Nat.zero_le _⟩
  refine ww_aloadQ_n dX1_change_0 0 rfl ?_
  refine ww_iload_n dX1_change_1 1 rfl ?_
  obtain ⟨hg, h⟩ := h
  refine wm_callV (n := 1) hM1 (tm_X1_isWire h) rfl hg rfl (lw_V q2021 q2023 qs49 q108 q2024) ⟨by decide, by decide, by decide +kernel⟩ rfl ⟨Nat.le_of_ble_eq_true rfl, Nat.le_of_ble_eq_true rfl⟩ rfl (Nat.le_of_ble_eq_true rfl) dX1_change_2 hB ?_
  clear h
  rintro _ _ ws ⟨rfl, y_1, rfl, z_2, h⟩ hM2
  refine ww_st1 ?_
  refine ww_if_eq (tgt := 16) dX1_change_5 (by decide) (r_z z_2) (fun c => ?_) (fun c => ?_)
  · replace h := h.1 c
    refine ww_iconst dX1_change_16 ?_
    exact ww_zret (ws, μ) rfl (Or.inl rfl) ⟨hM2, ⟨_, rfl, Or.inl rfl, h⟩⟩ rfl hB.1 hB.2 dX1_change_17
  · replace h := h.2 c
    refine ww_aloadQ_n dX1_change_8 0 rfl ?_
    refine ww_iload_n dX1_change_9 2 rfl ?_
    obtain ⟨hg, h⟩ := h
    refine wm_callV (n := 1) hM2 (tm_X1_isBase h) rfl hg rfl (lw_V q1601 q1603 qs35 q108 q1604) ⟨by decide, by decide, by decide +kernel⟩ rfl ⟨Nat.le_of_ble_eq_true rfl, Nat.le_of_ble_eq_true rfl⟩ rfl (Nat.le_of_ble_eq_true rfl) dX1_change_10 hB ?_
    clear h
    rintro _ _ ws ⟨rfl, y_3, rfl, z_4, h⟩ hM3
    refine ww_st1 ?_
    refine ww_if_ne (tgt := 18) dX1_change_13 (by decide) (r_z z_4) (fun c => ?_) (fun c => ?_)
    · replace h := h.1 c
      refine ww_aloadQ_n dX1_change_18 0 rfl ?_
      obtain ⟨hg, h⟩ := h
      obtain ⟨c_5, s_6, b_7, h⟩ := h
      refine wm_callV (n := 0) hM3 (tm_X1_keepsAhead h) rfl hg rfl (lw_V q2025 q2027 qs50 q108 q2028) ⟨by decide, by decide, by decide +kernel⟩ rfl ⟨Nat.le_of_ble_eq_true rfl, Nat.le_of_ble_eq_true rfl⟩ rfl (Nat.le_of_ble_eq_true rfl) dX1_change_19 b_7 ?_
      clear h
      rintro _ μ_8 ws ⟨rfl, h⟩ hM4
      have hB := b_7
      refine ww_st0 ?_
      refine ww_aloadQ_n dX1_change_22 0 rfl ?_
      obtain ⟨x_9, hx, h⟩ := h
      refine wm_getQ hM4 rfl in_X1 (ci := 1) rfl (by decide) 3 (Nat.le_of_ble_eq_true rfl) hx (fun _ _ => rfl) q322 (fun _ _ h => h) dX1_change_23 ?_
      obtain ⟨a_11, ea_11, h⟩ := h
      subst ea_11
      obtain ⟨x_10, hx, h⟩ := h
      refine wm_getQN hM4 rfl in_X4 (ci := 4) rfl (by decide) 1 (Nat.le_of_ble_eq_true rfl) hx (fun _ _ => rfl) q300 (fun _ _ h => h) dX1_change_26 ?_
      refine ww_iload_n dX1_change_29 1 rfl ?_
      obtain ⟨a_12, ea_12, h⟩ := h
      subst ea_12
      obtain ⟨hg, h⟩ := h
      refine wm_callV (n := 1) hM4 (tm_J2_get h) rfl hg rfl (lw_V q2007 q1409 q1410 q113 q1411) ⟨by decide, by decide, by decide +kernel⟩ rfl ⟨Nat.le_of_ble_eq_true rfl, Nat.le_of_ble_eq_true rfl⟩ rfl (Nat.le_of_ble_eq_true rfl) dX1_change_30 hB ?_
      clear h
      rintro _ _ ws ⟨rfl, y_13, rfl, h⟩ hM5
      refine ww_st1 ?_
      obtain ⟨hc, h⟩ := h
      refine wm_cast hM5 hc cast_7 q2008 dX1_change_33 ?_
      refine ww_astoreQ_n (i := 3) (lv2 := [(3, va_rf y_13), (0, va_rf (some b)), (1, vI a1), (2, vI a2)]) dX1_change_36 rfl (Nat.le_of_ble_eq_true rfl) rfl ?_
      refine ww_aloadQ_n dX1_change_37 1 rfl ?_
      obtain ⟨x_15, hx, h⟩ := h
      refine wm_getQ hM5 rfl in_X1 (ci := 1) rfl (by decide) 2 (Nat.le_of_ble_eq_true rfl) hx (fun _ _ => rfl) q319 (fun _ _ h => h) dX1_change_38 ?_
      obtain ⟨a_17, ea_17, h⟩ := h
      subst ea_17
      obtain ⟨x_16, hx, h⟩ := h
      refine wm_getQN hM5 rfl in_X2 (ci := 2) rfl (by decide) 2 (Nat.le_of_ble_eq_true rfl) hx (fun _ _ => rfl) q264 (fun _ _ h => h) dX1_change_41 ?_
      refine ww_iload_n dX1_change_44 3 rfl ?_
      obtain ⟨a_18, ea_18, h⟩ := h
      subst ea_18
      obtain ⟨hg, h⟩ := h
      refine wm_callV (n := 1) hM5 (tm_X3_get h) rfl hg rfl (lw_V q1516 q1405 q1406 q110 q1407) ⟨by decide, by decide, by decide +kernel⟩ rfl ⟨Nat.le_of_ble_eq_true rfl, Nat.le_of_ble_eq_true rfl⟩ rfl (Nat.le_of_ble_eq_true rfl) dX1_change_45 hB ?_
      clear h
      rintro _ _ ws ⟨rfl, y_19, rfl, h⟩ hM6
      refine ww_st1 ?_
      obtain ⟨hc, h⟩ := h
      refine wm_cast hM6 hc cast_6 q1609 dX1_change_48 ?_
      obtain ⟨a_22, ea_22, h⟩ := h
      subst ea_22
      obtain ⟨x_21, hx, h⟩ := h
      refine wm_getQN hM6 rfl in_X11 (ci := 8) rfl (by decide) 2 (Nat.le_of_ble_eq_true rfl) hx (fun _ _ => rfl) q1367 (fun _ _ h => h) dX1_change_51 ?_
      refine ww_astoreQ (i := 4) (lv2 := [(4, va_rf x_21), (3, va_rf y_13), (0, va_rf (some b)), (1, vI a1), (2, vI a2)]) dX1_change_54 (Nat.le_of_ble_eq_true rfl) (by simp [rf_cat, vI_cat, vL_cat, ref_cat]) ?_
      refine ww_aloadQ_n dX1_change_56 2 rfl ?_
      obtain ⟨x_23, hx, h⟩ := h
      refine wm_getQ hM6 rfl in_X1 (ci := 1) rfl (by decide) 2 (Nat.le_of_ble_eq_true rfl) hx (fun _ _ => rfl) q319 (fun _ _ h => h) dX1_change_57 ?_
      refine ww_aloadQ_n dX1_change_60 2 rfl ?_
      obtain ⟨x_24, hx, h⟩ := h
      refine wm_getQ hM6 rfl in_X1 (ci := 1) rfl (by decide) 2 (Nat.le_of_ble_eq_true rfl) hx (fun _ _ => rfl) q319 (fun _ _ h => h) dX1_change_61 ?_
      refine ww_aloadQ dX1_change_64 0 rfl ?_
      refine ww_iconst dX1_change_66 ?_
      obtain ⟨a_25, ea_25, h⟩ := h
      subst ea_25
      obtain ⟨x_26, hx, h⟩ := h
      refine wm_iald hM6 rfl hx dX1_change_67 ?_
      refine ww_aloadQ dX1_change_68 0 rfl ?_
      refine ww_iconst dX1_change_70 ?_
      obtain ⟨x_27, hx, h⟩ := h
      refine wm_iald hM6 rfl hx dX1_change_71 ?_
      refine ww_imul dX1_change_72 ?_
      refine ww_aloadQ dX1_change_73 0 rfl ?_
      refine ww_iconst dX1_change_75 ?_
      obtain ⟨x_28, hx, h⟩ := h
      refine wm_iald hM6 rfl hx dX1_change_76 ?_
      refine ww_aloadQ dX1_change_77 0 rfl ?_
      refine ww_iconst dX1_change_79 ?_
      obtain ⟨x_29, hx, h⟩ := h
      refine wm_iald hM6 rfl hx dX1_change_80 ?_
      refine ww_imul dX1_change_81 ?_
      refine ww_isub dX1_change_82 ?_
      obtain ⟨r_30, h⟩ := h
      refine ww_i2l dX1_change_83 r_30 ?_
      obtain ⟨a_31, ea_31, h⟩ := h
      subst ea_31
      obtain ⟨hg, h⟩ := h
      refine wm_callV (n := 1) hM6 (tm_X2_mod h) rfl hg rfl (lw_V q1536 q1349 q1350 q109 q1351) ⟨by decide, by decide, by decide +kernel⟩ rfl ⟨Nat.le_of_ble_eq_true rfl, Nat.le_of_ble_eq_true rfl⟩ rfl (by simp only [List.map_cons, List.map_nil, rf_cat, vI_cat, vL_cat, List.sum_cons, List.sum_nil]; decide) dX1_change_84 hB ?_
      clear h
      rintro _ _ ws ⟨rfl, y_32, rfl, h⟩ hM7
      refine ww_st1 ?_
      obtain ⟨a_34, ea_34, h⟩ := h
      subst ea_34
      obtain ⟨hg, h⟩ := h
      refine wm_callV (n := 1) hM7 (tm_X2_inverse h) rfl hg rfl (lw_V q2063 q1592 q1593 q109 q1594) ⟨by decide, by decide, by decide +kernel⟩ rfl ⟨Nat.le_of_ble_eq_true rfl, Nat.le_of_ble_eq_true rfl⟩ rfl (Nat.le_of_ble_eq_true rfl) dX1_change_87 hB ?_
      clear h
      rintro _ _ ws ⟨rfl, y_35, rfl, h⟩ hM8
      refine ww_st1 ?_
      refine ww_istore (i := 5) (lv2 := [(5, vI y_35), (4, va_rf (some a_25)), (3, va_rf y_13), (0, va_rf (some b)), (1, vI a1), (2, vI a2)]) dX1_change_90 (Nat.le_of_ble_eq_true rfl) rfl ?_
      refine ww_aloadQ_n dX1_change_92 3 rfl ?_
      refine ww_aloadQ_n dX1_change_93 2 rfl ?_
      obtain ⟨a_37, ea_37, h⟩ := h
      subst ea_37
      obtain ⟨hg, h⟩ := h
      refine wm_callV (n := 0) hM8 (tm_X13_node h) rfl hg rfl (lw_V q2009 q1480 q1481 q147 q1482) ⟨by decide, by decide, by decide +kernel⟩ rfl ⟨Nat.le_of_ble_eq_true rfl, Nat.le_of_ble_eq_true rfl⟩ rfl (by simp only [List.map_cons, List.map_nil, rf_cat, vI_cat, vL_cat, List.sum_cons, List.sum_nil]; decide) dX1_change_94 hB ?_
      clear h
      rintro _ _ ws ⟨rfl, y_38, rfl, h⟩ hM9
      refine ww_st1 ?_
      refine ww_aloadQ_n dX1_change_97 2 rfl ?_
      obtain ⟨hg, h⟩ := h
      refine wm_callV (n := 0) hM9 (tm_X13_leg h) rfl hg rfl (lw_V q2064 q1484 q1485 q147 q1486) ⟨by decide, by decide, by decide +kernel⟩ rfl ⟨Nat.le_of_ble_eq_true rfl, Nat.le_of_ble_eq_true rfl⟩ rfl (by simp only [List.map_cons, List.map_nil, rf_cat, vI_cat, vL_cat, List.sum_cons, List.sum_nil]; decide) dX1_change_98 hB ?_
      clear h
      rintro _ _ ws ⟨rfl, y_40, rfl, h⟩ hM10
      refine ww_st1 ?_
      refine ww_aloadQ dX1_change_101 1 rfl ?_
      refine ww_iconst dX1_change_103 ?_
      obtain ⟨x_42, hx, h⟩ := h
      refine wm_iald hM10 rfl hx dX1_change_104 ?_
      refine ww_aloadQ dX1_change_105 1 rfl ?_
      refine ww_iconst dX1_change_107 ?_
      obtain ⟨x_43, hx, h⟩ := h
      refine wm_iald hM10 rfl hx dX1_change_108 ?_
      refine ww_aloadQ dX1_change_109 1 rfl ?_
      refine ww_iconst dX1_change_111 ?_
      obtain ⟨x_44, hx, h⟩ := h
      refine wm_iald hM10 rfl hx dX1_change_112 ?_
      refine ww_aloadQ dX1_change_113 1 rfl ?_
      refine ww_iconst dX1_change_115 ?_
      obtain ⟨x_45, hx, h⟩ := h
      refine wm_iald hM10 rfl hx dX1_change_116 ?_
      obtain ⟨hg, h⟩ := h
      obtain ⟨c_46, s_47, b_48, h⟩ := h
      refine wm_callV (n := 6) hM10 (tm_X1_changes_2 h) rfl hg rfl (lw_V q2065 q2067 qs52 q108 q2068) ⟨by decide, by decide, by decide +kernel⟩ rfl ⟨Nat.le_of_ble_eq_true rfl, Nat.le_of_ble_eq_true rfl⟩ rfl (Nat.le_of_ble_eq_true rfl) dX1_change_117 b_48 ?_
      clear h
      rintro _ μ_49 ws ⟨rfl, h⟩ hM11
      have hB := b_48
      refine ww_st0 ?_
      refine ww_aloadQ_n dX1_change_120 3 rfl ?_
      refine ww_aloadQ_n dX1_change_121 2 rfl ?_
      obtain ⟨hg, h⟩ := h
      refine wm_callV (n := 0) hM11 (tm_X13_other h) rfl hg rfl (lw_V q2010 q1488 q1489 q147 q1490) ⟨by decide, by decide, by decide +kernel⟩ rfl ⟨Nat.le_of_ble_eq_true rfl, Nat.le_of_ble_eq_true rfl⟩ rfl (by simp only [List.map_cons, List.map_nil, rf_cat, vI_cat, vL_cat, List.sum_cons, List.sum_nil]; decide) dX1_change_122 hB ?_
      clear h
      rintro _ _ ws ⟨rfl, y_50, rfl, h⟩ hM12
      refine ww_st1 ?_
      refine ww_aloadQ_n dX1_change_125 2 rfl ?_
      obtain ⟨hg, h⟩ := h
      refine wm_callV (n := 0) hM12 (tm_X13_otherLeg h) rfl hg rfl (lw_V q2078 q1492 q1493 q147 q1494) ⟨by decide, by decide, by decide +kernel⟩ rfl ⟨Nat.le_of_ble_eq_true rfl, Nat.le_of_ble_eq_true rfl⟩ rfl (by simp only [List.map_cons, List.map_nil, rf_cat, vI_cat, vL_cat, List.sum_cons, List.sum_nil]; decide) dX1_change_126 hB ?_
      clear h
      rintro _ _ ws ⟨rfl, y_52, rfl, h⟩ hM13
      refine ww_st1 ?_
      refine ww_aloadQ dX1_change_129 1 rfl ?_
      refine ww_iconst dX1_change_131 ?_
      obtain ⟨x_54, hx, h⟩ := h
      refine wm_iald hM13 rfl hx dX1_change_132 ?_
      refine ww_iload dX1_change_133 0 rfl ?_
      refine ww_imul dX1_change_135 ?_
      refine ww_aloadQ dX1_change_136 1 rfl ?_
      refine ww_iconst dX1_change_138 ?_
      obtain ⟨x_55, hx, h⟩ := h
      refine wm_iald hM13 rfl hx dX1_change_139 ?_
      refine ww_ineg dX1_change_140 ?_
      refine ww_iload dX1_change_141 0 rfl ?_
      refine ww_imul dX1_change_143 ?_
      refine ww_aloadQ dX1_change_144 1 rfl ?_
      refine ww_iconst dX1_change_146 ?_
      obtain ⟨x_56, hx, h⟩ := h
      refine wm_iald hM13 rfl hx dX1_change_147 ?_
      refine ww_ineg dX1_change_148 ?_
      refine ww_iload dX1_change_149 0 rfl ?_
      refine ww_imul dX1_change_151 ?_
      refine ww_aloadQ dX1_change_152 1 rfl ?_
      refine ww_iconst dX1_change_154 ?_
      obtain ⟨x_57, hx, h⟩ := h
      refine wm_iald hM13 rfl hx dX1_change_155 ?_
      refine ww_iload dX1_change_156 0 rfl ?_
      refine ww_imul dX1_change_158 ?_
      obtain ⟨hg, h⟩ := h
      obtain ⟨c_58, s_59, b_60, h⟩ := h
      refine wm_callV (n := 6) hM13 (tm_X1_changes_2 h) rfl hg rfl (lw_V q2065 q2067 qs52 q108 q2068) ⟨by decide, by decide, by decide +kernel⟩ rfl ⟨Nat.le_of_ble_eq_true rfl, Nat.le_of_ble_eq_true rfl⟩ rfl (Nat.le_of_ble_eq_true rfl) dX1_change_159 b_60 ?_
      clear h
      rintro _ μ_61 ws ⟨rfl, h⟩ hM14
      have hB := b_60
      refine ww_st0 ?_
      refine ww_iconst dX1_change_162 ?_
      exact ww_zret (ws, μ_61) rfl (Or.inr rfl) ⟨hM14, ⟨_, rfl, Or.inr rfl, h⟩⟩ rfl hB.1 hB.2 dX1_change_163
    · replace h := h.2 c
      refine ww_iconst dX1_change_16 ?_
      exact ww_zret (ws, μ) rfl (Or.inl rfl) ⟨hM3, ⟨_, rfl, Or.inl rfl, h⟩⟩ rfl hB.1 hB.2 dX1_change_17
/-! X1_plug: HoloNet plug (II)Z; flags (True, True, False), depth 8 -/
def wc_X1_plug (ad : Nat → Nat) (mc ms : Nat) (μ : HM) (b : Nat) (a1 : Int) (a2 : Int) (P : Int → HM → Prop) : Prop :=
  gC μ b = some 1 ∧
  wc_X1_isNode ad μ b a1 (fun y_1 =>
    ((y_1 = 0 →
      P 0 μ) ∧
    (¬ y_1 = 0 →
      gC μ b = some 1 ∧
      wc_X1_isTable ad μ b a2 (fun y_3 =>
        ((y_3 = 0 →
          P 0 μ) ∧
        (¬ y_3 = 0 →
          gC μ b = some 1 ∧
          wc_X1_legs ad μ b a1 (fun y_5 =>
            gC μ b = some 1 ∧
            wc_X1_at ad μ b a2 (fun y_7 =>
              ∃ a_10 : Nat, y_7 = some a_10 ∧
              ∃ x_9 : Int, gI μ a_10 7 2 = some x_9 ∧
              rI y_5 ∧
              rI x_9 ∧
              ((y_5 = x_9 →
                gC μ b = some 1 ∧
                ∃ c_13 s_14 : Nat, (0 + c_13 ≤ mc ∧ 0 + s_14 ≤ ms) ∧
                wc_X1_keepsAhead ad c_13 s_14 μ b (fun μ_16 =>
                  ∃ x_17 : Option Nat, gQ μ_16 b 1 3 = some x_17 ∧
                  ∃ a_19 : Nat, x_17 = some a_19 ∧
                  ∃ x_18 : Option Nat, gQ μ_16 a_19 4 0 = some x_18 ∧
                  gC μ_16 b = some 1 ∧
                  wc_X1_at ad μ_16 b a2 (fun y_20 =>
                    ∃ a_23 : Nat, y_20 = some a_23 ∧
                    ∃ x_22 : Option Nat, gQ μ_16 a_23 7 3 = some x_22 ∧
                    ∃ a_24 : Nat, x_18 = some a_24 ∧
                    ∃ a_27 : Nat, x_22 = some a_27 ∧
                    ∃ (n_25 : Nat) (f_26 : Int → Option Nat), μ_16 a_24 = some (hQ 6 n_25 f_26) ∧ hst μ_16 6 a_27 ∧ ((0 : Int) ≤ a1 ∧ a1 < (n_25 : Int) ∧ (n_25 : Int) < 2147483648) ∧
                    P 1 (hs μ_16 a_24 (hQ 6 n_25 (updI f_26 a1 (some a_27))))))) ∧
              (¬ y_5 = x_9 →
                P 0 μ))))))))))
set_option maxHeartbeats 4000000 in
theorem tm_X1_plug {G : g_G} {l : Launch} {mc ms : Nat} {μ : HM} {b : Nat} {a1 : Int} {a2 : Int} {P : Int → HM → Prop} (h : wc_X1_plug (g_ad G) mc ms μ b a1 a2 P) : CM G l yX1_plug cX1_plug 3 (Option.some Jvm.ClassFile.FieldType.boolean) 8 mc ms [.ref b, vI a1, vI a2] μ (hR2 P) := by
  unfold wc_X1_plug at h
  refine wm_of (lvs := [(0, va_rf (some b)), (1, vI a1), (2, vI a2)]) (by decide) (Nat.le_of_ble_eq_true rfl) rfl (fun fr ws hM1 => ?_)
  show WW G l cX1_plug RX1 3 (Option.some Jvm.ClassFile.FieldType.boolean) "plug" 8 mc ms (hMR G (hR2 P)) (fun u => [u.1, fr]) 0 0 [ws, fr] 0 [(0, va_rf (some b)), (1, vI a1), (2, vI a2)] []
  have hB : 0 ≤ mc ∧ 0 ≤ ms := ⟨Nat.zero_le _, Nat.zero_le _⟩
  refine ww_aloadQ_n dX1_plug_0 0 rfl ?_
  refine ww_iload_n dX1_plug_1 1 rfl ?_
  obtain ⟨hg, h⟩ := h
  refine wm_callV (n := 1) hM1 (tm_X1_isNode h) rfl hg rfl (lw_V q1640 q1642 qs40 q108 q1643) ⟨by decide, by decide, by decide +kernel⟩ rfl ⟨Nat.le_of_ble_eq_true rfl, Nat.le_of_ble_eq_true rfl⟩ rfl (Nat.le_of_ble_eq_true rfl) dX1_plug_2 hB ?_
  clear h
  rintro _ _ ws ⟨rfl, y_1, rfl, z_2, h⟩ hM2
  refine ww_st1 ?_
  refine ww_if_eq (tgt := 32) dX1_plug_5 (by decide) (r_z z_2) (fun c => ?_) (fun c => ?_)
  · replace h := h.1 c
    refine ww_iconst dX1_plug_32 ?_
    exact ww_zret (ws, μ) rfl (Or.inl rfl) ⟨hM2, ⟨_, rfl, Or.inl rfl, h⟩⟩ rfl hB.1 hB.2 dX1_plug_33
  · replace h := h.2 c
    refine ww_aloadQ_n dX1_plug_8 0 rfl ?_
    refine ww_iload_n dX1_plug_9 2 rfl ?_
    obtain ⟨hg, h⟩ := h
    refine wm_callV (n := 1) hM2 (tm_X1_isTable h) rfl hg rfl (lw_V q1503 q1505 qs29 q108 q1506) ⟨by decide, by decide, by decide +kernel⟩ rfl ⟨Nat.le_of_ble_eq_true rfl, Nat.le_of_ble_eq_true rfl⟩ rfl (Nat.le_of_ble_eq_true rfl) dX1_plug_10 hB ?_
    clear h
    rintro _ _ ws ⟨rfl, y_3, rfl, z_4, h⟩ hM3
    refine ww_st1 ?_
    refine ww_if_eq (tgt := 32) dX1_plug_13 (by decide) (r_z z_4) (fun c => ?_) (fun c => ?_)
    · replace h := h.1 c
      refine ww_iconst dX1_plug_32 ?_
      exact ww_zret (ws, μ) rfl (Or.inl rfl) ⟨hM3, ⟨_, rfl, Or.inl rfl, h⟩⟩ rfl hB.1 hB.2 dX1_plug_33
    · replace h := h.2 c
      refine ww_aloadQ_n dX1_plug_16 0 rfl ?_
      refine ww_iload_n dX1_plug_17 1 rfl ?_
      obtain ⟨hg, h⟩ := h
      refine wm_callV (n := 1) hM3 (tm_X1_legs h) rfl hg rfl (lw_V q1644 q1646 qs41 q108 q1647) ⟨by decide, by decide, by decide +kernel⟩ rfl ⟨Nat.le_of_ble_eq_true rfl, Nat.le_of_ble_eq_true rfl⟩ rfl (Nat.le_of_ble_eq_true rfl) dX1_plug_18 hB ?_
      clear h
      rintro _ _ ws ⟨rfl, y_5, rfl, h⟩ hM4
      refine ww_st1 ?_
      refine ww_aloadQ_n dX1_plug_21 0 rfl ?_
      refine ww_iload_n dX1_plug_22 2 rfl ?_
      obtain ⟨hg, h⟩ := h
      refine wm_callV (n := 1) hM4 (tm_X1_at h) rfl hg rfl (lw_V q1512 q1514 qs30 q108 q1515) ⟨by decide, by decide, by decide +kernel⟩ rfl ⟨Nat.le_of_ble_eq_true rfl, Nat.le_of_ble_eq_true rfl⟩ rfl (Nat.le_of_ble_eq_true rfl) dX1_plug_23 hB ?_
      clear h
      rintro _ _ ws ⟨rfl, y_7, rfl, h⟩ hM5
      refine ww_st1 ?_
      obtain ⟨a_10, ea_10, h⟩ := h
      subst ea_10
      obtain ⟨x_9, hx, h⟩ := h
      refine wm_getIN hM5 rfl in_X9 (ci := 7) rfl (by decide) 2 (Nat.le_of_ble_eq_true rfl) hx (fun _ _ => rfl) q1152 (fun _ _ h => h) dX1_plug_26 ?_
      obtain ⟨r_11, r_12, h⟩ := h
      refine ww_icmp_eq (tgt := 34) dX1_plug_29 (by decide) r_11 r_12 (fun c => ?_) (fun c => ?_)
      · replace h := h.1 c
        refine ww_aloadQ_n dX1_plug_34 0 rfl ?_
        obtain ⟨hg, h⟩ := h
        obtain ⟨c_13, s_14, b_15, h⟩ := h
        refine wm_callV (n := 0) hM5 (tm_X1_keepsAhead h) rfl hg rfl (lw_V q2025 q2027 qs50 q108 q2028) ⟨by decide, by decide, by decide +kernel⟩ rfl ⟨Nat.le_of_ble_eq_true rfl, Nat.le_of_ble_eq_true rfl⟩ rfl (Nat.le_of_ble_eq_true rfl) dX1_plug_35 b_15 ?_
        clear h
        rintro _ μ_16 ws ⟨rfl, h⟩ hM6
        have hB := b_15
        refine ww_st0 ?_
        refine ww_aloadQ_n dX1_plug_38 0 rfl ?_
        obtain ⟨x_17, hx, h⟩ := h
        refine wm_getQ hM6 rfl in_X1 (ci := 1) rfl (by decide) 3 (Nat.le_of_ble_eq_true rfl) hx (fun _ _ => rfl) q322 (fun _ _ h => h) dX1_plug_39 ?_
        obtain ⟨a_19, ea_19, h⟩ := h
        subst ea_19
        obtain ⟨x_18, hx, h⟩ := h
        refine wm_getQN hM6 rfl in_X4 (ci := 4) rfl (by decide) 0 (Nat.le_of_ble_eq_true rfl) hx (fun _ _ => rfl) q297 (fun _ _ h => h) dX1_plug_42 ?_
        refine ww_iload_n dX1_plug_45 1 rfl ?_
        refine ww_aloadQ_n dX1_plug_46 0 rfl ?_
        refine ww_iload_n dX1_plug_47 2 rfl ?_
        obtain ⟨hg, h⟩ := h
        refine wm_callV (n := 1) hM6 (tm_X1_at h) rfl hg rfl (lw_V q1512 q1514 qs30 q108 q1515) ⟨by decide, by decide, by decide +kernel⟩ rfl ⟨Nat.le_of_ble_eq_true rfl, Nat.le_of_ble_eq_true rfl⟩ rfl (by simp only [List.map_cons, List.map_nil, rf_cat, vI_cat, vL_cat, List.sum_cons, List.sum_nil]; decide) dX1_plug_48 hB ?_
        clear h
        rintro _ _ ws ⟨rfl, y_20, rfl, h⟩ hM7
        refine ww_st1 ?_
        obtain ⟨a_23, ea_23, h⟩ := h
        subst ea_23
        obtain ⟨x_22, hx, h⟩ := h
        refine wm_getQN hM7 rfl in_X9 (ci := 7) rfl (by decide) 3 (Nat.le_of_ble_eq_true rfl) hx (fun _ _ => rfl) q1156 (fun _ _ h => h) dX1_plug_51 ?_
        obtain ⟨a_24, ea_24, h⟩ := h
        subst ea_24
        obtain ⟨a_27, ea_27, h⟩ := h
        subst ea_27
        obtain ⟨n_25, f_26, hc, hx, hi, h⟩ := h
        refine wm_aast hM7 rfl rfl hc hx hi.1 hi.2.1 hi.2.2 dX1_plug_54 (fun ws hM8 => ?_)
        refine ww_iconst dX1_plug_55 ?_
        exact ww_zret (ws, (hs μ_16 a_24 (hQ 6 n_25 (updI f_26 a1 (some a_27))))) rfl (Or.inr rfl) ⟨hM8, ⟨_, rfl, Or.inr rfl, h⟩⟩ rfl hB.1 hB.2 dX1_plug_56
      · replace h := h.2 c
        refine ww_iconst dX1_plug_32 ?_
        exact ww_zret (ws, μ) rfl (Or.inl rfl) ⟨hM5, ⟨_, rfl, Or.inl rfl, h⟩⟩ rfl hB.1 hB.2 dX1_plug_33
