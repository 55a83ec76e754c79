/-! THE COMPONENT and what it calls: weakest preconditions and walks (printed by tools/comp.py) -/
set_option maxRecDepth 100000
/-! X6_isName: HoloNet$Reader isName ()Z; flags (True, False, False), depth 4 -/
def wc_X6_isName (ad : Nat → Nat) (μ : HM) (b : Nat) (P : Int → HM → Prop) : Prop :=
  ∃ x_1 : Option Nat, gQ μ b 5 6 = some x_1 ∧
  ∃ a_2 : Nat, x_1 = some a_2 ∧
  gC μ a_2 = some 22 ∧
  wc_J7_hashCode ad μ a_2 (fun y_3 μ_5 =>
    rI y_3 ∧
    ∃ J172 : Int → Prop, (∀ (v2_172 : Int), J172 v2_172 →
      rI v2_172 ∧
      (v2_172 = 0 →
        P 0 μ_5) ∧
      (v2_172 = 1 →
        P 0 μ_5) ∧
      (v2_172 = 2 →
        P 0 μ_5) ∧
      (v2_172 = 3 →
        P 0 μ_5) ∧
      (v2_172 = 4 →
        P 0 μ_5) ∧
      (v2_172 = 5 →
        P 0 μ_5) ∧
      (v2_172 = 6 →
        P 0 μ_5) ∧
      (v2_172 < 0 ∨ 6 < v2_172 →
        P 1 μ_5)) ∧
    (y_3 = 0 →
      gC μ_5 a_2 = some 22 ∧
      wc_J7_equals ad μ_5 a_2 (some (ad 10)) (fun y_8 =>
        ((y_8 = 0 →
          J172 (-1)) ∧
        (¬ y_8 = 0 →
          J172 0)))) ∧
    (y_3 = 3016401 →
      gC μ_5 a_2 = some 22 ∧
      wc_J7_equals ad μ_5 a_2 (some (ad 14)) (fun y_10 =>
        ((y_10 = 0 →
          J172 (-1)) ∧
        (¬ y_10 = 0 →
          J172 4)))) ∧
    (y_3 = 3165387 →
      gC μ_5 a_2 = some 22 ∧
      wc_J7_equals ad μ_5 a_2 (some (ad 13)) (fun y_12 =>
        ((y_12 = 0 →
          J172 (-1)) ∧
        (¬ y_12 = 0 →
          J172 3)))) ∧
    (y_3 = 3386882 →
      gC μ_5 a_2 = some 22 ∧
      wc_J7_equals ad μ_5 a_2 (some (ad 15)) (fun y_14 =>
        ((y_14 = 0 →
          J172 (-1)) ∧
        (¬ y_14 = 0 →
          J172 5)))) ∧
    (y_3 = 3649669 →
      gC μ_5 a_2 = some 22 ∧
      wc_J7_equals ad μ_5 a_2 (some (ad 16)) (fun y_16 =>
        ((y_16 = 0 →
          J172 (-1)) ∧
        (¬ y_16 = 0 →
          J172 6)))) ∧
    (y_3 = 97427706 →
      gC μ_5 a_2 = some 22 ∧
      wc_J7_equals ad μ_5 a_2 (some (ad 11)) (fun y_18 =>
        ((y_18 = 0 →
          J172 (-1)) ∧
        (¬ y_18 = 0 →
          J172 1)))) ∧
    (y_3 = 110115790 →
      gC μ_5 a_2 = some 22 ∧
      wc_J7_equals ad μ_5 a_2 (some (ad 12)) (fun y_20 =>
        ((y_20 = 0 →
          J172 (-1)) ∧
        (¬ y_20 = 0 →
          J172 2)))) ∧
    (¬ y_3 = 0 ∧ ¬ y_3 = 3016401 ∧ ¬ y_3 = 3165387 ∧ ¬ y_3 = 3386882 ∧ ¬ y_3 = 3649669 ∧ ¬ y_3 = 97427706 ∧ ¬ y_3 = 110115790 →
      J172 (-1)))
set_option maxHeartbeats 4000000 in
theorem tm_X6_isName {G : g_G} {l : Launch} {μ : HM} {b : Nat} {P : Int → HM → Prop} (h : wc_X6_isName (g_ad G) μ b P) : CM G l yX6_isName cX6_isName 3 (Option.some Jvm.ClassFile.FieldType.boolean) 4 0 0 [.ref b] μ (hR2 P) := by
  unfold wc_X6_isName at h
  refine wm_of (lvs := [(0, va_rf (some b))]) (by decide) (Nat.le_of_ble_eq_true rfl) rfl (fun fr ws hM1 => ?_)
  show WW G l cX6_isName RX6 3 (Option.some Jvm.ClassFile.FieldType.boolean) "isName" 4 0 0 (hMR G (hR2 P)) (fun u => [u.1, fr]) 0 0 [ws, fr] 0 [(0, va_rf (some b))] []
  refine ww_aloadQ_n dX6_isName_0 0 rfl ?_
  obtain ⟨x_1, hx, h⟩ := h
  refine wm_getQ hM1 rfl in_X6 (ci := 5) rfl (by decide) 6 (Nat.le_of_ble_eq_true rfl) hx (fun _ _ => rfl) q407 (fun _ _ h => h) dX6_isName_1 ?_
  refine ww_astoreQ_n (i := 1) (lv2 := [(1, va_rf x_1), (0, va_rf (some b))]) dX6_isName_4 rfl (Nat.le_of_ble_eq_true rfl) rfl ?_
  refine ww_iconst dX6_isName_5 ?_
  refine ww_istore_n (i := 2) (lv2 := [(2, vI (-1)), (1, va_rf x_1), (0, va_rf (some b))]) dX6_isName_6 rfl (Nat.le_of_ble_eq_true rfl) (by simp [rf_cat, vI_cat, vL_cat, ref_cat]) ?_
  refine ww_aloadQ_n dX6_isName_7 1 rfl ?_
  obtain ⟨a_2, ea_2, h⟩ := h
  subst ea_2
  obtain ⟨hg, h⟩ := h
  refine wm_callV (n := 0) hM1 (tm_J7_hashCode h) rfl hg rfl (lw_V q789 q790 q791 q121 q792) ⟨by decide, by decide, by decide +kernel⟩ rfl ⟨Nat.le_of_ble_eq_true rfl, Nat.le_of_ble_eq_true rfl⟩ rfl (Nat.le_of_ble_eq_true rfl) dX6_isName_8 ⟨Nat.le_refl _, Nat.le_refl _⟩ ?_
  clear h
  rintro _ μ_5 ws ⟨y_3, rfl, h⟩ hM2
  refine ww_st1 ?_
  obtain ⟨r_6, h⟩ := h
  obtain ⟨J172, hJ172, h⟩ := h
  have kJ172 : ∀ (v2_172 : Int), J172 v2_172 → ∀ ws : va_W, Mrep G ws μ_5 → WW G l cX6_isName RX6 3 (Option.some Jvm.ClassFile.FieldType.boolean) "isName" 4 0 0 (hMR G (hR2 P)) (fun u => [u.1, fr]) 0 0 [ws, fr] 172 [(2, vI v2_172)] [] := by
    clear h
    intro v2_172 hj ws hM3
    have h := hJ172 v2_172 hj
    refine ww_iload_n dX6_isName_172 0 rfl ?_
    obtain ⟨r_7, h⟩ := h
    by_cases c0 : v2_172 = 0
    · replace h := h.1 c0
      refine ww_tableIn (tgt := 216) dX6_isName_173 r_7 (by rw [c0]; decide) (by rw [c0]; decide) (by rw [c0]; rfl) (by decide) ?_
      refine ww_iconst dX6_isName_216 ?_
      exact ww_zret (ws, μ_5) rfl (Or.inl rfl) ⟨hM3, ⟨_, rfl, Or.inl rfl, h⟩⟩ rfl (Nat.le_refl _) (Nat.le_refl _) dX6_isName_217
    by_cases c1 : v2_172 = 1
    · replace h := h.2.1 c1
      refine ww_tableIn (tgt := 216) dX6_isName_173 r_7 (by rw [c1]; decide) (by rw [c1]; decide) (by rw [c1]; rfl) (by decide) ?_
      refine ww_iconst dX6_isName_216 ?_
      exact ww_zret (ws, μ_5) rfl (Or.inl rfl) ⟨hM3, ⟨_, rfl, Or.inl rfl, h⟩⟩ rfl (Nat.le_refl _) (Nat.le_refl _) dX6_isName_217
    by_cases c2 : v2_172 = 2
    · replace h := h.2.2.1 c2
      refine ww_tableIn (tgt := 216) dX6_isName_173 r_7 (by rw [c2]; decide) (by rw [c2]; decide) (by rw [c2]; rfl) (by decide) ?_
      refine ww_iconst dX6_isName_216 ?_
      exact ww_zret (ws, μ_5) rfl (Or.inl rfl) ⟨hM3, ⟨_, rfl, Or.inl rfl, h⟩⟩ rfl (Nat.le_refl _) (Nat.le_refl _) dX6_isName_217
    by_cases c3 : v2_172 = 3
    · replace h := h.2.2.2.1 c3
      refine ww_tableIn (tgt := 216) dX6_isName_173 r_7 (by rw [c3]; decide) (by rw [c3]; decide) (by rw [c3]; rfl) (by decide) ?_
      refine ww_iconst dX6_isName_216 ?_
      exact ww_zret (ws, μ_5) rfl (Or.inl rfl) ⟨hM3, ⟨_, rfl, Or.inl rfl, h⟩⟩ rfl (Nat.le_refl _) (Nat.le_refl _) dX6_isName_217
    by_cases c4 : v2_172 = 4
    · replace h := h.2.2.2.2.1 c4
      refine ww_tableIn (tgt := 216) dX6_isName_173 r_7 (by rw [c4]; decide) (by rw [c4]; decide) (by rw [c4]; rfl) (by decide) ?_
      refine ww_iconst dX6_isName_216 ?_
      exact ww_zret (ws, μ_5) rfl (Or.inl rfl) ⟨hM3, ⟨_, rfl, Or.inl rfl, h⟩⟩ rfl (Nat.le_refl _) (Nat.le_refl _) dX6_isName_217
    by_cases c5 : v2_172 = 5
    · replace h := h.2.2.2.2.2.1 c5
      refine ww_tableIn (tgt := 216) dX6_isName_173 r_7 (by rw [c5]; decide) (by rw [c5]; decide) (by rw [c5]; rfl) (by decide) ?_
      refine ww_iconst dX6_isName_216 ?_
      exact ww_zret (ws, μ_5) rfl (Or.inl rfl) ⟨hM3, ⟨_, rfl, Or.inl rfl, h⟩⟩ rfl (Nat.le_refl _) (Nat.le_refl _) dX6_isName_217
    by_cases c6 : v2_172 = 6
    · replace h := h.2.2.2.2.2.2.1 c6
      refine ww_tableIn (tgt := 216) dX6_isName_173 r_7 (by rw [c6]; decide) (by rw [c6]; decide) (by rw [c6]; rfl) (by decide) ?_
      refine ww_iconst dX6_isName_216 ?_
      exact ww_zret (ws, μ_5) rfl (Or.inl rfl) ⟨hM3, ⟨_, rfl, Or.inl rfl, h⟩⟩ rfl (Nat.le_refl _) (Nat.le_refl _) dX6_isName_217
    have c : v2_172 < 0 ∨ 6 < v2_172 := by omega
    replace h := h.2.2.2.2.2.2.2 c
    refine ww_tableOut (tgt := 218) dX6_isName_173 r_7 c (by decide) ?_
    refine ww_iconst dX6_isName_218 ?_
    exact ww_zret (ws, μ_5) rfl (Or.inr rfl) ⟨hM3, ⟨_, rfl, Or.inr rfl, h⟩⟩ rfl (Nat.le_refl _) (Nat.le_refl _) dX6_isName_219
  by_cases c0 : y_3 = 0
  · replace h := h.1 c0
    refine ww_lookup (tgt := 76) (off := 65) dX6_isName_11 (by decide) (by rw [c0]; rfl) (by decide) ?_
    refine ww_aloadQ_n dX6_isName_76 1 rfl ?_
    refine wm_ldcS 0 rfl dX6_isName_77 ?_
    obtain ⟨hg, h⟩ := h
    refine wm_callV (n := 1) hM2 (tm_J7_equals h) rfl hg rfl (lw_V q684 q685 q686 q121 q687) ⟨by decide, by decide, by decide +kernel⟩ rfl ⟨Nat.le_of_ble_eq_true rfl, Nat.le_of_ble_eq_true rfl⟩ rfl (Nat.le_of_ble_eq_true rfl) dX6_isName_79 ⟨Nat.le_refl _, Nat.le_refl _⟩ ?_
    clear h
    rintro _ _ ws ⟨rfl, y_8, rfl, z_9, h⟩ hM4
    refine ww_st1 ?_
    refine ww_if_eq (tgt := 172) dX6_isName_82 (by decide) (r_z z_9) (fun c => ?_) (fun c => ?_)
    · replace h := h.1 c
      refine ww_lv [0] rfl ?_
      exact kJ172 _ h _ hM4
    · replace h := h.2 c
      refine ww_iconst dX6_isName_85 ?_
      refine ww_istore_n (i := 2) (lv2 := [(2, vI 0), (1, va_rf (some a_2)), (0, va_rf (some b))]) dX6_isName_86 rfl (Nat.le_of_ble_eq_true rfl) rfl ?_
      refine ww_goto (tgt := 172) dX6_isName_87 (by decide) ?_
      refine ww_lv [0] rfl ?_
      exact kJ172 _ h _ hM4
  by_cases c1 : y_3 = 3016401
  · replace h := h.2.1 c1
    refine ww_lookup (tgt := 132) (off := 121) dX6_isName_11 (by decide) (by rw [c1]; rfl) (by decide) ?_
    refine ww_aloadQ_n dX6_isName_132 1 rfl ?_
    refine wm_ldcS 4 rfl dX6_isName_133 ?_
    obtain ⟨hg, h⟩ := h
    refine wm_callV (n := 1) hM2 (tm_J7_equals h) rfl hg rfl (lw_V q684 q685 q686 q121 q687) ⟨by decide, by decide, by decide +kernel⟩ rfl ⟨Nat.le_of_ble_eq_true rfl, Nat.le_of_ble_eq_true rfl⟩ rfl (Nat.le_of_ble_eq_true rfl) dX6_isName_135 ⟨Nat.le_refl _, Nat.le_refl _⟩ ?_
    clear h
    rintro _ _ ws ⟨rfl, y_10, rfl, z_11, h⟩ hM5
    refine ww_st1 ?_
    refine ww_if_eq (tgt := 172) dX6_isName_138 (by decide) (r_z z_11) (fun c => ?_) (fun c => ?_)
    · replace h := h.1 c
      refine ww_lv [0] rfl ?_
      exact kJ172 _ h _ hM5
    · replace h := h.2 c
      refine ww_iconst dX6_isName_141 ?_
      refine ww_istore_n (i := 2) (lv2 := [(2, vI 4), (1, va_rf (some a_2)), (0, va_rf (some b))]) dX6_isName_142 rfl (Nat.le_of_ble_eq_true rfl) rfl ?_
      refine ww_goto (tgt := 172) dX6_isName_143 (by decide) ?_
      refine ww_lv [0] rfl ?_
      exact kJ172 _ h _ hM5
  by_cases c2 : y_3 = 3165387
  · replace h := h.2.2.1 c2
    refine ww_lookup (tgt := 118) (off := 107) dX6_isName_11 (by decide) (by rw [c2]; rfl) (by decide) ?_
    refine ww_aloadQ_n dX6_isName_118 1 rfl ?_
    refine wm_ldcS 3 rfl dX6_isName_119 ?_
    obtain ⟨hg, h⟩ := h
    refine wm_callV (n := 1) hM2 (tm_J7_equals h) rfl hg rfl (lw_V q684 q685 q686 q121 q687) ⟨by decide, by decide, by decide +kernel⟩ rfl ⟨Nat.le_of_ble_eq_true rfl, Nat.le_of_ble_eq_true rfl⟩ rfl (Nat.le_of_ble_eq_true rfl) dX6_isName_121 ⟨Nat.le_refl _, Nat.le_refl _⟩ ?_
    clear h
    rintro _ _ ws ⟨rfl, y_12, rfl, z_13, h⟩ hM6
    refine ww_st1 ?_
    refine ww_if_eq (tgt := 172) dX6_isName_124 (by decide) (r_z z_13) (fun c => ?_) (fun c => ?_)
    · replace h := h.1 c
      refine ww_lv [0] rfl ?_
      exact kJ172 _ h _ hM6
    · replace h := h.2 c
      refine ww_iconst dX6_isName_127 ?_
      refine ww_istore_n (i := 2) (lv2 := [(2, vI 3), (1, va_rf (some a_2)), (0, va_rf (some b))]) dX6_isName_128 rfl (Nat.le_of_ble_eq_true rfl) rfl ?_
      refine ww_goto (tgt := 172) dX6_isName_129 (by decide) ?_
      refine ww_lv [0] rfl ?_
      exact kJ172 _ h _ hM6
  by_cases c3 : y_3 = 3386882
  · replace h := h.2.2.2.1 c3
    refine ww_lookup (tgt := 146) (off := 135) dX6_isName_11 (by decide) (by rw [c3]; rfl) (by decide) ?_
    refine ww_aloadQ_n dX6_isName_146 1 rfl ?_
    refine wm_ldcS 5 rfl dX6_isName_147 ?_
    obtain ⟨hg, h⟩ := h
    refine wm_callV (n := 1) hM2 (tm_J7_equals h) rfl hg rfl (lw_V q684 q685 q686 q121 q687) ⟨by decide, by decide, by decide +kernel⟩ rfl ⟨Nat.le_of_ble_eq_true rfl, Nat.le_of_ble_eq_true rfl⟩ rfl (Nat.le_of_ble_eq_true rfl) dX6_isName_149 ⟨Nat.le_refl _, Nat.le_refl _⟩ ?_
    clear h
    rintro _ _ ws ⟨rfl, y_14, rfl, z_15, h⟩ hM7
    refine ww_st1 ?_
    refine ww_if_eq (tgt := 172) dX6_isName_152 (by decide) (r_z z_15) (fun c => ?_) (fun c => ?_)
    · replace h := h.1 c
      refine ww_lv [0] rfl ?_
      exact kJ172 _ h _ hM7
    · replace h := h.2 c
      refine ww_iconst dX6_isName_155 ?_
      refine ww_istore_n (i := 2) (lv2 := [(2, vI 5), (1, va_rf (some a_2)), (0, va_rf (some b))]) dX6_isName_156 rfl (Nat.le_of_ble_eq_true rfl) rfl ?_
      refine ww_goto (tgt := 172) dX6_isName_157 (by decide) ?_
      refine ww_lv [0] rfl ?_
      exact kJ172 _ h _ hM7
  by_cases c4 : y_3 = 3649669
  · replace h := h.2.2.2.2.1 c4
    refine ww_lookup (tgt := 160) (off := 149) dX6_isName_11 (by decide) (by rw [c4]; rfl) (by decide) ?_
    refine ww_aloadQ_n dX6_isName_160 1 rfl ?_
    refine wm_ldcS 6 rfl dX6_isName_161 ?_
    obtain ⟨hg, h⟩ := h
    refine wm_callV (n := 1) hM2 (tm_J7_equals h) rfl hg rfl (lw_V q684 q685 q686 q121 q687) ⟨by decide, by decide, by decide +kernel⟩ rfl ⟨Nat.le_of_ble_eq_true rfl, Nat.le_of_ble_eq_true rfl⟩ rfl (Nat.le_of_ble_eq_true rfl) dX6_isName_163 ⟨Nat.le_refl _, Nat.le_refl _⟩ ?_
    clear h
    rintro _ _ ws ⟨rfl, y_16, rfl, z_17, h⟩ hM8
    refine ww_st1 ?_
    refine ww_if_eq (tgt := 172) dX6_isName_166 (by decide) (r_z z_17) (fun c => ?_) (fun c => ?_)
    · replace h := h.1 c
      refine ww_lv [0] rfl ?_
      exact kJ172 _ h _ hM8
    · replace h := h.2 c
      refine ww_bipush (v := 6) dX6_isName_169 rfl ?_
      refine ww_istore_n (i := 2) (lv2 := [(2, vI 6), (1, va_rf (some a_2)), (0, va_rf (some b))]) dX6_isName_171 rfl (Nat.le_of_ble_eq_true rfl) rfl ?_
      refine ww_lv [0] rfl ?_
      exact kJ172 _ h _ hM8
  by_cases c5 : y_3 = 97427706
  · replace h := h.2.2.2.2.2.1 c5
    refine ww_lookup (tgt := 90) (off := 79) dX6_isName_11 (by decide) (by rw [c5]; rfl) (by decide) ?_
    refine ww_aloadQ_n dX6_isName_90 1 rfl ?_
    refine wm_ldcS 1 rfl dX6_isName_91 ?_
    obtain ⟨hg, h⟩ := h
    refine wm_callV (n := 1) hM2 (tm_J7_equals h) rfl hg rfl (lw_V q684 q685 q686 q121 q687) ⟨by decide, by decide, by decide +kernel⟩ rfl ⟨Nat.le_of_ble_eq_true rfl, Nat.le_of_ble_eq_true rfl⟩ rfl (Nat.le_of_ble_eq_true rfl) dX6_isName_93 ⟨Nat.le_refl _, Nat.le_refl _⟩ ?_
    clear h
    rintro _ _ ws ⟨rfl, y_18, rfl, z_19, h⟩ hM9
    refine ww_st1 ?_
    refine ww_if_eq (tgt := 172) dX6_isName_96 (by decide) (r_z z_19) (fun c => ?_) (fun c => ?_)
    · replace h := h.1 c
      refine ww_lv [0] rfl ?_
      exact kJ172 _ h _ hM9
    · replace h := h.2 c
      refine ww_iconst dX6_isName_99 ?_
      refine ww_istore_n (i := 2) (lv2 := [(2, vI 1), (1, va_rf (some a_2)), (0, va_rf (some b))]) dX6_isName_100 rfl (Nat.le_of_ble_eq_true rfl) rfl ?_
      refine ww_goto (tgt := 172) dX6_isName_101 (by decide) ?_
      refine ww_lv [0] rfl ?_
      exact kJ172 _ h _ hM9
  by_cases c6 : y_3 = 110115790
  · replace h := h.2.2.2.2.2.2.1 c6
    refine ww_lookup (tgt := 104) (off := 93) dX6_isName_11 (by decide) (by rw [c6]; rfl) (by decide) ?_
    refine ww_aloadQ_n dX6_isName_104 1 rfl ?_
    refine wm_ldcS 2 rfl dX6_isName_105 ?_
    obtain ⟨hg, h⟩ := h
    refine wm_callV (n := 1) hM2 (tm_J7_equals h) rfl hg rfl (lw_V q684 q685 q686 q121 q687) ⟨by decide, by decide, by decide +kernel⟩ rfl ⟨Nat.le_of_ble_eq_true rfl, Nat.le_of_ble_eq_true rfl⟩ rfl (Nat.le_of_ble_eq_true rfl) dX6_isName_107 ⟨Nat.le_refl _, Nat.le_refl _⟩ ?_
    clear h
    rintro _ _ ws ⟨rfl, y_20, rfl, z_21, h⟩ hM10
    refine ww_st1 ?_
    refine ww_if_eq (tgt := 172) dX6_isName_110 (by decide) (r_z z_21) (fun c => ?_) (fun c => ?_)
    · replace h := h.1 c
      refine ww_lv [0] rfl ?_
      exact kJ172 _ h _ hM10
    · replace h := h.2 c
      refine ww_iconst dX6_isName_113 ?_
      refine ww_istore_n (i := 2) (lv2 := [(2, vI 2), (1, va_rf (some a_2)), (0, va_rf (some b))]) dX6_isName_114 rfl (Nat.le_of_ble_eq_true rfl) rfl ?_
      refine ww_goto (tgt := 172) dX6_isName_115 (by decide) ?_
      refine ww_lv [0] rfl ?_
      exact kJ172 _ h _ hM10
  replace h := h.2.2.2.2.2.2.2 ⟨c0, c1, c2, c3, c4, c5, c6⟩
  refine ww_lookup (tgt := 172) (off := 161) dX6_isName_11 (by decide) (by rw [rI_toInt r_6]; simp [Op.lookupswitch.offset, c0, c1, c2, c3, c4, c5, c6, (show ¬ (0 : Int) = y_3 from fun e => c0 e.symm), (show ¬ (3016401 : Int) = y_3 from fun e => c1 e.symm), (show ¬ (3165387 : Int) = y_3 from fun e => c2 e.symm), (show ¬ (3386882 : Int) = y_3 from fun e => c3 e.symm), (show ¬ (3649669 : Int) = y_3 from fun e => c4 e.symm), (show ¬ (97427706 : Int) = y_3 from fun e => c5 e.symm), (show ¬ (110115790 : Int) = y_3 from fun e => c6 e.symm)]) (by decide) ?_
  refine ww_lv [0] rfl ?_
  exact kJ172 _ h _ hM2
/-! J14_init_2: java/lang/Throwable <init> (Ljava/lang/String;Ljava/lang/Throwable;ZZ)V; flags (True, False, False), depth 1 -/
def wc_J14_init_2 (ad : Nat → Nat) (μ : HM) (b : Nat) (o1 : Option Nat) (o2 : Option Nat) (a3 : Int) (a4 : Int) (P : HM → Prop) : Prop :=
  ∃ (fi_1 : Nat → Int) (fq_2 : Nat → Option Nat), μ b = some (hO 6 fi_1 fq_2) ∧ 
  ∀ x_3 : Option Nat,
  ∃ (fi_4 : Nat → Int) (fq_5 : Nat → Option Nat), (hs μ b (hO 6 fi_1 (upF fq_2 0 (some b)))) b = some (hO 6 fi_4 fq_5) ∧ 
  ∀ x_6 : Option Nat,
  ∃ (fi_7 : Nat → Int) (fq_8 : Nat → Option Nat), (hs (hs μ b (hO 6 fi_1 (upF fq_2 0 (some b)))) b (hO 6 fi_4 (upF fq_5 1 x_3))) b = some (hO 6 fi_7 fq_8) ∧ 
  rI a4 ∧
  ((a4 = 0 →
    ∃ (fi_10 : Nat → Int) (fq_11 : Nat → Option Nat), (hs (hs (hs μ b (hO 6 fi_1 (upF fq_2 0 (some b)))) b (hO 6 fi_4 (upF fq_5 1 x_3))) b (hO 6 fi_7 (upF fq_8 2 x_6))) b = some (hO 6 fi_10 fq_11) ∧ 
    ∃ (fi_12 : Nat → Int) (fq_13 : Nat → Option Nat), (hs (hs (hs (hs μ b (hO 6 fi_1 (upF fq_2 0 (some b)))) b (hO 6 fi_4 (upF fq_5 1 x_3))) b (hO 6 fi_7 (upF fq_8 2 x_6))) b (hO 6 fi_10 (upF fq_11 1 none))) b = some (hO 6 fi_12 fq_13) ∧ 
    ∃ (fi_14 : Nat → Int) (fq_15 : Nat → Option Nat), (hs (hs (hs (hs (hs μ b (hO 6 fi_1 (upF fq_2 0 (some b)))) b (hO 6 fi_4 (upF fq_5 1 x_3))) b (hO 6 fi_7 (upF fq_8 2 x_6))) b (hO 6 fi_10 (upF fq_11 1 none))) b (hO 6 fi_12 (upF fq_13 3 o1))) b = some (hO 6 fi_14 fq_15) ∧ 
    rI a3 ∧
    ((¬ a3 = 0 →
      P (hs (hs (hs (hs (hs (hs μ b (hO 6 fi_1 (upF fq_2 0 (some b)))) b (hO 6 fi_4 (upF fq_5 1 x_3))) b (hO 6 fi_7 (upF fq_8 2 x_6))) b (hO 6 fi_10 (upF fq_11 1 none))) b (hO 6 fi_12 (upF fq_13 3 o1))) b (hO 6 fi_14 (upF fq_15 0 o2)))) ∧
    (a3 = 0 →
      ∃ (fi_17 : Nat → Int) (fq_18 : Nat → Option Nat), (hs (hs (hs (hs (hs (hs μ b (hO 6 fi_1 (upF fq_2 0 (some b)))) b (hO 6 fi_4 (upF fq_5 1 x_3))) b (hO 6 fi_7 (upF fq_8 2 x_6))) b (hO 6 fi_10 (upF fq_11 1 none))) b (hO 6 fi_12 (upF fq_13 3 o1))) b (hO 6 fi_14 (upF fq_15 0 o2))) b = some (hO 6 fi_17 fq_18) ∧ 
      ∀ μ_19 : HM, μ_19 = hs (hs (hs (hs (hs (hs (hs μ b (hO 6 fi_1 (upF fq_2 0 (some b)))) b (hO 6 fi_4 (upF fq_5 1 x_3))) b (hO 6 fi_7 (upF fq_8 2 x_6))) b (hO 6 fi_10 (upF fq_11 1 none))) b (hO 6 fi_12 (upF fq_13 3 o1))) b (hO 6 fi_14 (upF fq_15 0 o2))) b (hO 6 fi_17 (upF fq_18 2 none)) →
      P μ_19))) ∧
  (¬ a4 = 0 →
    False))
set_option maxHeartbeats 4000000 in
theorem tm_J14_init_2 {G : g_G} {l : Launch} {μ : HM} {b : Nat} {o1 : Option Nat} {o2 : Option Nat} {a3 : Int} {a4 : Int} {P : HM → Prop} (h : wc_J14_init_2 (g_ad G) μ b o1 o2 a3 a4 P) : CM G l yJ14_init_2 cJ14_init_2 5 (Option.none : Option Jvm.ClassFile.FieldType) 1 0 0 [.ref b, va_rf o1, va_rf o2, vI a3, vI a4] μ (hR0 P) := by
  unfold wc_J14_init_2 at h
  refine wm_of (lvs := [(0, va_rf (some b)), (1, va_rf o1), (2, va_rf o2), (3, vI a3), (4, vI a4)]) (by decide) (by simp [lg_sl, rf_cat, vI_cat, vL_cat, ref_cat]) (by simp [lv_args, rf_cat, vI_cat, vL_cat, ref_cat, rf_some]) (fun fr ws hM1 => ?_)
  show WW G l cJ14_init_2 RJ14 5 (Option.none : Option Jvm.ClassFile.FieldType) "<init>" 1 0 0 (hMR G (hR0 P)) (fun u => [u.1, fr]) 0 0 [ws, fr] 0 [(0, va_rf (some b)), (1, va_rf o1), (2, va_rf o2), (3, vI a3), (4, vI a4)] []
  refine ww_aloadQ_n dJ14_init_2_0 0 rfl ?_
  refine wm_objInit rfl q723 q170 q171 (Nat.le_of_ble_eq_true rfl) (Nat.le_of_ble_eq_true rfl) dJ14_init_2_1 ?_
  refine ww_aloadQ_n dJ14_init_2_4 0 rfl ?_
  refine ww_aloadQ_n dJ14_init_2_5 0 rfl ?_
  obtain ⟨fi_1, fq_2, hc, h⟩ := h
  refine wm_putQ hM1 rfl in_X7 tyX7_ok nmX7 (ci := 6) rfl 0 (Nat.le_of_ble_eq_true rfl) hc (fun _ _ => rfl) (fun _ _ => Nat.le_of_ble_eq_true rfl) q765 (fun _ _ h => h) rfl (narrow_rf rfl _) (fits_rf rfl _) dJ14_init_2_6 (fun ws hM2 => ?_)
  refine ww_aloadQ_n dJ14_init_2_9 0 rfl ?_
  refine wm_getsZ (C := "java/lang/Throwable") (n := "UNASSIGNED_STACK") (dd := "[Ljava/lang/StackTraceElement;") (by decide) q724 (fun _ _ h => h) dJ14_init_2_10 (fun x_3 => ?_)
  replace h := h x_3
  obtain ⟨fi_4, fq_5, hc, h⟩ := h
  refine wm_putQ hM2 rfl in_X7 tyX7_ok nmX7 (ci := 6) rfl 1 (Nat.le_of_ble_eq_true rfl) hc (fun _ _ => rfl) (fun _ _ => Nat.le_of_ble_eq_true rfl) q766 (fun _ _ h => h) rfl (narrow_rf rfl _) (fits_rf rfl _) dJ14_init_2_13 (fun ws hM3 => ?_)
  refine ww_aloadQ_n dJ14_init_2_16 0 rfl ?_
  refine wm_getsZ (C := "java/lang/Throwable") (n := "SUPPRESSED_SENTINEL") (dd := "Ljava/util/List;") (by decide) q726 (fun _ _ h => h) dJ14_init_2_17 (fun x_6 => ?_)
  replace h := h x_6
  obtain ⟨fi_7, fq_8, hc, h⟩ := h
  refine wm_putQ hM3 rfl in_X7 tyX7_ok nmX7 (ci := 6) rfl 2 (Nat.le_of_ble_eq_true rfl) hc (fun _ _ => rfl) (fun _ _ => Nat.le_of_ble_eq_true rfl) q767 (fun _ _ h => h) rfl (narrow_rf rfl _) (fits_rf rfl _) dJ14_init_2_20 (fun ws hM4 => ?_)
  refine ww_iload dJ14_init_2_23 4 rfl ?_
  obtain ⟨r_9, h⟩ := h
  refine ww_if_eq (tgt := 36) dJ14_init_2_25 (by decide) r_9 (fun c => ?_) (fun c => ?_)
  · replace h := h.1 c
    refine ww_aloadQ_n dJ14_init_2_36 0 rfl ?_
    refine ww_nullQ dJ14_init_2_37 ?_
    obtain ⟨fi_10, fq_11, hc, h⟩ := h
    refine wm_putQ hM4 rfl in_X7 tyX7_ok nmX7 (ci := 6) rfl 1 (Nat.le_of_ble_eq_true rfl) hc (fun _ _ => rfl) (fun _ _ => Nat.le_of_ble_eq_true rfl) q766 (fun _ _ h => h) rfl (narrow_rf rfl _) (fits_rf rfl _) dJ14_init_2_38 (fun ws hM5 => ?_)
    refine ww_aloadQ_n dJ14_init_2_41 0 rfl ?_
    refine ww_aloadQ_n dJ14_init_2_42 1 rfl ?_
    obtain ⟨fi_12, fq_13, hc, h⟩ := h
    refine wm_putQ hM5 rfl in_X7 tyX7_ok nmX7 (ci := 6) rfl 3 (Nat.le_of_ble_eq_true rfl) hc (fun _ _ => rfl) (fun _ _ => Nat.le_of_ble_eq_true rfl) q764 (fun _ _ h => h) rfl (narrow_rf rfl _) (fits_rf rfl _) dJ14_init_2_43 (fun ws hM6 => ?_)
    refine ww_aloadQ_n dJ14_init_2_46 0 rfl ?_
    refine ww_aloadQ_n dJ14_init_2_47 2 rfl ?_
    obtain ⟨fi_14, fq_15, hc, h⟩ := h
    refine wm_putQ hM6 rfl in_X7 tyX7_ok nmX7 (ci := 6) rfl 0 (Nat.le_of_ble_eq_true rfl) hc (fun _ _ => rfl) (fun _ _ => Nat.le_of_ble_eq_true rfl) q765 (fun _ _ h => h) rfl (narrow_rf rfl _) (fits_rf rfl _) dJ14_init_2_48 (fun ws hM7 => ?_)
    refine ww_iload_n dJ14_init_2_51 3 rfl ?_
    obtain ⟨r_16, h⟩ := h
    refine ww_if_ne (tgt := 60) dJ14_init_2_52 (by decide) r_16 (fun c => ?_) (fun c => ?_)
    · replace h := h.1 c
      exact ww_vret (ws, (hs (hs (hs (hs (hs (hs μ b (hO 6 fi_1 (upF fq_2 0 (some b)))) b (hO 6 fi_4 (upF fq_5 1 x_3))) b (hO 6 fi_7 (upF fq_8 2 x_6))) b (hO 6 fi_10 (upF fq_11 1 none))) b (hO 6 fi_12 (upF fq_13 3 o1))) b (hO 6 fi_14 (upF fq_15 0 o2)))) rfl ⟨hM7, ⟨rfl, h⟩⟩ rfl (Nat.le_refl _) (Nat.le_refl _) dJ14_init_2_60
    · replace h := h.2 c
      refine ww_aloadQ_n dJ14_init_2_55 0 rfl ?_
      refine ww_nullQ dJ14_init_2_56 ?_
      obtain ⟨fi_17, fq_18, hc, h⟩ := h
      refine wm_putQ hM7 rfl in_X7 tyX7_ok nmX7 (ci := 6) rfl 2 (Nat.le_of_ble_eq_true rfl) hc (fun _ _ => rfl) (fun _ _ => Nat.le_of_ble_eq_true rfl) q767 (fun _ _ h => h) rfl (narrow_rf rfl _) (fits_rf rfl _) dJ14_init_2_57 (fun ws hM8 => ?_)
      obtain ⟨μ_19, eμ_19⟩ : ∃ z : HM, z = hs (hs (hs (hs (hs (hs (hs μ b (hO 6 fi_1 (upF fq_2 0 (some b)))) b (hO 6 fi_4 (upF fq_5 1 x_3))) b (hO 6 fi_7 (upF fq_8 2 x_6))) b (hO 6 fi_10 (upF fq_11 1 none))) b (hO 6 fi_12 (upF fq_13 3 o1))) b (hO 6 fi_14 (upF fq_15 0 o2))) b (hO 6 fi_17 (upF fq_18 2 none)) := ⟨_, rfl⟩
      replace h := h μ_19 eμ_19
      rw [← eμ_19] at hM8
      exact ww_vret (ws, μ_19) rfl ⟨hM8, ⟨rfl, h⟩⟩ rfl (Nat.le_refl _) (Nat.le_refl _) dJ14_init_2_60
  · replace h := h.2 c
    refine ww_aloadQ_n dJ14_init_2_28 0 rfl ?_
    exact h.elim
/-! J15_init: java/lang/Exception <init> (Ljava/lang/String;Ljava/lang/Throwable;ZZ)V; flags (True, False, False), depth 2 -/
def wc_J15_init (ad : Nat → Nat) (μ : HM) (b : Nat) (o1 : Option Nat) (o2 : Option Nat) (a3 : Int) (a4 : Int) (P : HM → Prop) : Prop :=
  wc_J14_init_2 ad μ b o1 o2 a3 a4 (fun μ_1 =>
    P μ_1)
set_option maxHeartbeats 4000000 in
theorem tm_J15_init {G : g_G} {l : Launch} {μ : HM} {b : Nat} {o1 : Option Nat} {o2 : Option Nat} {a3 : Int} {a4 : Int} {P : HM → Prop} (h : wc_J15_init (g_ad G) μ b o1 o2 a3 a4 P) : CM G l yJ15_init cJ15_init 5 (Option.none : Option Jvm.ClassFile.FieldType) 2 0 0 [.ref b, va_rf o1, va_rf o2, vI a3, vI a4] μ (hR0 P) := by
  unfold wc_J15_init at h
  refine wm_of (lvs := [(0, va_rf (some b)), (1, va_rf o1), (2, va_rf o2), (3, vI a3), (4, vI a4)]) (by decide) (by simp [lg_sl, rf_cat, vI_cat, vL_cat, ref_cat]) (by simp [lv_args, rf_cat, vI_cat, vL_cat, ref_cat, rf_some]) (fun fr ws hM1 => ?_)
  show WW G l cJ15_init RJ15 5 (Option.none : Option Jvm.ClassFile.FieldType) "<init>" 2 0 0 (hMR G (hR0 P)) (fun u => [u.1, fr]) 0 0 [ws, fr] 0 [(0, va_rf (some b)), (1, va_rf o1), (2, va_rf o2), (3, vI a3), (4, vI a4)] []
  refine ww_aloadQ_n dJ15_init_0 0 rfl ?_
  refine ww_aloadQ_n dJ15_init_1 1 rfl ?_
  refine ww_aloadQ_n dJ15_init_2 2 rfl ?_
  refine ww_iload_n dJ15_init_3 3 rfl ?_
  refine ww_iload dJ15_init_4 4 rfl ?_
  refine wm_callI (n := 4) hM1 (tm_J14_init_2 h) rfl q760 q129 q758 q759 rfl ⟨by decide, by decide, by decide +kernel⟩ rfl ⟨Nat.le_of_ble_eq_true rfl, Nat.le_of_ble_eq_true rfl⟩ rfl (Nat.le_of_ble_eq_true rfl) dJ15_init_6 ⟨Nat.le_refl _, Nat.le_refl _⟩ ?_
  clear h
  rintro _ μ_1 ws ⟨rfl, h⟩ hM2
  refine ww_st0 ?_
  exact ww_vret (ws, μ_1) rfl ⟨hM2, ⟨rfl, h⟩⟩ rfl (Nat.le_refl _) (Nat.le_refl _) dJ15_init_9
/-! X7_init: HoloNet$Fault <init> (II)V; flags (True, False, False), depth 3 -/
def wc_X7_init (ad : Nat → Nat) (μ : HM) (b : Nat) (a1 : Int) (a2 : Int) (P : HM → Prop) : Prop :=
  wc_J15_init ad μ b none none 0 0 (fun μ_1 =>
    ∃ (fi_2 : Nat → Int) (fq_3 : Nat → Option Nat), μ_1 b = some (hO 6 fi_2 fq_3) ∧ 
    P (hs μ_1 b (hO 6 (upF fi_2 6 ((8 * a1) + a2)) fq_3)))
set_option maxHeartbeats 4000000 in
theorem tm_X7_init {G : g_G} {l : Launch} {μ : HM} {b : Nat} {a1 : Int} {a2 : Int} {P : HM → Prop} (h : wc_X7_init (g_ad G) μ b a1 a2 P) : CM G l yX7_init cX7_init 3 (Option.none : Option Jvm.ClassFile.FieldType) 3 0 0 [.ref b, vI a1, vI a2] μ (hR0 P) := by
  unfold wc_X7_init at h
  refine wm_of (lvs := [(0, va_rf (some b)), (1, vI a1), (2, vI a2)]) (by decide) (Nat.le_of_ble_eq_true rfl) rfl (fun fr ws hM1 => ?_)
  show WW G l cX7_init RX7 3 (Option.none : Option Jvm.ClassFile.FieldType) "<init>" 3 0 0 (hMR G (hR0 P)) (fun u => [u.1, fr]) 0 0 [ws, fr] 0 [(0, va_rf (some b)), (1, vI a1), (2, vI a2)] []
  refine ww_aloadQ_n dX7_init_0 0 rfl ?_
  refine ww_nullQ dX7_init_1 ?_
  refine ww_nullQ dX7_init_2 ?_
  refine ww_iconst dX7_init_3 ?_
  refine ww_iconst dX7_init_4 ?_
  refine wm_callI (n := 4) hM1 (tm_J15_init h) rfl q757 q130 q755 q756 rfl ⟨by decide, by decide, by decide +kernel⟩ rfl ⟨Nat.le_of_ble_eq_true rfl, Nat.le_of_ble_eq_true rfl⟩ rfl (Nat.le_of_ble_eq_true rfl) dX7_init_5 ⟨Nat.le_refl _, Nat.le_refl _⟩ ?_
  clear h
  rintro _ μ_1 ws ⟨rfl, h⟩ hM2
  refine ww_st0 ?_
  refine ww_aloadQ_n dX7_init_8 0 rfl ?_
  refine ww_bipush (v := 8) dX7_init_9 rfl ?_
  refine ww_iload_n dX7_init_11 1 rfl ?_
  refine ww_imul dX7_init_12 ?_
  refine ww_iload_n dX7_init_13 2 rfl ?_
  refine ww_iadd dX7_init_14 ?_
  obtain ⟨fi_2, fq_3, hc, h⟩ := h
  refine wm_putIF hM2 rfl in_X7 tyX7_ok nmX7 (ci := 6) rfl 6 (Nat.le_of_ble_eq_true rfl) hc (fun _ _ => rfl) (fun _ _ => Nat.le_of_ble_eq_true rfl) q761 (fun _ _ h => h) rfl rfl rfl rfl rfl dX7_init_15 (fun ws hM3 => ?_)
  exact ww_vret (ws, (hs μ_1 b (hO 6 (upF fi_2 6 ((8 * a1) + a2)) fq_3))) rfl ⟨hM3, ⟨rfl, h⟩⟩ rfl (Nat.le_refl _) (Nat.le_refl _) dX7_init_18
/-! X6_must: HoloNet$Reader must (ZI)V; flags (True, True, True), depth 4 -/
def wc_X6_must (ad : Nat → Nat) (mc ms : Nat) (μ : HM) (b : Nat) (a1 : Int) (a2 : Int) (P : HM → Prop) (X : Nat → String → HM → Prop) : Prop :=
  rI a1 ∧
  ((¬ a1 = 0 →
    P μ) ∧
  (a1 = 0 →
    (0 + 1 ≤ mc ∧ 0 + 7 ≤ ms) ∧ ∀ q_2 : Nat, μ q_2 = none →
    ∃ x_4 : Int, gI (hs μ q_2 (hO 6 (fun _ => 0) (fun _ => none))) b 5 5 = some x_4 ∧
    wc_X7_init ad (hs μ q_2 (hO 6 (fun _ => 0) (fun _ => none))) q_2 x_4 a2 (fun μ_5 =>
      ∃ (fi_6 : Nat → Int) (fq_7 : Nat → Option Nat), μ_5 q_2 = some (hO 6 fi_6 fq_7) ∧ X q_2 "HoloNet$Fault" μ_5)))
set_option maxHeartbeats 4000000 in
theorem tm_X6_must {G : g_G} {l : Launch} {mc ms : Nat} {μ : HM} {b : Nat} {a1 : Int} {a2 : Int} {P : HM → Prop} {X : Nat → String → HM → Prop} (h : wc_X6_must (g_ad G) mc ms μ b a1 a2 P X) : CMX G l yX6_must cX6_must 3 (Option.none : Option Jvm.ClassFile.FieldType) 4 mc ms [.ref b, vI a1, vI a2] μ (hR0 P) X := by
  unfold wc_X6_must at h
  refine wm_ofX (lvs := [(0, va_rf (some b)), (1, vI a1), (2, vI a2)]) (by decide) (Nat.le_of_ble_eq_true rfl) rfl (fun fr ws hM1 => ?_)
  show WF G l cX6_must RX6 3 (Option.none : Option Jvm.ClassFile.FieldType) "must" 4 mc ms (gFX G (hMR G (hR0 P)) (fun u => [u.1, fr]) (hMX G X) (fun u => [u.1, fr]) mc ms []) 0 0 [ws, fr] 0 [(0, va_rf (some b)), (1, vI a1), (2, vI a2)] []
  have hB : 0 ≤ mc ∧ 0 ≤ ms := ⟨Nat.zero_le _, Nat.zero_le _⟩
  refine ww_iload_n dX6_must_0 1 rfl ?_
  obtain ⟨r_1, h⟩ := h
  refine ww_if_ne (tgt := 17) dX6_must_1 (by decide) r_1 (fun c => ?_) (fun c => ?_)
  · replace h := h.1 c
    refine wx_lift ?_
    exact ww_vret (ws, μ) rfl ⟨hM1, ⟨rfl, h⟩⟩ rfl hB.1 hB.2 dX6_must_17
  · replace h := h.2 c
    obtain ⟨b_3, h⟩ := h
    refine wm_new hM1 in_X7 tyX7_ok q700 q701 q131 (ci := 6) rfl dfl_6 b_3.1 b_3.2 dX6_must_4 (fun q_2 ws hq hM2 => ?_)
    replace h := h q_2 hq
    have hB := b_3
    refine ww_dup dX6_must_7 (rf_cat _) ?_
    refine ww_aloadQ_n dX6_must_8 0 rfl ?_
    obtain ⟨x_4, hx, h⟩ := h
    refine wm_getI hM2 rfl in_X6 (ci := 5) rfl (by decide) 5 (Nat.le_of_ble_eq_true rfl) hx (fun _ _ => rfl) q406 (fun _ _ h => h) dX6_must_9 ?_
    refine ww_iload_n dX6_must_12 2 rfl ?_
    refine wm_callI (n := 2) hM2 (tm_X7_init h) rfl q754 q131 q752 q753 rfl ⟨by decide, by decide, by decide +kernel⟩ rfl ⟨Nat.le_of_ble_eq_true rfl, Nat.le_of_ble_eq_true rfl⟩ rfl (by simp only [List.map_cons, List.map_nil, rf_cat, vI_cat, vL_cat, List.sum_cons, List.sum_nil]; decide) dX6_must_13 hB ?_
    clear h
    rintro _ μ_5 ws ⟨rfl, h⟩ hM3
    refine ww_st0 ?_
    obtain ⟨fi_6, fq_7, hc, h⟩ := h
    exact wx_athrow hM3 rfl hc rfl dX6_must_16 (wx_out (fun _ hz => nomatch hz) (ws, μ_5) ⟨hM3, h⟩ rfl hB.1 hB.2)
/-! X6_begins: HoloNet$Reader begins (LHoloNet$Shelf;)Ljava/lang/String;; flags (True, True, True), depth 9 -/
def wc_X6_begins (ad : Nat → Nat) (mc ms : Nat) (μ : HM) (b : Nat) (o1 : Option Nat) (P : Option Nat → HM → Prop) (X : Nat → String → HM → Prop) : Prop :=
  ∃ a_1 : Nat, o1 = some a_1 ∧
  gC μ a_1 = some 3 ∧
  wc_X3_isFull ad μ a_1 (fun y_2 =>
    ∃ J13 : Int → Prop, (∀ (s1_13 : Int), J13 s1_13 →
      gC μ b = some 5 ∧
      ∃ c_4 s_5 : Nat, (0 + c_4 ≤ mc ∧ 0 + s_5 ≤ ms) ∧
      wc_X6_must ad c_4 s_5 μ b s1_13 5 (fun μ_7 =>
        gC μ_7 b = some 5 ∧
        ∃ c_11 s_12 : Nat, (0 + c_4 + c_11 ≤ mc ∧ 0 + s_5 + s_12 ≤ ms) ∧
        wc_X6_go ad c_11 s_12 μ_7 b (fun μ_14 =>
          gC μ_14 b = some 5 ∧
          wc_X6_isName ad μ_14 b (fun y_15 μ_17 =>
            gC μ_17 b = some 5 ∧
            ∃ c_18 s_19 : Nat, (0 + c_4 + c_11 + c_18 ≤ mc ∧ 0 + s_5 + s_12 + s_19 ≤ ms) ∧
            wc_X6_must ad c_18 s_19 μ_17 b y_15 1 (fun μ_21 =>
              ∃ x_25 : Option Nat, gQ μ_21 b 5 1 = some x_25 ∧
              ∃ x_26 : Option Nat, gQ μ_21 b 5 6 = some x_26 ∧
              ∃ a_27 : Nat, x_25 = some a_27 ∧
              gC μ_21 a_27 = some 2 ∧
              wc_X2_isTold ad μ_21 a_27 x_26 (fun y_28 =>
                ∃ J50 : Int → Prop, (∀ (s1_50 : Int), J50 s1_50 →
                  gC μ_21 b = some 5 ∧
                  ∃ c_30 s_31 : Nat, (0 + c_4 + c_11 + c_18 + c_30 ≤ mc ∧ 0 + s_5 + s_12 + s_19 + s_31 ≤ ms) ∧
                  wc_X6_must ad c_30 s_31 μ_21 b s1_50 2 (fun μ_33 =>
                    ∃ x_37 : Option Nat, gQ μ_33 b 5 6 = some x_37 ∧
                    gC μ_33 b = some 5 ∧
                    ∃ c_38 s_39 : Nat, (0 + c_4 + c_11 + c_18 + c_30 + c_38 ≤ mc ∧ 0 + s_5 + s_12 + s_19 + s_31 + s_39 ≤ ms) ∧
                    wc_X6_go ad c_38 s_39 μ_33 b (fun μ_41 =>
                      P x_37 μ_41)) (fun q_34 E_35 μ_36 =>
                    X q_34 E_35 μ_36)) ∧
                ((¬ y_28 = 0 →
                  J50 0) ∧
                (y_28 = 0 →
                  J50 1)))) (fun q_22 E_23 μ_24 =>
              X q_22 E_23 μ_24)))) (fun q_8 E_9 μ_10 =>
        X q_8 E_9 μ_10)) ∧
    ((¬ y_2 = 0 →
      J13 0) ∧
    (y_2 = 0 →
      J13 1)))
set_option maxHeartbeats 4000000 in
theorem tm_X6_begins {G : g_G} {l : Launch} {mc ms : Nat} {μ : HM} {b : Nat} {o1 : Option Nat} {P : Option Nat → HM → Prop} {X : Nat → String → HM → Prop} (h : wc_X6_begins (g_ad G) mc ms μ b o1 P X) : CMX G l yX6_begins cX6_begins 3 (Option.some (Jvm.ClassFile.FieldType.object "java/lang/String")) 9 mc ms [.ref b, va_rf o1] μ (hR4 P) X := by
  unfold wc_X6_begins at h
  refine wm_ofX (lvs := [(0, va_rf (some b)), (1, va_rf o1)]) (by decide) (by simp [lg_sl, rf_cat, vI_cat, vL_cat, ref_cat]) (by simp [lv_args, rf_cat, vI_cat, vL_cat, ref_cat, rf_some]) (fun fr ws hM1 => ?_)
  show WF G l cX6_begins RX6 3 (Option.some (Jvm.ClassFile.FieldType.object "java/lang/String")) "begins" 9 mc ms (gFX G (hMR G (hR4 P)) (fun u => [u.1, fr]) (hMX G X) (fun u => [u.1, fr]) mc ms []) 0 0 [ws, fr] 0 [(0, va_rf (some b)), (1, va_rf o1)] []
  have hB : 0 ≤ mc ∧ 0 ≤ ms := ⟨Nat.zero_le _, Nat.zero_le _⟩
  refine ww_aloadQ_n dX6_begins_0 0 rfl ?_
  refine ww_aloadQ_n dX6_begins_1 1 rfl ?_
  obtain ⟨a_1, ea_1, h⟩ := h
  subst ea_1
  obtain ⟨hg, h⟩ := h
  refine wm_callV (n := 0) hM1 (tm_X3_isFull h) rfl hg rfl (lw_V q851 q852 q853 q110 q854) ⟨by decide, by decide, by decide +kernel⟩ rfl ⟨Nat.le_of_ble_eq_true rfl, Nat.le_of_ble_eq_true rfl⟩ rfl (by simp only [List.map_cons, List.map_nil, rf_cat, vI_cat, vL_cat, List.sum_cons, List.sum_nil]; decide) dX6_begins_2 hB ?_
  clear h
  rintro _ _ ws ⟨rfl, y_2, rfl, z_3, h⟩ hM2
  refine ww_st1 ?_
  obtain ⟨J13, hJ13, h⟩ := h
  have kJ13 : ∀ (s1_13 : Int), J13 s1_13 → ∀ ws : va_W, Mrep G ws μ → (0 ≤ mc ∧ 0 ≤ ms) → WF G l cX6_begins RX6 3 (Option.some (Jvm.ClassFile.FieldType.object "java/lang/String")) "begins" 9 mc ms (gFX G (hMR G (hR4 P)) (fun u => [u.1, fr]) (hMX G X) (fun u => [u.1, fr]) mc ms []) 0 0 [ws, fr] 13 [(0, va_rf (some b))] [vI s1_13, va_rf (some b)] := by
    clear h
    intro s1_13 hj ws hM3 hB
    have h := hJ13 s1_13 hj
    refine ww_iconst dX6_begins_13 ?_
    obtain ⟨hg, h⟩ := h
    obtain ⟨c_4, s_5, b_6, h⟩ := h
    refine wm_callX (n := 2) hM3 (tm_X6_must h) rfl hg rfl (lw_V q696 q698 qs4 q118 q699) ⟨by decide, by decide, by decide +kernel⟩ rfl ⟨Nat.le_of_ble_eq_true rfl, Nat.le_of_ble_eq_true rfl⟩ rfl (Nat.le_of_ble_eq_true rfl) dX6_begins_14 b_6 ?_ ?_
    · clear h
      intro q_8 E_9 μ_10 ws h hM4
      have hB := b_6
      exact wx_out (fun _ hz => nomatch hz) (ws, μ_10) ⟨hM4, h⟩ rfl hB.1 hB.2
    · clear h
      rintro _ μ_7 ws ⟨rfl, h⟩ hM5
      have hB := b_6
      refine ww_st0 ?_
      refine ww_aloadQ_n dX6_begins_17 0 rfl ?_
      obtain ⟨hg, h⟩ := h
      obtain ⟨c_11, s_12, b_13, h⟩ := h
      refine wm_callV (n := 0) hM5 (tm_X6_go h) rfl hg rfl (lw_V q439 q441 qs0 q118 q442) ⟨by decide, by decide, by decide +kernel⟩ rfl ⟨Nat.le_of_ble_eq_true rfl, Nat.le_of_ble_eq_true rfl⟩ rfl (Nat.le_of_ble_eq_true rfl) dX6_begins_18 b_13 ?_
      clear h
      rintro _ μ_14 ws ⟨rfl, h⟩ hM6
      have hB := b_13
      refine ww_st0 ?_
      refine ww_aloadQ_n dX6_begins_21 0 rfl ?_
      refine ww_aloadQ_n dX6_begins_22 0 rfl ?_
      obtain ⟨hg, h⟩ := h
      refine wm_callV (n := 0) hM6 (tm_X6_isName h) rfl hg rfl (lw_V q859 q861 qs11 q118 q862) ⟨by decide, by decide, by decide +kernel⟩ rfl ⟨Nat.le_of_ble_eq_true rfl, Nat.le_of_ble_eq_true rfl⟩ rfl (by simp only [List.map_cons, List.map_nil, rf_cat, vI_cat, vL_cat, List.sum_cons, List.sum_nil]; decide) dX6_begins_23 hB ?_
      clear h
      rintro _ μ_17 ws ⟨y_15, rfl, z_16, h⟩ hM7
      refine ww_st1 ?_
      refine ww_iconst dX6_begins_26 ?_
      obtain ⟨hg, h⟩ := h
      obtain ⟨c_18, s_19, b_20, h⟩ := h
      refine wm_callX (n := 2) hM7 (tm_X6_must h) rfl hg rfl (lw_V q696 q698 qs4 q118 q699) ⟨by decide, by decide, by decide +kernel⟩ rfl ⟨Nat.le_of_ble_eq_true rfl, Nat.le_of_ble_eq_true rfl⟩ rfl (Nat.le_of_ble_eq_true rfl) dX6_begins_27 b_20 ?_ ?_
      · clear h
        intro q_22 E_23 μ_24 ws h hM8
        have hB := b_20
        exact wx_out (fun _ hz => nomatch hz) (ws, μ_24) ⟨hM8, h⟩ rfl hB.1 hB.2
      · clear h
        rintro _ μ_21 ws ⟨rfl, h⟩ hM9
        have hB := b_20
        refine ww_st0 ?_
        refine ww_aloadQ_n dX6_begins_30 0 rfl ?_
        refine ww_aloadQ_n dX6_begins_31 0 rfl ?_
        obtain ⟨x_25, hx, h⟩ := h
        refine wm_getQ hM9 rfl in_X6 (ci := 5) rfl (by decide) 1 (Nat.le_of_ble_eq_true rfl) hx (fun _ _ => rfl) q400 (fun _ _ h => h) dX6_begins_32 ?_
        refine ww_aloadQ_n dX6_begins_35 0 rfl ?_
        obtain ⟨x_26, hx, h⟩ := h
        refine wm_getQ hM9 rfl in_X6 (ci := 5) rfl (by decide) 6 (Nat.le_of_ble_eq_true rfl) hx (fun _ _ => rfl) q407 (fun _ _ h => h) dX6_begins_36 ?_
        obtain ⟨a_27, ea_27, h⟩ := h
        subst ea_27
        obtain ⟨hg, h⟩ := h
        refine wm_callV (n := 1) hM9 (tm_X2_isTold h) rfl hg rfl (lw_V q863 q864 q865 q109 q866) ⟨by decide, by decide, by decide +kernel⟩ rfl ⟨Nat.le_of_ble_eq_true rfl, Nat.le_of_ble_eq_true rfl⟩ rfl (by simp only [List.map_cons, List.map_nil, rf_cat, vI_cat, vL_cat, List.sum_cons, List.sum_nil]; decide) dX6_begins_39 hB ?_
        clear h
        rintro _ _ ws ⟨rfl, y_28, rfl, z_29, h⟩ hM10
        refine ww_st1 ?_
        obtain ⟨J50, hJ50, h⟩ := h
        have kJ50 : ∀ (s1_50 : Int), J50 s1_50 → ∀ ws : va_W, Mrep G ws μ_21 → (0 + c_4 + c_11 + c_18 ≤ mc ∧ 0 + s_5 + s_12 + s_19 ≤ ms) → WF G l cX6_begins RX6 3 (Option.some (Jvm.ClassFile.FieldType.object "java/lang/String")) "begins" 9 mc ms (gFX G (hMR G (hR4 P)) (fun u => [u.1, fr]) (hMX G X) (fun u => [u.1, fr]) mc ms []) (0 + c_4 + c_11 + c_18) (0 + s_5 + s_12 + s_19) [ws, fr] 50 [(0, va_rf (some b))] [vI s1_50, va_rf (some b)] := by
          clear h
          intro s1_50 hj ws hM11 hB
          have h := hJ50 s1_50 hj
          refine ww_iconst dX6_begins_50 ?_
          obtain ⟨hg, h⟩ := h
          obtain ⟨c_30, s_31, b_32, h⟩ := h
          refine wm_callX (n := 2) hM11 (tm_X6_must h) rfl hg rfl (lw_V q696 q698 qs4 q118 q699) ⟨by decide, by decide, by decide +kernel⟩ rfl ⟨Nat.le_of_ble_eq_true rfl, Nat.le_of_ble_eq_true rfl⟩ rfl (Nat.le_of_ble_eq_true rfl) dX6_begins_51 b_32 ?_ ?_
          · clear h
            intro q_34 E_35 μ_36 ws h hM12
            have hB := b_32
            exact wx_out (fun _ hz => nomatch hz) (ws, μ_36) ⟨hM12, h⟩ rfl hB.1 hB.2
          · clear h
            rintro _ μ_33 ws ⟨rfl, h⟩ hM13
            have hB := b_32
            refine ww_st0 ?_
            refine ww_aloadQ_n dX6_begins_54 0 rfl ?_
            obtain ⟨x_37, hx, h⟩ := h
            refine wm_getQ hM13 rfl in_X6 (ci := 5) rfl (by decide) 6 (Nat.le_of_ble_eq_true rfl) hx (fun _ _ => rfl) q407 (fun _ _ h => h) dX6_begins_55 ?_
            refine ww_astoreQ_n (i := 2) (lv2 := [(2, va_rf x_37), (0, va_rf (some b))]) dX6_begins_58 rfl (Nat.le_of_ble_eq_true rfl) rfl ?_
            refine ww_aloadQ_n dX6_begins_59 1 rfl ?_
            obtain ⟨hg, h⟩ := h
            obtain ⟨c_38, s_39, b_40, h⟩ := h
            refine wm_callV (n := 0) hM13 (tm_X6_go h) rfl hg rfl (lw_V q439 q441 qs0 q118 q442) ⟨by decide, by decide, by decide +kernel⟩ rfl ⟨Nat.le_of_ble_eq_true rfl, Nat.le_of_ble_eq_true rfl⟩ rfl (Nat.le_of_ble_eq_true rfl) dX6_begins_60 b_40 ?_
            clear h
            rintro _ μ_41 ws ⟨rfl, h⟩ hM14
            have hB := b_40
            refine ww_st0 ?_
            refine ww_aloadQ_n dX6_begins_63 0 rfl ?_
            refine wx_lift ?_
            exact ww_aret (ws, μ_41) rfl (by first | exact Or.inl ⟨_, rfl⟩ | exact Or.inr ⟨_, rfl⟩) (rf_or _) ⟨hM14, ⟨_, rfl, h⟩⟩ rfl hB.1 hB.2 dX6_begins_64
        refine ww_if_ne (tgt := 49) dX6_begins_42 (by decide) (r_z z_29) (fun c => ?_) (fun c => ?_)
        · replace h := h.1 c
          refine ww_iconst dX6_begins_49 ?_
          exact kJ50 _ h _ hM10 hB
        · replace h := h.2 c
          refine ww_iconst dX6_begins_45 ?_
          refine ww_goto (tgt := 50) dX6_begins_46 (by decide) ?_
          exact kJ50 _ h _ hM10 hB
  refine ww_if_ne (tgt := 12) dX6_begins_5 (by decide) (r_z z_3) (fun c => ?_) (fun c => ?_)
  · replace h := h.1 c
    refine ww_iconst dX6_begins_12 ?_
    refine ww_lv [0] rfl ?_
    exact kJ13 _ h _ hM2 hB
  · replace h := h.2 c
    refine ww_iconst dX6_begins_8 ?_
    refine ww_goto (tgt := 13) dX6_begins_9 (by decide) ?_
    refine ww_lv [0] rfl ?_
    exact kJ13 _ h _ hM2 hB
/-! X6_looks: HoloNet$Reader looks (II)V; flags (True, True, True), depth 5 -/
def wc_X6_looks (ad : Nat → Nat) (mc ms : Nat) (μ : HM) (b : Nat) (a1 : Int) (a2 : Int) (P : HM → Prop) (X : Nat → String → HM → Prop) : Prop :=
  ∃ x_1 : Int, gI μ b 5 7 = some x_1 ∧
  rI x_1 ∧
  ∃ J14 : Int → Prop, (∀ (s1_14 : Int), J14 s1_14 →
    gC μ b = some 5 ∧
    ∃ c_3 s_4 : Nat, (0 + c_3 ≤ mc ∧ 0 + s_4 ≤ ms) ∧
    wc_X6_must ad c_3 s_4 μ b s1_14 1 (fun μ_6 =>
      ∃ x_10 : Int, gI μ_6 b 5 7 = some x_10 ∧
      rI x_10 ∧
      rI a1 ∧
      rI a2 ∧
      wc_X1_within ad μ_6 x_10 a1 a2 (fun y_14 =>
        gC μ_6 b = some 5 ∧
        ∃ c_16 s_17 : Nat, (0 + c_3 + c_16 ≤ mc ∧ 0 + s_4 + s_17 ≤ ms) ∧
        wc_X6_must ad c_16 s_17 μ_6 b y_14 4 (fun μ_19 =>
          P μ_19) (fun q_20 E_21 μ_22 =>
          X q_20 E_21 μ_22))) (fun q_7 E_8 μ_9 =>
      X q_7 E_8 μ_9)) ∧
  ((x_1 = (-1) →
    J14 0) ∧
  (¬ x_1 = (-1) →
    J14 1))
set_option maxHeartbeats 4000000 in
theorem tm_X6_looks {G : g_G} {l : Launch} {mc ms : Nat} {μ : HM} {b : Nat} {a1 : Int} {a2 : Int} {P : HM → Prop} {X : Nat → String → HM → Prop} (h : wc_X6_looks (g_ad G) mc ms μ b a1 a2 P X) : CMX G l yX6_looks cX6_looks 3 (Option.none : Option Jvm.ClassFile.FieldType) 5 mc ms [.ref b, vI a1, vI a2] μ (hR0 P) X := by
  unfold wc_X6_looks at h
  refine wm_ofX (lvs := [(0, va_rf (some b)), (1, vI a1), (2, vI a2)]) (by decide) (Nat.le_of_ble_eq_true rfl) rfl (fun fr ws hM1 => ?_)
  show WF G l cX6_looks RX6 3 (Option.none : Option Jvm.ClassFile.FieldType) "looks" 5 mc ms (gFX G (hMR G (hR0 P)) (fun u => [u.1, fr]) (hMX G X) (fun u => [u.1, fr]) mc ms []) 0 0 [ws, fr] 0 [(0, va_rf (some b)), (1, vI a1), (2, vI a2)] []
  have hB : 0 ≤ mc ∧ 0 ≤ ms := ⟨Nat.zero_le _, Nat.zero_le _⟩
  refine ww_aloadQ_n dX6_looks_0 0 rfl ?_
  refine ww_aloadQ_n dX6_looks_1 0 rfl ?_
  obtain ⟨x_1, hx, h⟩ := h
  refine wm_getI hM1 rfl in_X6 (ci := 5) rfl (by decide) 7 (Nat.le_of_ble_eq_true rfl) hx (fun _ _ => rfl) q408 (fun _ _ h => h) dX6_looks_2 ?_
  refine ww_iconst dX6_looks_5 ?_
  obtain ⟨r_2, h⟩ := h
  obtain ⟨J14, hJ14, h⟩ := h
  have kJ14 : ∀ (s1_14 : Int), J14 s1_14 → ∀ ws : va_W, Mrep G ws μ → (0 ≤ mc ∧ 0 ≤ ms) → WF G l cX6_looks RX6 3 (Option.none : Option Jvm.ClassFile.FieldType) "looks" 5 mc ms (gFX G (hMR G (hR0 P)) (fun u => [u.1, fr]) (hMX G X) (fun u => [u.1, fr]) mc ms []) 0 0 [ws, fr] 14 [(0, va_rf (some b)), (1, vI a1), (2, vI a2)] [vI s1_14, va_rf (some b)] := by
    clear h
    intro s1_14 hj ws hM2 hB
    have h := hJ14 s1_14 hj
    refine ww_iconst dX6_looks_14 ?_
    obtain ⟨hg, h⟩ := h
    obtain ⟨c_3, s_4, b_5, h⟩ := h
    refine wm_callX (n := 2) hM2 (tm_X6_must h) rfl hg rfl (lw_V q696 q698 qs4 q118 q699) ⟨by decide, by decide, by decide +kernel⟩ rfl ⟨Nat.le_of_ble_eq_true rfl, Nat.le_of_ble_eq_true rfl⟩ rfl (Nat.le_of_ble_eq_true rfl) dX6_looks_15 b_5 ?_ ?_
    · clear h
      intro q_7 E_8 μ_9 ws h hM3
      have hB := b_5
      exact wx_out (fun _ hz => nomatch hz) (ws, μ_9) ⟨hM3, h⟩ rfl hB.1 hB.2
    · clear h
      rintro _ μ_6 ws ⟨rfl, h⟩ hM4
      have hB := b_5
      refine ww_st0 ?_
      refine ww_aloadQ_n dX6_looks_18 0 rfl ?_
      refine ww_aloadQ_n dX6_looks_19 0 rfl ?_
      obtain ⟨x_10, hx, h⟩ := h
      refine wm_getI hM4 rfl in_X6 (ci := 5) rfl (by decide) 7 (Nat.le_of_ble_eq_true rfl) hx (fun _ _ => rfl) q408 (fun _ _ h => h) dX6_looks_20 ?_
      obtain ⟨r_11, h⟩ := h
      refine ww_i2l dX6_looks_23 r_11 ?_
      refine ww_iload_n dX6_looks_24 1 rfl ?_
      obtain ⟨r_12, h⟩ := h
      refine ww_i2l dX6_looks_25 r_12 ?_
      refine ww_iload_n dX6_looks_26 2 rfl ?_
      obtain ⟨r_13, h⟩ := h
      refine ww_i2l dX6_looks_27 r_13 ?_
      refine wm_callSN (n := 3) hM4 (tm_X1_within h) q509 q355 q108 q354 ⟨by decide, by decide, by decide +kernel⟩ rfl ⟨Nat.le_of_ble_eq_true rfl, Nat.le_of_ble_eq_true rfl⟩ rfl (by simp only [List.map_cons, List.map_nil, rf_cat, vI_cat, vL_cat, List.sum_cons, List.sum_nil]; decide) dX6_looks_28 hB ?_
      clear h
      rintro _ _ ws ⟨rfl, y_14, rfl, z_15, h⟩ hM5
      refine ww_st1 ?_
      refine ww_iconst dX6_looks_31 ?_
      obtain ⟨hg, h⟩ := h
      obtain ⟨c_16, s_17, b_18, h⟩ := h
      refine wm_callX (n := 2) hM5 (tm_X6_must h) rfl hg rfl (lw_V q696 q698 qs4 q118 q699) ⟨by decide, by decide, by decide +kernel⟩ rfl ⟨Nat.le_of_ble_eq_true rfl, Nat.le_of_ble_eq_true rfl⟩ rfl (Nat.le_of_ble_eq_true rfl) dX6_looks_32 b_18 ?_ ?_
      · clear h
        intro q_20 E_21 μ_22 ws h hM6
        have hB := b_18
        exact wx_out (fun _ hz => nomatch hz) (ws, μ_22) ⟨hM6, h⟩ rfl hB.1 hB.2
      · clear h
        rintro _ μ_19 ws ⟨rfl, h⟩ hM7
        have hB := b_18
        refine ww_st0 ?_
        refine wx_lift ?_
        exact ww_vret (ws, μ_19) rfl ⟨hM7, ⟨rfl, h⟩⟩ rfl hB.1 hB.2 dX6_looks_35
  refine ww_icmp_eq (tgt := 13) dX6_looks_6 (by decide) r_2 (by decide) (fun c => ?_) (fun c => ?_)
  · replace h := h.1 c
    refine ww_iconst dX6_looks_13 ?_
    exact kJ14 _ h _ hM1 hB
  · replace h := h.2 c
    refine ww_iconst dX6_looks_9 ?_
    refine ww_goto (tgt := 14) dX6_looks_10 (by decide) ?_
    exact kJ14 _ h _ hM1 hB
/-! X6_number: HoloNet$Reader number (II)I; flags (True, True, True), depth 7 -/
def wc_X6_number (ad : Nat → Nat) (mc ms : Nat) (μ : HM) (b : Nat) (a1 : Int) (a2 : Int) (P : Int → HM → Prop) (X : Nat → String → HM → Prop) : Prop :=
  gC μ b = some 5 ∧
  ∃ c_1 s_2 : Nat, (0 + c_1 ≤ mc ∧ 0 + s_2 ≤ ms) ∧
  wc_X6_looks ad c_1 s_2 μ b a1 a2 (fun μ_4 =>
    ∃ x_8 : Int, gI μ_4 b 5 7 = some x_8 ∧
    gC μ_4 b = some 5 ∧
    ∃ c_9 s_10 : Nat, (0 + c_1 + c_9 ≤ mc ∧ 0 + s_2 + s_10 ≤ ms) ∧
    wc_X6_go ad c_9 s_10 μ_4 b (fun μ_12 =>
      P x_8 μ_12)) (fun q_5 E_6 μ_7 =>
    X q_5 E_6 μ_7)
set_option maxHeartbeats 4000000 in
theorem tm_X6_number {G : g_G} {l : Launch} {mc ms : Nat} {μ : HM} {b : Nat} {a1 : Int} {a2 : Int} {P : Int → HM → Prop} {X : Nat → String → HM → Prop} (h : wc_X6_number (g_ad G) mc ms μ b a1 a2 P X) : CMX G l yX6_number cX6_number 4 (Option.some Jvm.ClassFile.FieldType.int) 7 mc ms [.ref b, vI a1, vI a2] μ (hR1 P) X := by
  unfold wc_X6_number at h
  refine wm_ofX (lvs := [(0, va_rf (some b)), (1, vI a1), (2, vI a2)]) (by decide) (Nat.le_of_ble_eq_true rfl) rfl (fun fr ws hM1 => ?_)
  show WF G l cX6_number RX6 4 (Option.some Jvm.ClassFile.FieldType.int) "number" 7 mc ms (gFX G (hMR G (hR1 P)) (fun u => [u.1, fr]) (hMX G X) (fun u => [u.1, fr]) mc ms []) 0 0 [ws, fr] 0 [(0, va_rf (some b)), (1, vI a1), (2, vI a2)] []
  have hB : 0 ≤ mc ∧ 0 ≤ ms := ⟨Nat.zero_le _, Nat.zero_le _⟩
  refine ww_aloadQ_n dX6_number_0 0 rfl ?_
  refine ww_iload_n dX6_number_1 1 rfl ?_
  refine ww_iload_n dX6_number_2 2 rfl ?_
  obtain ⟨hg, h⟩ := h
  obtain ⟨c_1, s_2, b_3, h⟩ := h
  refine wm_callX (n := 2) hM1 (tm_X6_looks h) rfl hg rfl (lw_V q692 q694 qs3 q118 q695) ⟨by decide, by decide, by decide +kernel⟩ rfl ⟨Nat.le_of_ble_eq_true rfl, Nat.le_of_ble_eq_true rfl⟩ rfl (Nat.le_of_ble_eq_true rfl) dX6_number_3 b_3 ?_ ?_
  · clear h
    intro q_5 E_6 μ_7 ws h hM2
    have hB := b_3
    exact wx_out (fun _ hz => nomatch hz) (ws, μ_7) ⟨hM2, h⟩ rfl hB.1 hB.2
  · clear h
    rintro _ μ_4 ws ⟨rfl, h⟩ hM3
    have hB := b_3
    refine ww_st0 ?_
    refine ww_aloadQ_n dX6_number_6 0 rfl ?_
    obtain ⟨x_8, hx, h⟩ := h
    refine wm_getI hM3 rfl in_X6 (ci := 5) rfl (by decide) 7 (Nat.le_of_ble_eq_true rfl) hx (fun _ _ => rfl) q408 (fun _ _ h => h) dX6_number_7 ?_
    refine ww_istore_n (i := 3) (lv2 := [(3, vI x_8), (0, va_rf (some b)), (1, vI a1), (2, vI a2)]) dX6_number_10 rfl (Nat.le_of_ble_eq_true rfl) rfl ?_
    refine ww_aloadQ_n dX6_number_11 1 rfl ?_
    obtain ⟨hg, h⟩ := h
    obtain ⟨c_9, s_10, b_11, h⟩ := h
    refine wm_callV (n := 0) hM3 (tm_X6_go h) rfl hg rfl (lw_V q439 q441 qs0 q118 q442) ⟨by decide, by decide, by decide +kernel⟩ rfl ⟨Nat.le_of_ble_eq_true rfl, Nat.le_of_ble_eq_true rfl⟩ rfl (Nat.le_of_ble_eq_true rfl) dX6_number_12 b_11 ?_
    clear h
    rintro _ μ_12 ws ⟨rfl, h⟩ hM4
    have hB := b_11
    refine ww_st0 ?_
    refine ww_iload_n dX6_number_15 0 rfl ?_
    refine wx_lift ?_
    exact ww_iret (ws, μ_12) rfl ⟨hM4, ⟨_, rfl, h⟩⟩ rfl hB.1 hB.2 dX6_number_16
/-! X6_base: HoloNet$Reader base ()V; flags (True, True, True), depth 10 -/
def wc_X6_base (ad : Nat → Nat) (mc ms : Nat) (μ : HM) (b : Nat) (P : HM → Prop) (X : Nat → String → HM → Prop) : Prop :=
  ∃ x_1 : Option Nat, gQ μ b 5 1 = some x_1 ∧
  ∃ a_3 : Nat, x_1 = some a_3 ∧
  ∃ x_2 : Option Nat, gQ μ a_3 2 2 = some x_2 ∧
  gC μ b = some 5 ∧
  ∃ c_4 s_5 : Nat, (0 + c_4 ≤ mc ∧ 0 + s_5 ≤ ms) ∧
  wc_X6_begins ad c_4 s_5 μ b x_2 (fun y_7 μ_9 =>
    ∃ x_13 : Option Nat, gQ μ_9 b 5 1 = some x_13 ∧
    ∃ a_15 : Nat, x_13 = some a_15 ∧
    ∃ x_14 : Int, gI μ_9 a_15 2 0 = some x_14 ∧
    gC μ_9 b = some 5 ∧
    ∃ c_16 s_17 : Nat, (0 + c_4 + c_16 ≤ mc ∧ 0 + s_5 + s_17 ≤ ms) ∧
    wc_X6_number ad c_16 s_17 μ_9 b 0 (x_14 - 1) (fun y_19 μ_21 =>
      ∃ x_25 : Option Nat, gQ μ_21 b 5 1 = some x_25 ∧
      ∃ a_27 : Nat, x_25 = some a_27 ∧
      ∃ x_26 : Int, gI μ_21 a_27 2 0 = some x_26 ∧
      gC μ_21 b = some 5 ∧
      ∃ c_28 s_29 : Nat, (0 + c_4 + c_16 + c_28 ≤ mc ∧ 0 + s_5 + s_17 + s_29 ≤ ms) ∧
      wc_X6_number ad c_28 s_29 μ_21 b 0 (x_26 - 1) (fun y_31 μ_33 =>
        ∃ x_37 : Option Nat, gQ μ_33 b 5 1 = some x_37 ∧
        ∃ a_39 : Nat, x_37 = some a_39 ∧
        ∃ x_38 : Int, gI μ_33 a_39 2 0 = some x_38 ∧
        gC μ_33 b = some 5 ∧
        ∃ c_40 s_41 : Nat, (0 + c_4 + c_16 + c_28 + c_40 ≤ mc ∧ 0 + s_5 + s_17 + s_29 + s_41 ≤ ms) ∧
        wc_X6_number ad c_40 s_41 μ_33 b 0 (x_38 - 1) (fun y_43 μ_45 =>
          ∃ x_49 : Option Nat, gQ μ_45 b 5 1 = some x_49 ∧
          ∃ a_51 : Nat, x_49 = some a_51 ∧
          ∃ x_50 : Int, gI μ_45 a_51 2 0 = some x_50 ∧
          gC μ_45 b = some 5 ∧
          ∃ c_52 s_53 : Nat, (0 + c_4 + c_16 + c_28 + c_40 + c_52 ≤ mc ∧ 0 + s_5 + s_17 + s_29 + s_41 + s_53 ≤ ms) ∧
          wc_X6_looks ad c_52 s_53 μ_45 b 0 (x_50 - 1) (fun μ_55 =>
            ∃ x_59 : Option Nat, gQ μ_55 b 5 1 = some x_59 ∧
            ∃ x_60 : Int, gI μ_55 b 5 7 = some x_60 ∧
            rI ((y_19 * x_60) - (y_31 * y_43)) ∧
            ∃ a_62 : Nat, x_59 = some a_62 ∧
            gC μ_55 a_62 = some 2 ∧
            wc_X2_mod ad μ_55 a_62 ((y_19 * x_60) - (y_31 * y_43)) (fun y_63 =>
              rI y_63 ∧
              ∃ J100 : Int → Prop, (∀ (s1_100 : Int), J100 s1_100 →
                gC μ_55 b = some 5 ∧
                ∃ c_66 s_67 : Nat, (0 + c_4 + c_16 + c_28 + c_40 + c_52 + c_66 ≤ mc ∧ 0 + s_5 + s_17 + s_29 + s_41 + s_53 + s_67 ≤ ms) ∧
                wc_X6_must ad c_66 s_67 μ_55 b s1_100 4 (fun μ_69 =>
                  ∃ x_73 : Option Nat, gQ μ_69 b 5 1 = some x_73 ∧
                  ∃ a_75 : Nat, x_73 = some a_75 ∧
                  ∃ x_74 : Option Nat, gQ μ_69 a_75 2 2 = some x_74 ∧
                  (0 + c_4 + c_16 + c_28 + c_40 + c_52 + c_66 + 1 ≤ mc ∧ 0 + s_5 + s_17 + s_29 + s_41 + s_53 + s_67 + 3 ≤ ms) ∧ ∀ q_76 : Nat, μ_69 q_76 = none →
                  ∃ x_78 : Option Nat, gQ (hs μ_69 q_76 (hO 8 (fun _ => 0) (fun _ => none))) b 5 1 = some x_78 ∧
                  ∃ a_80 : Nat, x_78 = some a_80 ∧
                  ∃ x_79 : Option Nat, gQ (hs μ_69 q_76 (hO 8 (fun _ => 0) (fun _ => none))) a_80 2 2 = some x_79 ∧
                  ∃ a_81 : Nat, x_79 = some a_81 ∧
                  gC (hs μ_69 q_76 (hO 8 (fun _ => 0) (fun _ => none))) a_81 = some 3 ∧
                  wc_X3_size ad (hs μ_69 q_76 (hO 8 (fun _ => 0) (fun _ => none))) a_81 (fun y_82 =>
                    (0 ≤ (4 : Int) ∧ (4 : Int) < 50000000 ∧ 0 + c_4 + c_16 + c_28 + c_40 + c_52 + c_66 + 1 + 1 ≤ mc ∧ 0 + s_5 + s_17 + s_29 + s_41 + s_53 + s_67 + 3 + (4 : Int).toNat ≤ ms) ∧ ∀ q_84 : Nat, (hs μ_69 q_76 (hO 8 (fun _ => 0) (fun _ => none))) q_84 = none →
                    ∃ (n_86 : Nat) (f_87 : Int → Int), (hs (hs μ_69 q_76 (hO 8 (fun _ => 0) (fun _ => none))) q_84 (hA 0 (4 : Int).toNat (fun _ => 0))) q_84 = some (hA 0 n_86 f_87) ∧ ((0 : Int) ≤ 0 ∧ 0 < (n_86 : Int) ∧ (n_86 : Int) < 2147483648) ∧ 
                    ∃ (n_88 : Nat) (f_89 : Int → Int), (hs (hs (hs μ_69 q_76 (hO 8 (fun _ => 0) (fun _ => none))) q_84 (hA 0 (4 : Int).toNat (fun _ => 0))) q_84 (hA 0 n_86 (updI f_87 0 y_19))) q_84 = some (hA 0 n_88 f_89) ∧ ((0 : Int) ≤ 1 ∧ 1 < (n_88 : Int) ∧ (n_88 : Int) < 2147483648) ∧ 
                    ∃ (n_90 : Nat) (f_91 : Int → Int), (hs (hs (hs (hs μ_69 q_76 (hO 8 (fun _ => 0) (fun _ => none))) q_84 (hA 0 (4 : Int).toNat (fun _ => 0))) q_84 (hA 0 n_86 (updI f_87 0 y_19))) q_84 (hA 0 n_88 (updI f_89 1 y_31))) q_84 = some (hA 0 n_90 f_91) ∧ ((0 : Int) ≤ 2 ∧ 2 < (n_90 : Int) ∧ (n_90 : Int) < 2147483648) ∧ 
                    ∃ x_92 : Option Nat, gQ (hs (hs (hs (hs (hs μ_69 q_76 (hO 8 (fun _ => 0) (fun _ => none))) q_84 (hA 0 (4 : Int).toNat (fun _ => 0))) q_84 (hA 0 n_86 (updI f_87 0 y_19))) q_84 (hA 0 n_88 (updI f_89 1 y_31))) q_84 (hA 0 n_90 (updI f_91 2 y_43))) b 5 1 = some x_92 ∧
                    ∃ a_94 : Nat, x_92 = some a_94 ∧
                    ∃ x_93 : Int, gI (hs (hs (hs (hs (hs μ_69 q_76 (hO 8 (fun _ => 0) (fun _ => none))) q_84 (hA 0 (4 : Int).toNat (fun _ => 0))) q_84 (hA 0 n_86 (updI f_87 0 y_19))) q_84 (hA 0 n_88 (updI f_89 1 y_31))) q_84 (hA 0 n_90 (updI f_91 2 y_43))) a_94 2 0 = some x_93 ∧
                    gC (hs (hs (hs (hs (hs μ_69 q_76 (hO 8 (fun _ => 0) (fun _ => none))) q_84 (hA 0 (4 : Int).toNat (fun _ => 0))) q_84 (hA 0 n_86 (updI f_87 0 y_19))) q_84 (hA 0 n_88 (updI f_89 1 y_31))) q_84 (hA 0 n_90 (updI f_91 2 y_43))) b = some 5 ∧
                    ∃ c_95 s_96 : Nat, (0 + c_4 + c_16 + c_28 + c_40 + c_52 + c_66 + 1 + 1 + c_95 ≤ mc ∧ 0 + s_5 + s_17 + s_29 + s_41 + s_53 + s_67 + 3 + (4 : Int).toNat + s_96 ≤ ms) ∧
                    wc_X6_number ad c_95 s_96 (hs (hs (hs (hs (hs μ_69 q_76 (hO 8 (fun _ => 0) (fun _ => none))) q_84 (hA 0 (4 : Int).toNat (fun _ => 0))) q_84 (hA 0 n_86 (updI f_87 0 y_19))) q_84 (hA 0 n_88 (updI f_89 1 y_31))) q_84 (hA 0 n_90 (updI f_91 2 y_43))) b 0 (x_93 - 1) (fun y_98 μ_100 =>
                      ∃ (n_104 : Nat) (f_105 : Int → Int), μ_100 q_84 = some (hA 0 n_104 f_105) ∧ ((0 : Int) ≤ 3 ∧ 3 < (n_104 : Int) ∧ (n_104 : Int) < 2147483648) ∧ 
                      wc_X11_init ad (hs μ_100 q_84 (hA 0 n_104 (updI f_105 3 y_98))) q_76 y_7 y_82 (some q_84) (fun μ_106 =>
                        ∃ a_107 : Nat, x_74 = some a_107 ∧
                        gC μ_106 a_107 = some 3 ∧
                        ∃ c_108 s_109 : Nat, (0 + c_4 + c_16 + c_28 + c_40 + c_52 + c_66 + 1 + 1 + c_95 + c_108 ≤ mc ∧ 0 + s_5 + s_17 + s_29 + s_41 + s_53 + s_67 + 3 + (4 : Int).toNat + s_96 + s_109 ≤ ms) ∧
                        wc_X3_add ad c_108 s_109 μ_106 a_107 (some q_76) (fun μ_111 =>
                          P μ_111))) (fun q_101 E_102 μ_103 =>
                      X q_101 E_102 μ_103))) (fun q_70 E_71 μ_72 =>
                  X q_70 E_71 μ_72)) ∧
              ((y_63 = 0 →
                J100 0) ∧
              (¬ y_63 = 0 →
                J100 1)))) (fun q_56 E_57 μ_58 =>
            X q_56 E_57 μ_58)) (fun q_46 E_47 μ_48 =>
          X q_46 E_47 μ_48)) (fun q_34 E_35 μ_36 =>
        X q_34 E_35 μ_36)) (fun q_22 E_23 μ_24 =>
      X q_22 E_23 μ_24)) (fun q_10 E_11 μ_12 =>
    X q_10 E_11 μ_12)
set_option maxHeartbeats 4000000 in
theorem tm_X6_base {G : g_G} {l : Launch} {mc ms : Nat} {μ : HM} {b : Nat} {P : HM → Prop} {X : Nat → String → HM → Prop} (h : wc_X6_base (g_ad G) mc ms μ b P X) : CMX G l yX6_base cX6_base 5 (Option.none : Option Jvm.ClassFile.FieldType) 10 mc ms [.ref b] μ (hR0 P) X := by
  unfold wc_X6_base at h
  refine wm_ofX (lvs := [(0, va_rf (some b))]) (by decide) (Nat.le_of_ble_eq_true rfl) rfl (fun fr ws hM1 => ?_)
  show WF G l cX6_base RX6 5 (Option.none : Option Jvm.ClassFile.FieldType) "base" 10 mc ms (gFX G (hMR G (hR0 P)) (fun u => [u.1, fr]) (hMX G X) (fun u => [u.1, fr]) mc ms []) 0 0 [ws, fr] 0 [(0, va_rf (some b))] []
  have hB : 0 ≤ mc ∧ 0 ≤ ms := ⟨Nat.zero_le _, Nat.zero_le _⟩
  refine ww_aloadQ_n dX6_base_0 0 rfl ?_
  refine ww_aloadQ_n dX6_base_1 0 rfl ?_
  obtain ⟨x_1, hx, h⟩ := h
  refine wm_getQ hM1 rfl in_X6 (ci := 5) rfl (by decide) 1 (Nat.le_of_ble_eq_true rfl) hx (fun _ _ => rfl) q400 (fun _ _ h => h) dX6_base_2 ?_
  obtain ⟨a_3, ea_3, h⟩ := h
  subst ea_3
  obtain ⟨x_2, hx, h⟩ := h
  refine wm_getQN hM1 rfl in_X2 (ci := 2) rfl (by decide) 2 (Nat.le_of_ble_eq_true rfl) hx (fun _ _ => rfl) q265 (fun _ _ h => h) dX6_base_5 ?_
  obtain ⟨hg, h⟩ := h
  obtain ⟨c_4, s_5, b_6, h⟩ := h
  refine wm_callX (n := 1) hM1 (tm_X6_begins h) rfl hg rfl (lw_V q847 q849 qs10 q118 q850) ⟨by decide, by decide, by decide +kernel⟩ rfl ⟨Nat.le_of_ble_eq_true rfl, Nat.le_of_ble_eq_true rfl⟩ rfl (Nat.le_of_ble_eq_true rfl) dX6_base_8 b_6 ?_ ?_
  · clear h
    intro q_10 E_11 μ_12 ws h hM2
    have hB := b_6
    exact wx_out (fun _ hz => nomatch hz) (ws, μ_12) ⟨hM2, h⟩ rfl hB.1 hB.2
  · clear h
    rintro _ μ_9 ws ⟨y_7, rfl, h⟩ hM3
    have hB := b_6
    refine ww_st1 ?_
    refine ww_astoreQ_n (i := 1) (lv2 := [(1, va_rf y_7), (0, va_rf (some b))]) dX6_base_11 rfl (Nat.le_of_ble_eq_true rfl) rfl ?_
    refine ww_aloadQ_n dX6_base_12 1 rfl ?_
    refine ww_iconst dX6_base_13 ?_
    refine ww_aloadQ_n dX6_base_14 1 rfl ?_
    obtain ⟨x_13, hx, h⟩ := h
    refine wm_getQ hM3 rfl in_X6 (ci := 5) rfl (by decide) 1 (Nat.le_of_ble_eq_true rfl) hx (fun _ _ => rfl) q400 (fun _ _ h => h) dX6_base_15 ?_
    obtain ⟨a_15, ea_15, h⟩ := h
    subst ea_15
    obtain ⟨x_14, hx, h⟩ := h
    refine wm_getIN hM3 rfl in_X2 (ci := 2) rfl (by decide) 0 (Nat.le_of_ble_eq_true rfl) hx (fun _ _ => rfl) q258 (fun _ _ h => h) dX6_base_18 ?_
    refine ww_iconst dX6_base_21 ?_
    refine ww_isub dX6_base_22 ?_
    obtain ⟨hg, h⟩ := h
    obtain ⟨c_16, s_17, b_18, h⟩ := h
    refine wm_callX (n := 2) hM3 (tm_X6_number h) rfl hg rfl (lw_V q781 q783 qs7 q118 q784) ⟨by decide, by decide, by decide +kernel⟩ rfl ⟨Nat.le_of_ble_eq_true rfl, Nat.le_of_ble_eq_true rfl⟩ rfl (Nat.le_of_ble_eq_true rfl) dX6_base_23 b_18 ?_ ?_
    · clear h
      intro q_22 E_23 μ_24 ws h hM4
      have hB := b_18
      exact wx_out (fun _ hz => nomatch hz) (ws, μ_24) ⟨hM4, h⟩ rfl hB.1 hB.2
    · clear h
      rintro _ μ_21 ws ⟨y_19, rfl, h⟩ hM5
      have hB := b_18
      refine ww_st1 ?_
      refine ww_istore_n (i := 2) (lv2 := [(2, vI y_19), (1, va_rf y_7), (0, va_rf (some b))]) dX6_base_26 rfl (Nat.le_of_ble_eq_true rfl) (by simp [rf_cat, vI_cat, vL_cat, ref_cat]) ?_
      refine ww_aloadQ_n dX6_base_27 2 rfl ?_
      refine ww_iconst dX6_base_28 ?_
      refine ww_aloadQ_n dX6_base_29 2 rfl ?_
      obtain ⟨x_25, hx, h⟩ := h
      refine wm_getQ hM5 rfl in_X6 (ci := 5) rfl (by decide) 1 (Nat.le_of_ble_eq_true rfl) hx (fun _ _ => rfl) q400 (fun _ _ h => h) dX6_base_30 ?_
      obtain ⟨a_27, ea_27, h⟩ := h
      subst ea_27
      obtain ⟨x_26, hx, h⟩ := h
      refine wm_getIN hM5 rfl in_X2 (ci := 2) rfl (by decide) 0 (Nat.le_of_ble_eq_true rfl) hx (fun _ _ => rfl) q258 (fun _ _ h => h) dX6_base_33 ?_
      refine ww_iconst dX6_base_36 ?_
      refine ww_isub dX6_base_37 ?_
      obtain ⟨hg, h⟩ := h
      obtain ⟨c_28, s_29, b_30, h⟩ := h
      refine wm_callX (n := 2) hM5 (tm_X6_number h) rfl hg rfl (lw_V q781 q783 qs7 q118 q784) ⟨by decide, by decide, by decide +kernel⟩ rfl ⟨Nat.le_of_ble_eq_true rfl, Nat.le_of_ble_eq_true rfl⟩ rfl (Nat.le_of_ble_eq_true rfl) dX6_base_38 b_30 ?_ ?_
      · clear h
        intro q_34 E_35 μ_36 ws h hM6
        have hB := b_30
        exact wx_out (fun _ hz => nomatch hz) (ws, μ_36) ⟨hM6, h⟩ rfl hB.1 hB.2
      · clear h
        rintro _ μ_33 ws ⟨y_31, rfl, h⟩ hM7
        have hB := b_30
        refine ww_st1 ?_
        refine ww_istore_n (i := 3) (lv2 := [(3, vI y_31), (2, vI y_19), (1, va_rf y_7), (0, va_rf (some b))]) dX6_base_41 rfl (Nat.le_of_ble_eq_true rfl) rfl ?_
        refine ww_aloadQ_n dX6_base_42 3 rfl ?_
        refine ww_iconst dX6_base_43 ?_
        refine ww_aloadQ_n dX6_base_44 3 rfl ?_
        obtain ⟨x_37, hx, h⟩ := h
        refine wm_getQ hM7 rfl in_X6 (ci := 5) rfl (by decide) 1 (Nat.le_of_ble_eq_true rfl) hx (fun _ _ => rfl) q400 (fun _ _ h => h) dX6_base_45 ?_
        obtain ⟨a_39, ea_39, h⟩ := h
        subst ea_39
        obtain ⟨x_38, hx, h⟩ := h
        refine wm_getIN hM7 rfl in_X2 (ci := 2) rfl (by decide) 0 (Nat.le_of_ble_eq_true rfl) hx (fun _ _ => rfl) q258 (fun _ _ h => h) dX6_base_48 ?_
        refine ww_iconst dX6_base_51 ?_
        refine ww_isub dX6_base_52 ?_
        obtain ⟨hg, h⟩ := h
        obtain ⟨c_40, s_41, b_42, h⟩ := h
        refine wm_callX (n := 2) hM7 (tm_X6_number h) rfl hg rfl (lw_V q781 q783 qs7 q118 q784) ⟨by decide, by decide, by decide +kernel⟩ rfl ⟨Nat.le_of_ble_eq_true rfl, Nat.le_of_ble_eq_true rfl⟩ rfl (Nat.le_of_ble_eq_true rfl) dX6_base_53 b_42 ?_ ?_
        · clear h
          intro q_46 E_47 μ_48 ws h hM8
          have hB := b_42
          exact wx_out (fun _ hz => nomatch hz) (ws, μ_48) ⟨hM8, h⟩ rfl hB.1 hB.2
        · clear h
          rintro _ μ_45 ws ⟨y_43, rfl, h⟩ hM9
          have hB := b_42
          refine ww_st1 ?_
          refine ww_istore (i := 4) (lv2 := [(4, vI y_43), (3, vI y_31), (2, vI y_19), (1, va_rf y_7), (0, va_rf (some b))]) dX6_base_56 (Nat.le_of_ble_eq_true rfl) rfl ?_
          refine ww_aloadQ_n dX6_base_58 4 rfl ?_
          refine ww_iconst dX6_base_59 ?_
          refine ww_aloadQ_n dX6_base_60 4 rfl ?_
          obtain ⟨x_49, hx, h⟩ := h
          refine wm_getQ hM9 rfl in_X6 (ci := 5) rfl (by decide) 1 (Nat.le_of_ble_eq_true rfl) hx (fun _ _ => rfl) q400 (fun _ _ h => h) dX6_base_61 ?_
          obtain ⟨a_51, ea_51, h⟩ := h
          subst ea_51
          obtain ⟨x_50, hx, h⟩ := h
          refine wm_getIN hM9 rfl in_X2 (ci := 2) rfl (by decide) 0 (Nat.le_of_ble_eq_true rfl) hx (fun _ _ => rfl) q258 (fun _ _ h => h) dX6_base_64 ?_
          refine ww_iconst dX6_base_67 ?_
          refine ww_isub dX6_base_68 ?_
          obtain ⟨hg, h⟩ := h
          obtain ⟨c_52, s_53, b_54, h⟩ := h
          refine wm_callX (n := 2) hM9 (tm_X6_looks h) rfl hg rfl (lw_V q692 q694 qs3 q118 q695) ⟨by decide, by decide, by decide +kernel⟩ rfl ⟨Nat.le_of_ble_eq_true rfl, Nat.le_of_ble_eq_true rfl⟩ rfl (Nat.le_of_ble_eq_true rfl) dX6_base_69 b_54 ?_ ?_
          · clear h
            intro q_56 E_57 μ_58 ws h hM10
            have hB := b_54
            exact wx_out (fun _ hz => nomatch hz) (ws, μ_58) ⟨hM10, h⟩ rfl hB.1 hB.2
          · clear h
            rintro _ μ_55 ws ⟨rfl, h⟩ hM11
            have hB := b_54
            refine ww_st0 ?_
            refine ww_aloadQ_n dX6_base_72 4 rfl ?_
            refine ww_aloadQ_n dX6_base_73 4 rfl ?_
            obtain ⟨x_59, hx, h⟩ := h
            refine wm_getQ hM11 rfl in_X6 (ci := 5) rfl (by decide) 1 (Nat.le_of_ble_eq_true rfl) hx (fun _ _ => rfl) q400 (fun _ _ h => h) dX6_base_74 ?_
            refine ww_iload_n dX6_base_77 2 rfl ?_
            refine ww_aloadQ_n dX6_base_78 4 rfl ?_
            obtain ⟨x_60, hx, h⟩ := h
            refine wm_getI hM11 rfl in_X6 (ci := 5) rfl (by decide) 7 (Nat.le_of_ble_eq_true rfl) hx (fun _ _ => rfl) q408 (fun _ _ h => h) dX6_base_79 ?_
            refine ww_imul dX6_base_82 ?_
            refine ww_iload_n dX6_base_83 1 rfl ?_
            refine ww_iload dX6_base_84 0 rfl ?_
            refine ww_imul dX6_base_86 ?_
            refine ww_isub dX6_base_87 ?_
            obtain ⟨r_61, h⟩ := h
            refine ww_i2l dX6_base_88 r_61 ?_
            obtain ⟨a_62, ea_62, h⟩ := h
            subst ea_62
            obtain ⟨hg, h⟩ := h
            refine wm_callV (n := 1) hM11 (tm_X2_mod h) rfl hg rfl (lw_V q1359 q1349 q1350 q109 q1351) ⟨by decide, by decide, by decide +kernel⟩ rfl ⟨Nat.le_of_ble_eq_true rfl, Nat.le_of_ble_eq_true rfl⟩ rfl (by simp only [List.map_cons, List.map_nil, rf_cat, vI_cat, vL_cat, List.sum_cons, List.sum_nil]; decide) dX6_base_89 hB ?_
            clear h
            rintro _ _ ws ⟨rfl, y_63, rfl, h⟩ hM12
            refine ww_st1 ?_
            obtain ⟨r_65, h⟩ := h
            obtain ⟨J100, hJ100, h⟩ := h
            have kJ100 : ∀ (s1_100 : Int), J100 s1_100 → ∀ ws : va_W, Mrep G ws μ_55 → (0 + c_4 + c_16 + c_28 + c_40 + c_52 ≤ mc ∧ 0 + s_5 + s_17 + s_29 + s_41 + s_53 ≤ ms) → WF G l cX6_base RX6 5 (Option.none : Option Jvm.ClassFile.FieldType) "base" 10 mc ms (gFX G (hMR G (hR0 P)) (fun u => [u.1, fr]) (hMX G X) (fun u => [u.1, fr]) mc ms []) (0 + c_4 + c_16 + c_28 + c_40 + c_52) (0 + s_5 + s_17 + s_29 + s_41 + s_53) [ws, fr] 100 [(0, va_rf (some b)), (1, va_rf y_7), (2, vI y_19), (3, vI y_31), (4, vI y_43)] [vI s1_100, va_rf (some b)] := by
              clear h
              intro s1_100 hj ws hM13 hB
              have h := hJ100 s1_100 hj
              refine ww_iconst dX6_base_100 ?_
              obtain ⟨hg, h⟩ := h
              obtain ⟨c_66, s_67, b_68, h⟩ := h
              refine wm_callX (n := 2) hM13 (tm_X6_must h) rfl hg rfl (lw_V q696 q698 qs4 q118 q699) ⟨by decide, by decide, by decide +kernel⟩ rfl ⟨Nat.le_of_ble_eq_true rfl, Nat.le_of_ble_eq_true rfl⟩ rfl (Nat.le_of_ble_eq_true rfl) dX6_base_101 b_68 ?_ ?_
              · clear h
                intro q_70 E_71 μ_72 ws h hM14
                have hB := b_68
                exact wx_out (fun _ hz => nomatch hz) (ws, μ_72) ⟨hM14, h⟩ rfl hB.1 hB.2
              · clear h
                rintro _ μ_69 ws ⟨rfl, h⟩ hM15
                have hB := b_68
                refine ww_st0 ?_
                refine ww_aloadQ_n dX6_base_104 0 rfl ?_
                obtain ⟨x_73, hx, h⟩ := h
                refine wm_getQ hM15 rfl in_X6 (ci := 5) rfl (by decide) 1 (Nat.le_of_ble_eq_true rfl) hx (fun _ _ => rfl) q400 (fun _ _ h => h) dX6_base_105 ?_
                obtain ⟨a_75, ea_75, h⟩ := h
                subst ea_75
                obtain ⟨x_74, hx, h⟩ := h
                refine wm_getQN hM15 rfl in_X2 (ci := 2) rfl (by decide) 2 (Nat.le_of_ble_eq_true rfl) hx (fun _ _ => rfl) q265 (fun _ _ h => h) dX6_base_108 ?_
                obtain ⟨b_77, h⟩ := h
                refine wm_new hM15 in_X11 tyX11_ok q1360 q1361 q144 (ci := 8) rfl dfl_8 b_77.1 b_77.2 dX6_base_111 (fun q_76 ws hq hM16 => ?_)
                replace h := h q_76 hq
                have hB := b_77
                refine ww_dup dX6_base_114 (rf_cat _) ?_
                refine ww_aloadQ_n dX6_base_115 1 rfl ?_
                refine ww_aloadQ_n dX6_base_116 0 rfl ?_
                obtain ⟨x_78, hx, h⟩ := h
                refine wm_getQ hM16 rfl in_X6 (ci := 5) rfl (by decide) 1 (Nat.le_of_ble_eq_true rfl) hx (fun _ _ => rfl) q400 (fun _ _ h => h) dX6_base_117 ?_
                obtain ⟨a_80, ea_80, h⟩ := h
                subst ea_80
                obtain ⟨x_79, hx, h⟩ := h
                refine wm_getQN hM16 rfl in_X2 (ci := 2) rfl (by decide) 2 (Nat.le_of_ble_eq_true rfl) hx (fun _ _ => rfl) q265 (fun _ _ h => h) dX6_base_120 ?_
                obtain ⟨a_81, ea_81, h⟩ := h
                subst ea_81
                obtain ⟨hg, h⟩ := h
                refine wm_callV (n := 0) hM16 (tm_X3_size h) rfl hg rfl (lw_V q1139 q1140 q1141 q110 q1142) ⟨by decide, by decide, by decide +kernel⟩ rfl ⟨Nat.le_of_ble_eq_true rfl, Nat.le_of_ble_eq_true rfl⟩ rfl (by simp only [List.map_cons, List.map_nil, rf_cat, vI_cat, vL_cat, List.sum_cons, List.sum_nil]; decide) dX6_base_123 hB ?_
                clear h
                rintro _ _ ws ⟨rfl, y_82, rfl, h⟩ hM17
                refine ww_st1 ?_
                refine ww_iconst dX6_base_126 ?_
                obtain ⟨b_85, h⟩ := h
                refine wm_new0 hM17 q163 b_85.1 (by omega) b_85.2.2.1 b_85.2.2.2 dX6_base_127 (fun q_84 ws hq hM18 => ?_)
                replace h := h q_84 hq
                have hB := b_85.2.2
                refine ww_dup dX6_base_129 (rf_cat _) ?_
                refine ww_iconst dX6_base_130 ?_
                refine ww_iload_n dX6_base_131 2 rfl ?_
                obtain ⟨n_86, f_87, hc, hi, h⟩ := h
                refine wm_iast hM18 rfl hc hi.1 hi.2.1 hi.2.2 dX6_base_132 (fun ws hM19 => ?_)
                refine ww_dup dX6_base_133 (rf_cat _) ?_
                refine ww_iconst dX6_base_134 ?_
                refine ww_iload_n dX6_base_135 3 rfl ?_
                obtain ⟨n_88, f_89, hc, hi, h⟩ := h
                refine wm_iast hM19 rfl hc hi.1 hi.2.1 hi.2.2 dX6_base_136 (fun ws hM20 => ?_)
                refine ww_dup dX6_base_137 (rf_cat _) ?_
                refine ww_iconst dX6_base_138 ?_
                refine ww_iload dX6_base_139 4 rfl ?_
                obtain ⟨n_90, f_91, hc, hi, h⟩ := h
                refine wm_iast hM20 rfl hc hi.1 hi.2.1 hi.2.2 dX6_base_141 (fun ws hM21 => ?_)
                refine ww_dup dX6_base_142 (rf_cat _) ?_
                refine ww_iconst dX6_base_143 ?_
                refine ww_aloadQ_n dX6_base_144 0 rfl ?_
                refine ww_iconst dX6_base_145 ?_
                refine ww_aloadQ_n dX6_base_146 0 rfl ?_
                obtain ⟨x_92, hx, h⟩ := h
                refine wm_getQ hM21 rfl in_X6 (ci := 5) rfl (by decide) 1 (Nat.le_of_ble_eq_true rfl) hx (fun _ _ => rfl) q400 (fun _ _ h => h) dX6_base_147 ?_
                obtain ⟨a_94, ea_94, h⟩ := h
                subst ea_94
                obtain ⟨x_93, hx, h⟩ := h
                refine wm_getIN hM21 rfl in_X2 (ci := 2) rfl (by decide) 0 (Nat.le_of_ble_eq_true rfl) hx (fun _ _ => rfl) q258 (fun _ _ h => h) dX6_base_150 ?_
                refine ww_iconst dX6_base_153 ?_
                refine ww_isub dX6_base_154 ?_
                obtain ⟨hg, h⟩ := h
                obtain ⟨c_95, s_96, b_97, h⟩ := h
                refine wm_callX (n := 2) hM21 (tm_X6_number h) rfl hg rfl (lw_V q781 q783 qs7 q118 q784) ⟨by decide, by decide, by decide +kernel⟩ rfl ⟨Nat.le_of_ble_eq_true rfl, Nat.le_of_ble_eq_true rfl⟩ rfl (by simp only [List.map_cons, List.map_nil, rf_cat, vI_cat, vL_cat, List.sum_cons, List.sum_nil]; decide) dX6_base_155 b_97 ?_ ?_
                · clear h
                  intro q_101 E_102 μ_103 ws h hM22
                  have hB := b_97
                  exact wx_out (fun _ hz => nomatch hz) (ws, μ_103) ⟨hM22, h⟩ rfl hB.1 hB.2
                · clear h
                  rintro _ μ_100 ws ⟨y_98, rfl, h⟩ hM23
                  have hB := b_97
                  refine ww_st1 ?_
                  obtain ⟨n_104, f_105, hc, hi, h⟩ := h
                  refine wm_iast hM23 rfl hc hi.1 hi.2.1 hi.2.2 dX6_base_158 (fun ws hM24 => ?_)
                  refine wm_callI (n := 3) hM24 (tm_X11_init h) rfl q1364 q144 q1362 q1363 rfl ⟨by decide, by decide, by decide +kernel⟩ rfl ⟨Nat.le_of_ble_eq_true rfl, Nat.le_of_ble_eq_true rfl⟩ rfl (by simp only [List.map_cons, List.map_nil, rf_cat, vI_cat, vL_cat, List.sum_cons, List.sum_nil]; decide) dX6_base_159 hB ?_
                  clear h
                  rintro _ μ_106 ws ⟨rfl, h⟩ hM25
                  refine ww_st0 ?_
                  obtain ⟨a_107, ea_107, h⟩ := h
                  subst ea_107
                  obtain ⟨hg, h⟩ := h
                  obtain ⟨c_108, s_109, b_110, h⟩ := h
                  refine wm_callV (n := 1) hM25 (tm_X3_add h) rfl hg rfl (lw_V q1171 q1172 q1173 q110 q1174) ⟨by decide, by decide, by decide +kernel⟩ rfl ⟨Nat.le_of_ble_eq_true rfl, Nat.le_of_ble_eq_true rfl⟩ rfl (Nat.le_of_ble_eq_true rfl) dX6_base_162 b_110 ?_
                  clear h
                  rintro _ μ_111 ws ⟨rfl, h⟩ hM26
                  have hB := b_110
                  refine ww_st0 ?_
                  refine wx_lift ?_
                  exact ww_vret (ws, μ_111) rfl ⟨hM26, ⟨rfl, h⟩⟩ rfl hB.1 hB.2 dX6_base_165
            refine ww_if_eq (tgt := 99) dX6_base_92 (by decide) r_65 (fun c => ?_) (fun c => ?_)
            · replace h := h.1 c
              refine ww_iconst dX6_base_99 ?_
              refine ww_lv [4, 3, 2, 1, 0] rfl ?_
              exact kJ100 _ h _ hM12 hB
            · replace h := h.2 c
              refine ww_iconst dX6_base_95 ?_
              refine ww_goto (tgt := 100) dX6_base_96 (by decide) ?_
              refine ww_lv [4, 3, 2, 1, 0] rfl ?_
              exact kJ100 _ h _ hM12 hB
