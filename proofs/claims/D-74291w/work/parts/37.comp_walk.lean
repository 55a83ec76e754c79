/-! THE COMPONENT and what it calls: weakest preconditions and walks (printed by tools/comp.py) -/
set_option maxRecDepth 100000
/-! J4_addEntry: java/util/TreeMap addEntry (Ljava/lang/Object;Ljava/lang/Object;Ljava/util/TreeMap$Entry;Z)V; flags (True, True, False), depth 2 -/
def wc_J4_addEntry (ad : Nat → Nat) (mc ms : Nat) (μ : HM) (b : Nat) (o1 : Option Nat) (o2 : Option Nat) (o3 : Option Nat) (a4 : Int) (P : HM → Prop) : Prop :=
  (0 + 1 ≤ mc ∧ 0 + 6 ≤ ms) ∧ ∀ q_1 : Nat, μ q_1 = none →
  wc_J22_init ad (hs μ q_1 (hO 20 (fun _ => 0) (fun _ => none))) q_1 o1 o2 o3 (fun μ_3 =>
    rI a4 ∧
    ∃ J32 : HM → Prop, (∀ (μ32 : HM), J32 μ32 →
      gC μ32 b = some 19 ∧
      wc_J4_fixAfterInsertion ad μ32 b (some q_1) (fun μ_5 =>
        ∃ x_6 : Int, gI μ_5 b 19 4 = some x_6 ∧
        ∃ (fi_7 : Nat → Int) (fq_8 : Nat → Option Nat), μ_5 b = some (hO 19 fi_7 fq_8) ∧ 
        ∃ x_9 : Int, gI (hs μ_5 b (hO 19 (upF fi_7 4 (x_6 + 1)) fq_8)) b 19 5 = some x_9 ∧
        ∃ (fi_10 : Nat → Int) (fq_11 : Nat → Option Nat), (hs μ_5 b (hO 19 (upF fi_7 4 (x_6 + 1)) fq_8)) b = some (hO 19 fi_10 fq_11) ∧ 
        P (hs (hs μ_5 b (hO 19 (upF fi_7 4 (x_6 + 1)) fq_8)) b (hO 19 (upF fi_10 5 (x_9 + 1)) fq_11)))) ∧
    ((a4 = 0 →
      ∃ a_12 : Nat, o3 = some a_12 ∧
      ∃ (fi_13 : Nat → Int) (fq_14 : Nat → Option Nat), μ_3 a_12 = some (hO 20 fi_13 fq_14) ∧ 
      J32 (hs μ_3 a_12 (hO 20 fi_13 (upF fq_14 3 (some q_1))))) ∧
    (¬ a4 = 0 →
      ∃ a_15 : Nat, o3 = some a_15 ∧
      ∃ (fi_16 : Nat → Int) (fq_17 : Nat → Option Nat), μ_3 a_15 = some (hO 20 fi_16 fq_17) ∧ 
      J32 (hs μ_3 a_15 (hO 20 fi_16 (upF fq_17 2 (some q_1)))))))
set_option maxHeartbeats 4000000 in
theorem tm_J4_addEntry {G : g_G} {l : Launch} {mc ms : Nat} {μ : HM} {b : Nat} {o1 : Option Nat} {o2 : Option Nat} {o3 : Option Nat} {a4 : Int} {P : HM → Prop} (h : wc_J4_addEntry (g_ad G) mc ms μ b o1 o2 o3 a4 P) : CM G l yJ4_addEntry cJ4_addEntry 6 (Option.none : Option Jvm.ClassFile.FieldType) 2 mc ms [.ref b, va_rf o1, va_rf o2, va_rf o3, vI a4] μ (hR0 P) := by
  unfold wc_J4_addEntry at h
  refine wm_of (lvs := [(0, va_rf (some b)), (1, va_rf o1), (2, va_rf o2), (3, va_rf o3), (4, vI a4)]) (by decide) (by simp [lg_sl, rf_cat, vI_cat, vL_cat, ref_cat]) (by simp [lv_args, rf_cat, vI_cat, vL_cat, ref_cat, rf_some]) (fun fr ws hM1 => ?_)
  show WW G l cJ4_addEntry RJ4 6 (Option.none : Option Jvm.ClassFile.FieldType) "addEntry" 2 mc ms (hMR G (hR0 P)) (fun u => [u.1, fr]) 0 0 [ws, fr] 0 [(0, va_rf (some b)), (1, va_rf o1), (2, va_rf o2), (3, va_rf o3), (4, vI a4)] []
  have hB : 0 ≤ mc ∧ 0 ≤ ms := ⟨Nat.zero_le _, Nat.zero_le _⟩
  obtain ⟨b_2, h⟩ := h
  refine wm_new hM1 in_J22 tyJ22_ok q1252 q1253 q142 (ci := 20) rfl dfl_20 b_2.1 b_2.2 dJ4_addEntry_0 (fun q_1 ws hq hM2 => ?_)
  replace h := h q_1 hq
  have hB := b_2
  refine ww_dup dJ4_addEntry_3 (rf_cat _) ?_
  refine ww_aloadQ_n dJ4_addEntry_4 1 rfl ?_
  refine ww_aloadQ_n dJ4_addEntry_5 2 rfl ?_
  refine ww_aloadQ_n dJ4_addEntry_6 3 rfl ?_
  refine wm_callI (n := 3) hM2 (tm_J22_init h) rfl q1256 q142 q1254 q1255 rfl ⟨by decide, by decide, by decide +kernel⟩ rfl ⟨Nat.le_of_ble_eq_true rfl, Nat.le_of_ble_eq_true rfl⟩ rfl (by simp only [List.map_cons, List.map_nil, rf_cat, vI_cat, vL_cat, List.sum_cons, List.sum_nil]; decide) dJ4_addEntry_7 hB ?_
  clear h
  rintro _ μ_3 ws ⟨rfl, h⟩ hM3
  refine ww_st0 ?_
  refine ww_astoreQ (i := 5) (lv2 := [(5, va_rf (some q_1)), (0, va_rf (some b)), (1, va_rf o1), (2, va_rf o2), (3, va_rf o3), (4, vI a4)]) dJ4_addEntry_10 (Nat.le_of_ble_eq_true rfl) rfl ?_
  refine ww_iload dJ4_addEntry_12 5 rfl ?_
  obtain ⟨r_4, h⟩ := h
  obtain ⟨J32, hJ32, h⟩ := h
  have kJ32 : ∀ (μ32 : HM), J32 μ32 → ∀ ws : va_W, Mrep G ws μ32 → (0 + 1 ≤ mc ∧ 0 + 6 ≤ ms) → WW G l cJ4_addEntry RJ4 6 (Option.none : Option Jvm.ClassFile.FieldType) "addEntry" 2 mc ms (hMR G (hR0 P)) (fun u => [u.1, fr]) (0 + 1) (0 + 6) [ws, fr] 32 [(0, va_rf (some b)), (5, va_rf (some q_1))] [] := by
    clear h
    intro μ32 hj ws hM4 hB
    have h := hJ32 μ32 hj
    refine ww_aloadQ_n dJ4_addEntry_32 0 rfl ?_
    refine ww_aloadQ dJ4_addEntry_33 1 rfl ?_
    obtain ⟨hg, h⟩ := h
    refine wm_callV (n := 1) hM4 (tm_J4_fixAfterInsertion h) rfl hg rfl (lw_V q1285 q1287 qs18 q115 q1288) ⟨by decide, by decide, by decide +kernel⟩ rfl ⟨Nat.le_of_ble_eq_true rfl, Nat.le_of_ble_eq_true rfl⟩ rfl (Nat.le_of_ble_eq_true rfl) dJ4_addEntry_35 hB ?_
    clear h
    rintro _ μ_5 ws ⟨rfl, h⟩ hM5
    refine ww_st0 ?_
    refine ww_aloadQ_n dJ4_addEntry_38 0 rfl ?_
    refine ww_dup dJ4_addEntry_39 (rf_cat _) ?_
    obtain ⟨x_6, hx, h⟩ := h
    refine wm_getI hM5 rfl in_J4 (ci := 19) rfl (by decide) 4 (Nat.le_of_ble_eq_true rfl) hx (fun _ _ => rfl) q225 (fun _ _ h => h) dJ4_addEntry_40 ?_
    refine ww_iconst dJ4_addEntry_43 ?_
    refine ww_iadd dJ4_addEntry_44 ?_
    obtain ⟨fi_7, fq_8, hc, h⟩ := h
    refine wm_putI hM5 rfl in_J4 tyJ4_ok nmJ4 (ci := 19) rfl 4 (Nat.le_of_ble_eq_true rfl) hc (fun _ _ => rfl) (fun _ _ => Nat.le_of_ble_eq_true rfl) q225 (fun _ _ h => h) rfl rfl rfl dJ4_addEntry_45 (fun ws hM6 => ?_)
    refine ww_aloadQ_n dJ4_addEntry_48 0 rfl ?_
    refine ww_dup dJ4_addEntry_49 (rf_cat _) ?_
    obtain ⟨x_9, hx, h⟩ := h
    refine wm_getI hM6 rfl in_J4 (ci := 19) rfl (by decide) 5 (Nat.le_of_ble_eq_true rfl) hx (fun _ _ => rfl) q226 (fun _ _ h => h) dJ4_addEntry_50 ?_
    refine ww_iconst dJ4_addEntry_53 ?_
    refine ww_iadd dJ4_addEntry_54 ?_
    obtain ⟨fi_10, fq_11, hc, h⟩ := h
    refine wm_putI hM6 rfl in_J4 tyJ4_ok nmJ4 (ci := 19) rfl 5 (Nat.le_of_ble_eq_true rfl) hc (fun _ _ => rfl) (fun _ _ => Nat.le_of_ble_eq_true rfl) q226 (fun _ _ h => h) rfl rfl rfl dJ4_addEntry_55 (fun ws hM7 => ?_)
    exact ww_vret (ws, (hs (hs μ_5 b (hO 19 (upF fi_7 4 (x_6 + 1)) fq_8)) b (hO 19 (upF fi_10 5 (x_9 + 1)) fq_11))) rfl ⟨hM7, ⟨rfl, h⟩⟩ rfl hB.1 hB.2 dJ4_addEntry_58
  refine ww_if_eq (tgt := 26) dJ4_addEntry_14 (by decide) r_4 (fun c => ?_) (fun c => ?_)
  · replace h := h.1 c
    refine ww_aloadQ_n dJ4_addEntry_26 4 rfl ?_
    refine ww_aloadQ dJ4_addEntry_27 0 rfl ?_
    obtain ⟨a_12, ea_12, h⟩ := h
    subst ea_12
    obtain ⟨fi_13, fq_14, hc, h⟩ := h
    refine wm_putQ hM3 rfl in_J22 tyJ22_ok nmJ22 (ci := 20) rfl 3 (Nat.le_of_ble_eq_true rfl) hc (fun _ _ => rfl) (fun _ _ => Nat.le_of_ble_eq_true rfl) q1263 (fun _ _ h => h) rfl (narrow_rf rfl _) (fits_rf rfl _) dJ4_addEntry_29 (fun ws hM8 => ?_)
    refine ww_lv [1, 0] rfl ?_
    exact kJ32 _ h _ hM8 hB
  · replace h := h.2 c
    refine ww_aloadQ_n dJ4_addEntry_17 4 rfl ?_
    refine ww_aloadQ dJ4_addEntry_18 0 rfl ?_
    obtain ⟨a_15, ea_15, h⟩ := h
    subst ea_15
    obtain ⟨fi_16, fq_17, hc, h⟩ := h
    refine wm_putQ hM3 rfl in_J22 tyJ22_ok nmJ22 (ci := 20) rfl 2 (Nat.le_of_ble_eq_true rfl) hc (fun _ _ => rfl) (fun _ _ => Nat.le_of_ble_eq_true rfl) q1262 (fun _ _ h => h) rfl (narrow_rf rfl _) (fits_rf rfl _) dJ4_addEntry_20 (fun ws hM9 => ?_)
    refine ww_goto (tgt := 32) dJ4_addEntry_23 (by decide) ?_
    refine ww_lv [1, 0] rfl ?_
    exact kJ32 _ h _ hM9 hB
/-! J12_getChar: java/lang/StringLatin1 getChar ([BI)C; flags (False, False, False), depth 0 -/
def wc_J12_getChar (ad : Nat → Nat) (μ : HM) (o1 : Option Nat) (a2 : Int) (P : Int → Prop) : Prop :=
  ∃ a_1 : Nat, o1 = some a_1 ∧
  ∃ x_2 : Int, gA μ a_1 2 a2 = some x_2 ∧
  (0 ≤ bC (bA x_2 255) ∧ bC (bA x_2 255) < 65536) ∧ P (bC (bA x_2 255))
set_option maxHeartbeats 4000000 in
theorem tm_J12_getChar {G : g_G} {l : Launch} {μ : HM} {o1 : Option Nat} {a2 : Int} {P : Int → Prop} (h : wc_J12_getChar (g_ad G) μ o1 a2 P) : CM G l yJ12_getChar cJ12_getChar 2 (Option.some Jvm.ClassFile.FieldType.char) 0 0 0 [va_rf o1, vI a2] μ (hN6 μ P) := by
  unfold wc_J12_getChar at h
  refine wm_of (lvs := [(0, va_rf o1), (1, vI a2)]) (by decide) (by simp [lg_sl, rf_cat, vI_cat, vL_cat, ref_cat]) (by simp [lv_args, rf_cat, vI_cat, vL_cat, ref_cat, rf_some]) (fun fr ws hM1 => ?_)
  show WW G l cJ12_getChar RJ12 2 (Option.some Jvm.ClassFile.FieldType.char) "getChar" 0 0 0 (hMR G (hN6 μ P)) (fun u => [u.1, fr]) 0 0 [ws, fr] 0 [(0, va_rf o1), (1, vI a2)] []
  refine ww_aloadQ_n dJ12_getChar_0 0 rfl ?_
  refine ww_iload_n dJ12_getChar_1 1 rfl ?_
  obtain ⟨a_1, ea_1, h⟩ := h
  subst ea_1
  obtain ⟨x_2, hx, h⟩ := h
  refine wm_bald hM1 rfl hx dJ12_getChar_2 ?_
  refine ww_sipush (v := 255) dJ12_getChar_3 rfl ?_
  refine ww_iand dJ12_getChar_6 ?_
  refine wm_i2c dJ12_getChar_7 ?_
  obtain ⟨hz, h⟩ := h
  exact ww_xret (ws, μ) rfl (narrow_c hz) ⟨hM1, ⟨rfl, _, rfl, hz, h⟩⟩ rfl (Nat.le_refl _) (Nat.le_refl _) dJ12_getChar_8
/-! J9_mismatch: jdk/internal/util/ArraysSupport mismatch ([B[BI)I; flags (False, False, False), depth 0 -/
def wc_J9_mismatch (ad : Nat → Nat) (μ : HM) (o1 : Option Nat) (o2 : Option Nat) (a3 : Int) (P : Int → Prop) : Prop :=
  rI a3 ∧
  ∃ I49 : Nat → Int → Prop, (∀ (n49 : Nat) (v3_49 : Int), I49 n49 v3_49 →
    rI v3_49 ∧
    rI a3 ∧
    ((a3 ≤ v3_49 →
      P (-1)) ∧
    (v3_49 < a3 →
      ∃ a_4 : Nat, o1 = some a_4 ∧
      ∃ x_5 : Int, gA μ a_4 2 v3_49 = some x_5 ∧
      ∃ a_6 : Nat, o2 = some a_6 ∧
      ∃ x_7 : Int, gA μ a_6 2 v3_49 = some x_7 ∧
      rI x_5 ∧
      rI x_7 ∧
      ((x_5 = x_7 →
        ∃ m : Nat, m < n49 ∧ I49 m (v3_49 + 1)) ∧
      (¬ x_5 = x_7 →
        P v3_49))))) ∧
  ((a3 ≤ 7 →
    ∃ m : Nat, I49 m 0) ∧
  (7 < a3 →
    ∃ a_10 : Nat, o1 = some a_10 ∧
    ∃ x_11 : Int, gA μ a_10 2 0 = some x_11 ∧
    ∃ a_12 : Nat, o2 = some a_12 ∧
    ∃ x_13 : Int, gA μ a_12 2 0 = some x_13 ∧
    rI x_11 ∧
    rI x_13 ∧
    ((x_11 = x_13 →
      False) ∧
    (¬ x_11 = x_13 →
      P 0))))
set_option maxHeartbeats 4000000 in
theorem tm_J9_mismatch {G : g_G} {l : Launch} {μ : HM} {o1 : Option Nat} {o2 : Option Nat} {a3 : Int} {P : Int → Prop} (h : wc_J9_mismatch (g_ad G) μ o1 o2 a3 P) : CM G l yJ9_mismatch cJ9_mismatch 4 (Option.some Jvm.ClassFile.FieldType.int) 0 0 0 [va_rf o1, va_rf o2, vI a3] μ (hN1 μ P) := by
  unfold wc_J9_mismatch at h
  refine wm_of (lvs := [(0, va_rf o1), (1, va_rf o2), (2, vI a3)]) (by decide) (by simp [lg_sl, rf_cat, vI_cat, vL_cat, ref_cat]) (by simp [lv_args, rf_cat, vI_cat, vL_cat, ref_cat, rf_some]) (fun fr ws hM1 => ?_)
  show WW G l cJ9_mismatch RJ9 4 (Option.some Jvm.ClassFile.FieldType.int) "mismatch" 0 0 0 (hMR G (hN1 μ P)) (fun u => [u.1, fr]) 0 0 [ws, fr] 0 [(0, va_rf o1), (1, va_rf o2), (2, vI a3)] []
  refine ww_iconst dJ9_mismatch_0 ?_
  refine ww_istore_n (i := 3) (lv2 := [(3, vI 0), (0, va_rf o1), (1, va_rf o2), (2, vI a3)]) dJ9_mismatch_1 rfl (Nat.le_of_ble_eq_true rfl) rfl ?_
  refine ww_iload_n dJ9_mismatch_2 3 rfl ?_
  refine ww_bipush (v := 7) dJ9_mismatch_3 rfl ?_
  obtain ⟨r_1, h⟩ := h
  obtain ⟨I49, hI49, h⟩ := h
  have kI49 : ∀ (n49 : Nat), ∀ (v3_49 : Int), I49 n49 v3_49 → ∀ ws : va_W, Mrep G ws μ → WW G l cJ9_mismatch RJ9 4 (Option.some Jvm.ClassFile.FieldType.int) "mismatch" 0 0 0 (hMR G (hN1 μ P)) (fun u => [u.1, fr]) 0 0 [ws, fr] 49 [(0, va_rf o1), (1, va_rf o2), (2, vI a3), (3, vI v3_49)] [] := by
    clear h
    intro n49
    induction n49 using Nat.strongRecOn with
    | ind n49 ih49 =>
      intro v3_49 hj ws hM2
      have h := hI49 n49 v3_49 hj
      refine ww_iload_n dJ9_mismatch_49 3 rfl ?_
      refine ww_iload_n dJ9_mismatch_50 2 rfl ?_
      obtain ⟨r_2, r_3, h⟩ := h
      refine ww_icmp_ge (tgt := 71) dJ9_mismatch_51 (by decide) r_2 r_3 (fun c => ?_) (fun c => ?_)
      · replace h := h.1 c
        refine ww_iconst dJ9_mismatch_71 ?_
        exact ww_iret (ws, μ) rfl ⟨hM2, ⟨rfl, _, rfl, h⟩⟩ rfl (Nat.le_refl _) (Nat.le_refl _) dJ9_mismatch_72
      · replace h := h.2 (Int.not_le.mp c)
        refine ww_aloadQ_n dJ9_mismatch_54 0 rfl ?_
        refine ww_iload_n dJ9_mismatch_55 3 rfl ?_
        obtain ⟨a_4, ea_4, h⟩ := h
        subst ea_4
        obtain ⟨x_5, hx, h⟩ := h
        refine wm_bald hM2 rfl hx dJ9_mismatch_56 ?_
        refine ww_aloadQ_n dJ9_mismatch_57 1 rfl ?_
        refine ww_iload_n dJ9_mismatch_58 3 rfl ?_
        obtain ⟨a_6, ea_6, h⟩ := h
        subst ea_6
        obtain ⟨x_7, hx, h⟩ := h
        refine wm_bald hM2 rfl hx dJ9_mismatch_59 ?_
        obtain ⟨r_8, r_9, h⟩ := h
        refine ww_icmp_eq (tgt := 65) dJ9_mismatch_60 (by decide) r_8 r_9 (fun c => ?_) (fun c => ?_)
        · replace h := h.1 c
          refine ww_iinc (lv2 := [(3, vI (v3_49 + 1)), (0, va_rf (some a_4)), (1, va_rf (some a_6)), (2, vI a3)]) dJ9_mismatch_65 3 rfl (Nat.le_of_ble_eq_true rfl) rfl ?_
          refine ww_goto (tgt := 49) dJ9_mismatch_68 (by decide) ?_
          refine ww_lv [1, 2, 3, 0] rfl ?_
          obtain ⟨m, hm, h⟩ := h
          exact ih49 m hm _ h _ hM2
        · replace h := h.2 c
          refine ww_iload_n dJ9_mismatch_63 3 rfl ?_
          exact ww_iret (ws, μ) rfl ⟨hM2, ⟨rfl, _, rfl, h⟩⟩ rfl (Nat.le_refl _) (Nat.le_refl _) dJ9_mismatch_64
  refine ww_icmp_le (tgt := 49) dJ9_mismatch_5 (by decide) r_1 (by decide) (fun c => ?_) (fun c => ?_)
  · replace h := h.1 c
    refine ww_lv [1, 2, 3, 0] rfl ?_
    obtain ⟨m, h⟩ := h
    exact kI49 m _ h _ hM1
  · replace h := h.2 (Int.not_le.mp c)
    refine ww_aloadQ_n dJ9_mismatch_8 1 rfl ?_
    refine ww_iconst dJ9_mismatch_9 ?_
    obtain ⟨a_10, ea_10, h⟩ := h
    subst ea_10
    obtain ⟨x_11, hx, h⟩ := h
    refine wm_bald hM1 rfl hx dJ9_mismatch_10 ?_
    refine ww_aloadQ_n dJ9_mismatch_11 2 rfl ?_
    refine ww_iconst dJ9_mismatch_12 ?_
    obtain ⟨a_12, ea_12, h⟩ := h
    subst ea_12
    obtain ⟨x_13, hx, h⟩ := h
    refine wm_bald hM1 rfl hx dJ9_mismatch_13 ?_
    obtain ⟨r_14, r_15, h⟩ := h
    refine ww_icmp_eq (tgt := 19) dJ9_mismatch_14 (by decide) r_14 r_15 (fun c => ?_) (fun c => ?_)
    · replace h := h.1 c
      refine ww_aloadQ_n dJ9_mismatch_19 1 rfl ?_
      refine wm_getsI (C := "jdk/internal/misc/Unsafe") (x := 16) (by decide) q949 (fun _ _ h => h) dJ9_mismatch_20 ?_
      refine ww_eq rfl rfl (show _ = vI 16 :: _ from rfl) ?_
      refine ww_i2l dJ9_mismatch_23 (by decide) ?_
      refine ww_aloadQ_n dJ9_mismatch_24 2 rfl ?_
      refine wm_getsI (C := "jdk/internal/misc/Unsafe") (x := 16) (by decide) q949 (fun _ _ h => h) dJ9_mismatch_25 ?_
      refine ww_eq rfl rfl (show _ = vI 16 :: _ from rfl) ?_
      refine ww_i2l dJ9_mismatch_28 (by decide) ?_
      refine ww_iload_n dJ9_mismatch_29 3 rfl ?_
      refine wm_getsI (C := "jdk/internal/util/ArraysSupport") (x := 0) (by decide) q951 (fun _ _ h => h) dJ9_mismatch_30 ?_
      refine ww_eq rfl rfl (show _ = vI 0 :: _ from rfl) ?_
      exact h.elim
    · replace h := h.2 c
      refine ww_iconst dJ9_mismatch_17 ?_
      exact ww_iret (ws, μ) rfl ⟨hM1, ⟨rfl, _, rfl, h⟩⟩ rfl (Nat.le_refl _) (Nat.le_refl _) dJ9_mismatch_18
/-! J12_compareTo_2: java/lang/StringLatin1 compareTo ([B[BII)I; flags (False, False, False), depth 1 -/
def wc_J12_compareTo_2 (ad : Nat → Nat) (μ : HM) (o1 : Option Nat) (o2 : Option Nat) (a3 : Int) (a4 : Int) (P : Int → Prop) : Prop :=
  wc_J10_min ad μ a3 a4 (fun y_1 =>
    wc_J9_mismatch ad μ o1 o2 y_1 (fun y_3 =>
      rI y_3 ∧
      ((0 ≤ y_3 →
        wc_J12_getChar ad μ o1 y_3 (fun y_6 =>
          wc_J12_getChar ad μ o2 y_3 (fun y_8 =>
            P (y_6 - y_8)))) ∧
      (y_3 < 0 →
        P (a3 - a4)))))
set_option maxHeartbeats 4000000 in
theorem tm_J12_compareTo_2 {G : g_G} {l : Launch} {μ : HM} {o1 : Option Nat} {o2 : Option Nat} {a3 : Int} {a4 : Int} {P : Int → Prop} (h : wc_J12_compareTo_2 (g_ad G) μ o1 o2 a3 a4 P) : CM G l yJ12_compareTo_2 cJ12_compareTo_2 6 (Option.some Jvm.ClassFile.FieldType.int) 1 0 0 [va_rf o1, va_rf o2, vI a3, vI a4] μ (hN1 μ P) := by
  unfold wc_J12_compareTo_2 at h
  refine wm_of (lvs := [(0, va_rf o1), (1, va_rf o2), (2, vI a3), (3, vI a4)]) (by decide) (by simp [lg_sl, rf_cat, vI_cat, vL_cat, ref_cat]) (by simp [lv_args, rf_cat, vI_cat, vL_cat, ref_cat, rf_some]) (fun fr ws hM1 => ?_)
  show WW G l cJ12_compareTo_2 RJ12 6 (Option.some Jvm.ClassFile.FieldType.int) "compareTo" 1 0 0 (hMR G (hN1 μ P)) (fun u => [u.1, fr]) 0 0 [ws, fr] 0 [(0, va_rf o1), (1, va_rf o2), (2, vI a3), (3, vI a4)] []
  refine ww_iload_n dJ12_compareTo_2_0 2 rfl ?_
  refine ww_iload_n dJ12_compareTo_2_1 3 rfl ?_
  refine wm_callS (n := 2) hM1 (tm_J10_min h) (lw_S q945 q484 q124 q485) ⟨by decide, by decide, by decide +kernel⟩ rfl ⟨Nat.le_of_ble_eq_true rfl, Nat.le_of_ble_eq_true rfl⟩ rfl (Nat.le_of_ble_eq_true rfl) dJ12_compareTo_2_2 ⟨Nat.le_refl _, Nat.le_refl _⟩ ?_
  clear h
  rintro _ _ ws ⟨rfl, y_1, rfl, h⟩ hM2
  refine ww_st1 ?_
  refine ww_istore (i := 4) (lv2 := [(4, vI y_1), (0, va_rf o1), (1, va_rf o2), (2, vI a3), (3, vI a4)]) dJ12_compareTo_2_5 (Nat.le_of_ble_eq_true rfl) rfl ?_
  refine ww_aloadQ_n dJ12_compareTo_2_7 1 rfl ?_
  refine ww_aloadQ_n dJ12_compareTo_2_8 2 rfl ?_
  refine ww_iload dJ12_compareTo_2_9 0 rfl ?_
  refine wm_callS (n := 3) hM2 (tm_J9_mismatch h) (lw_S q946 q947 q123 q948) ⟨by decide, by decide, by decide +kernel⟩ rfl ⟨Nat.le_of_ble_eq_true rfl, Nat.le_of_ble_eq_true rfl⟩ rfl (Nat.le_of_ble_eq_true rfl) dJ12_compareTo_2_11 ⟨Nat.le_refl _, Nat.le_refl _⟩ ?_
  clear h
  rintro _ _ ws ⟨rfl, y_3, rfl, h⟩ hM3
  refine ww_st1 ?_
  refine ww_istore (i := 5) (lv2 := [(5, vI y_3), (4, vI y_1), (0, va_rf o1), (1, va_rf o2), (2, vI a3), (3, vI a4)]) dJ12_compareTo_2_14 (Nat.le_of_ble_eq_true rfl) rfl ?_
  refine ww_iload dJ12_compareTo_2_16 0 rfl ?_
  obtain ⟨r_5, h⟩ := h
  refine ww_if_ge (tgt := 27) dJ12_compareTo_2_18 (by decide) r_5 (fun c => ?_) (fun c => ?_)
  · replace h := h.1 c
    refine ww_aloadQ_n dJ12_compareTo_2_27 2 rfl ?_
    refine ww_iload dJ12_compareTo_2_28 0 rfl ?_
    refine wm_callS (n := 2) hM3 (tm_J12_getChar h) (lw_S q1050 q1051 q127 q1052) ⟨by decide, by decide, by decide +kernel⟩ rfl ⟨Nat.le_of_ble_eq_true rfl, Nat.le_of_ble_eq_true rfl⟩ rfl (Nat.le_of_ble_eq_true rfl) dJ12_compareTo_2_30 ⟨Nat.le_refl _, Nat.le_refl _⟩ ?_
    clear h
    rintro _ _ ws ⟨rfl, y_6, rfl, z_7, h⟩ hM4
    refine ww_st1 ?_
    refine ww_aloadQ_n dJ12_compareTo_2_33 3 rfl ?_
    refine ww_iload dJ12_compareTo_2_34 0 rfl ?_
    refine wm_callS (n := 2) hM4 (tm_J12_getChar h) (lw_S q1050 q1051 q127 q1052) ⟨by decide, by decide, by decide +kernel⟩ rfl ⟨Nat.le_of_ble_eq_true rfl, Nat.le_of_ble_eq_true rfl⟩ rfl (Nat.le_of_ble_eq_true rfl) dJ12_compareTo_2_36 ⟨Nat.le_refl _, Nat.le_refl _⟩ ?_
    clear h
    rintro _ _ ws ⟨rfl, y_8, rfl, z_9, h⟩ hM5
    refine ww_st1 ?_
    refine ww_isub dJ12_compareTo_2_39 ?_
    exact ww_iret (ws, μ) rfl ⟨hM5, ⟨rfl, _, rfl, h⟩⟩ rfl (Nat.le_refl _) (Nat.le_refl _) dJ12_compareTo_2_40
  · replace h := h.2 (Int.not_le.mp c)
    refine ww_iload_n dJ12_compareTo_2_21 4 rfl ?_
    refine ww_iload_n dJ12_compareTo_2_22 5 rfl ?_
    refine ww_isub dJ12_compareTo_2_23 ?_
    refine ww_goto (tgt := 40) dJ12_compareTo_2_24 (by decide) ?_
    exact ww_iret (ws, μ) rfl ⟨hM3, ⟨rfl, _, rfl, h⟩⟩ rfl (Nat.le_refl _) (Nat.le_refl _) dJ12_compareTo_2_40
/-! J12_compareTo: java/lang/StringLatin1 compareTo ([B[B)I; flags (False, False, False), depth 2 -/
def wc_J12_compareTo (ad : Nat → Nat) (μ : HM) (o1 : Option Nat) (o2 : Option Nat) (P : Int → Prop) : Prop :=
  ∃ a_1 : Nat, o1 = some a_1 ∧
  ∃ n_2 : Nat, gL μ a_1 = some n_2 ∧
  ∃ a_3 : Nat, o2 = some a_3 ∧
  ∃ n_4 : Nat, gL μ a_3 = some n_4 ∧
  wc_J12_compareTo_2 ad μ (some a_1) (some a_3) (n_2 : Int) (n_4 : Int) (fun y_5 =>
    P y_5)
set_option maxHeartbeats 4000000 in
theorem tm_J12_compareTo {G : g_G} {l : Launch} {μ : HM} {o1 : Option Nat} {o2 : Option Nat} {P : Int → Prop} (h : wc_J12_compareTo (g_ad G) μ o1 o2 P) : CM G l yJ12_compareTo cJ12_compareTo 4 (Option.some Jvm.ClassFile.FieldType.int) 2 0 0 [va_rf o1, va_rf o2] μ (hN1 μ P) := by
  unfold wc_J12_compareTo at h
  refine wm_of (lvs := [(0, va_rf o1), (1, va_rf o2)]) (by decide) (by simp [lg_sl, rf_cat, vI_cat, vL_cat, ref_cat]) (by simp [lv_args, rf_cat, vI_cat, vL_cat, ref_cat, rf_some]) (fun fr ws hM1 => ?_)
  show WW G l cJ12_compareTo RJ12 4 (Option.some Jvm.ClassFile.FieldType.int) "compareTo" 2 0 0 (hMR G (hN1 μ P)) (fun u => [u.1, fr]) 0 0 [ws, fr] 0 [(0, va_rf o1), (1, va_rf o2)] []
  refine ww_aloadQ_n dJ12_compareTo_0 0 rfl ?_
  obtain ⟨a_1, ea_1, h⟩ := h
  subst ea_1
  obtain ⟨n_2, hn, h⟩ := h
  refine wm_alen hM1 rfl hn dJ12_compareTo_1 ?_
  refine ww_istore_n (i := 2) (lv2 := [(2, vI (n_2 : Int)), (0, va_rf (some a_1)), (1, va_rf o2)]) dJ12_compareTo_2 rfl (Nat.le_of_ble_eq_true rfl) (by simp [rf_cat, vI_cat, vL_cat, ref_cat]) ?_
  refine ww_aloadQ_n dJ12_compareTo_3 2 rfl ?_
  obtain ⟨a_3, ea_3, h⟩ := h
  subst ea_3
  obtain ⟨n_4, hn, h⟩ := h
  refine wm_alen hM1 rfl hn dJ12_compareTo_4 ?_
  refine ww_istore_n (i := 3) (lv2 := [(3, vI (n_4 : Int)), (2, vI (n_2 : Int)), (0, va_rf (some a_1)), (1, va_rf (some a_3))]) dJ12_compareTo_5 rfl (Nat.le_of_ble_eq_true rfl) rfl ?_
  refine ww_aloadQ_n dJ12_compareTo_6 2 rfl ?_
  refine ww_aloadQ_n dJ12_compareTo_7 3 rfl ?_
  refine ww_iload_n dJ12_compareTo_8 1 rfl ?_
  refine ww_iload_n dJ12_compareTo_9 0 rfl ?_
  refine wm_callS (n := 4) hM1 (tm_J12_compareTo_2 h) (lw_S q942 q943 q127 q944) ⟨by decide, by decide, by decide +kernel⟩ rfl ⟨Nat.le_of_ble_eq_true rfl, Nat.le_of_ble_eq_true rfl⟩ rfl (Nat.le_of_ble_eq_true rfl) dJ12_compareTo_10 ⟨Nat.le_refl _, Nat.le_refl _⟩ ?_
  clear h
  rintro _ _ ws ⟨rfl, y_5, rfl, h⟩ hM2
  refine ww_st1 ?_
  exact ww_iret (ws, μ) rfl ⟨hM2, ⟨rfl, _, rfl, h⟩⟩ rfl (Nat.le_refl _) (Nat.le_refl _) dJ12_compareTo_13
/-! J7_coder: java/lang/String coder ()B; flags (False, False, False), depth 0 -/
def wc_J7_coder (ad : Nat → Nat) (μ : HM) (b : Nat) (P : Int → Prop) : Prop :=
  (((1 : Int) = 0 →
    (-128 ≤ (1 : Int) ∧ (1 : Int) < 128) ∧ P (1 : Int)) ∧
  (¬ (1 : Int) = 0 →
    ∃ x_1 : Int, gI μ b 22 1 = some x_1 ∧
    (-128 ≤ x_1 ∧ x_1 < 128) ∧ P x_1))
set_option maxHeartbeats 4000000 in
theorem tm_J7_coder {G : g_G} {l : Launch} {μ : HM} {b : Nat} {P : Int → Prop} (h : wc_J7_coder (g_ad G) μ b P) : CM G l yJ7_coder cJ7_coder 1 (Option.some Jvm.ClassFile.FieldType.byte) 0 0 0 [.ref b] μ (hN5 μ P) := by
  unfold wc_J7_coder at h
  refine wm_of (lvs := [(0, va_rf (some b))]) (by decide) (Nat.le_of_ble_eq_true rfl) rfl (fun fr ws hM1 => ?_)
  show WW G l cJ7_coder RJ7 1 (Option.some Jvm.ClassFile.FieldType.byte) "coder" 0 0 0 (hMR G (hN5 μ P)) (fun u => [u.1, fr]) 0 0 [ws, fr] 0 [(0, va_rf (some b))] []
  refine wm_getsI (C := "java/lang/String") (x := 1) (by decide) q601 (fun _ _ h => h) dJ7_coder_0 ?_
  refine ww_eq rfl rfl (show _ = vI 1 :: _ from rfl) ?_
  refine ww_if_eq (tgt := 13) dJ7_coder_3 (by decide) (by decide) (fun c => ?_) (fun c => ?_)
  · replace h := h.1 c
    refine ww_iconst dJ7_coder_13 ?_
    obtain ⟨hz, h⟩ := h
    exact ww_xret (ws, μ) rfl (narrow_b hz) ⟨hM1, ⟨rfl, _, rfl, hz, h⟩⟩ rfl (Nat.le_refl _) (Nat.le_refl _) dJ7_coder_14
  · replace h := h.2 c
    refine ww_aloadQ_n dJ7_coder_6 0 rfl ?_
    obtain ⟨x_1, hx, h⟩ := h
    refine wm_strI1 hM1 rfl hx q616 (fun _ _ h => h) dJ7_coder_7 ?_
    refine ww_goto (tgt := 14) dJ7_coder_10 (by decide) ?_
    obtain ⟨hz, h⟩ := h
    exact ww_xret (ws, μ) rfl (narrow_b hz) ⟨hM1, ⟨rfl, _, rfl, hz, h⟩⟩ rfl (Nat.le_refl _) (Nat.le_refl _) dJ7_coder_14
/-! J7_compareTo: java/lang/String compareTo (Ljava/lang/String;)I; flags (False, False, False), depth 3 -/
def wc_J7_compareTo (ad : Nat → Nat) (μ : HM) (b : Nat) (o1 : Option Nat) (P : Int → Prop) : Prop :=
  ∃ x_1 : Option Nat, gQ μ b 22 0 = some x_1 ∧
  ∃ a_3 : Nat, o1 = some a_3 ∧
  ∃ x_2 : Option Nat, gQ μ a_3 22 0 = some x_2 ∧
  gC μ b = some 22 ∧
  wc_J7_coder ad μ b (fun y_4 =>
    gC μ a_3 = some 22 ∧
    wc_J7_coder ad μ a_3 (fun y_6 =>
      ((¬ y_4 = y_6 →
        ((¬ y_4 = 0 →
          False) ∧
        (y_4 = 0 →
          False))) ∧
      (y_4 = y_6 →
        ((¬ y_4 = 0 →
          False) ∧
        (y_4 = 0 →
          wc_J12_compareTo ad μ x_1 x_2 (fun y_8 =>
            P y_8)))))))
set_option maxHeartbeats 4000000 in
theorem tm_J7_compareTo {G : g_G} {l : Launch} {μ : HM} {b : Nat} {o1 : Option Nat} {P : Int → Prop} (h : wc_J7_compareTo (g_ad G) μ b o1 P) : CM G l yJ7_compareTo cJ7_compareTo 5 (Option.some Jvm.ClassFile.FieldType.int) 3 0 0 [.ref b, va_rf o1] μ (hN1 μ P) := by
  unfold wc_J7_compareTo at h
  refine wm_of (lvs := [(0, va_rf (some b)), (1, va_rf o1)]) (by decide) (by simp [lg_sl, rf_cat, vI_cat, vL_cat, ref_cat]) (by simp [lv_args, rf_cat, vI_cat, vL_cat, ref_cat, rf_some]) (fun fr ws hM1 => ?_)
  show WW G l cJ7_compareTo RJ7 5 (Option.some Jvm.ClassFile.FieldType.int) "compareTo" 3 0 0 (hMR G (hN1 μ P)) (fun u => [u.1, fr]) 0 0 [ws, fr] 0 [(0, va_rf (some b)), (1, va_rf o1)] []
  refine ww_aloadQ_n dJ7_compareTo_0 0 rfl ?_
  obtain ⟨x_1, hx, h⟩ := h
  refine wm_strQ hM1 rfl hx q615 (fun _ _ h => h) dJ7_compareTo_1 ?_
  refine ww_astoreQ_n (i := 2) (lv2 := [(2, va_rf x_1), (0, va_rf (some b)), (1, va_rf o1)]) dJ7_compareTo_4 rfl (Nat.le_of_ble_eq_true rfl) (by simp [rf_cat, vI_cat, vL_cat, ref_cat]) ?_
  refine ww_aloadQ_n dJ7_compareTo_5 2 rfl ?_
  obtain ⟨a_3, ea_3, h⟩ := h
  subst ea_3
  obtain ⟨x_2, hx, h⟩ := h
  refine wm_strQ hM1 rfl hx q615 (fun _ _ h => h) dJ7_compareTo_6 ?_
  refine ww_astoreQ_n (i := 3) (lv2 := [(3, va_rf x_2), (2, va_rf x_1), (0, va_rf (some b)), (1, va_rf (some a_3))]) dJ7_compareTo_9 rfl (Nat.le_of_ble_eq_true rfl) (by simp [rf_cat, vI_cat, vL_cat, ref_cat]) ?_
  refine ww_aloadQ_n dJ7_compareTo_10 2 rfl ?_
  obtain ⟨hg, h⟩ := h
  refine wm_callV (n := 0) hM1 (tm_J7_coder h) rfl hg rfl (lw_V q644 q645 q646 q121 q647) ⟨by decide, by decide, by decide +kernel⟩ rfl ⟨Nat.le_of_ble_eq_true rfl, Nat.le_of_ble_eq_true rfl⟩ rfl (Nat.le_of_ble_eq_true rfl) dJ7_compareTo_11 ⟨Nat.le_refl _, Nat.le_refl _⟩ ?_
  clear h
  rintro _ _ ws ⟨rfl, y_4, rfl, z_5, h⟩ hM2
  refine ww_st1 ?_
  refine ww_istore (i := 4) (lv2 := [(4, vI y_4), (3, va_rf x_2), (2, va_rf x_1), (0, va_rf (some b)), (1, va_rf (some a_3))]) dJ7_compareTo_14 (Nat.le_of_ble_eq_true rfl) (by simp [rf_cat, vI_cat, vL_cat, ref_cat]) ?_
  refine ww_iload dJ7_compareTo_16 0 rfl ?_
  refine ww_aloadQ_n dJ7_compareTo_18 4 rfl ?_
  obtain ⟨hg, h⟩ := h
  refine wm_callV (n := 0) hM2 (tm_J7_coder h) rfl hg rfl (lw_V q644 q645 q646 q121 q647) ⟨by decide, by decide, by decide +kernel⟩ rfl ⟨Nat.le_of_ble_eq_true rfl, Nat.le_of_ble_eq_true rfl⟩ rfl (Nat.le_of_ble_eq_true rfl) dJ7_compareTo_19 ⟨Nat.le_refl _, Nat.le_refl _⟩ ?_
  clear h
  rintro _ _ ws ⟨rfl, y_6, rfl, z_7, h⟩ hM3
  refine ww_st1 ?_
  refine ww_icmp_ne (tgt := 44) dJ7_compareTo_22 (by decide) (r_b z_5) (r_b z_7) (fun c => ?_) (fun c => ?_)
  · replace h := h.1 c
    refine ww_iload dJ7_compareTo_44 0 rfl ?_
    refine ww_if_ne (tgt := 57) dJ7_compareTo_46 (by decide) (r_b z_5) (fun c => ?_) (fun c => ?_)
    · replace h := h.1 c
      refine ww_aloadQ_n dJ7_compareTo_57 2 rfl ?_
      refine ww_aloadQ_n dJ7_compareTo_58 1 rfl ?_
      exact h.elim
    · replace h := h.2 c
      refine ww_aloadQ_n dJ7_compareTo_49 2 rfl ?_
      refine ww_aloadQ_n dJ7_compareTo_50 1 rfl ?_
      exact h.elim
  · replace h := h.2 c
    refine ww_iload dJ7_compareTo_25 0 rfl ?_
    refine ww_if_ne (tgt := 38) dJ7_compareTo_27 (by decide) (r_b z_5) (fun c => ?_) (fun c => ?_)
    · replace h := h.1 c
      refine ww_aloadQ_n dJ7_compareTo_38 2 rfl ?_
      refine ww_aloadQ_n dJ7_compareTo_39 1 rfl ?_
      exact h.elim
    · replace h := h.2 c
      refine ww_aloadQ_n dJ7_compareTo_30 2 rfl ?_
      refine ww_aloadQ_n dJ7_compareTo_31 1 rfl ?_
      refine wm_callS (n := 2) hM3 (tm_J12_compareTo h) (lw_S q939 q940 q127 q941) ⟨by decide, by decide, by decide +kernel⟩ rfl ⟨Nat.le_of_ble_eq_true rfl, Nat.le_of_ble_eq_true rfl⟩ rfl (Nat.le_of_ble_eq_true rfl) dJ7_compareTo_32 ⟨Nat.le_refl _, Nat.le_refl _⟩ ?_
      clear h
      rintro _ _ ws ⟨rfl, y_8, rfl, h⟩ hM4
      refine ww_st1 ?_
      refine ww_goto (tgt := 43) dJ7_compareTo_35 (by decide) ?_
      exact ww_iret (ws, μ) rfl ⟨hM4, ⟨rfl, _, rfl, h⟩⟩ rfl (Nat.le_refl _) (Nat.le_refl _) dJ7_compareTo_43
/-! J7_compareTo_2: java/lang/String compareTo (Ljava/lang/Object;)I; flags (False, False, False), depth 4 -/
def wc_J7_compareTo_2 (ad : Nat → Nat) (μ : HM) (b : Nat) (o1 : Option Nat) (P : Int → Prop) : Prop :=
  (∀ z : Nat, o1 = some z → ∃ ci, gC μ z = some ci ∧ (ci = 22)) ∧
  gC μ b = some 22 ∧
  wc_J7_compareTo ad μ b o1 (fun y_1 =>
    P y_1)
set_option maxHeartbeats 4000000 in
theorem tm_J7_compareTo_2 {G : g_G} {l : Launch} {μ : HM} {b : Nat} {o1 : Option Nat} {P : Int → Prop} (h : wc_J7_compareTo_2 (g_ad G) μ b o1 P) : CM G l yJ7_compareTo_2 cJ7_compareTo_2 2 (Option.some Jvm.ClassFile.FieldType.int) 4 0 0 [.ref b, va_rf o1] μ (hN1 μ P) := by
  unfold wc_J7_compareTo_2 at h
  refine wm_of (lvs := [(0, va_rf (some b)), (1, va_rf o1)]) (by decide) (by simp [lg_sl, rf_cat, vI_cat, vL_cat, ref_cat]) (by simp [lv_args, rf_cat, vI_cat, vL_cat, ref_cat, rf_some]) (fun fr ws hM1 => ?_)
  show WW G l cJ7_compareTo_2 RJ7 2 (Option.some Jvm.ClassFile.FieldType.int) "compareTo" 4 0 0 (hMR G (hN1 μ P)) (fun u => [u.1, fr]) 0 0 [ws, fr] 0 [(0, va_rf (some b)), (1, va_rf o1)] []
  refine ww_aloadQ_n dJ7_compareTo_2_0 0 rfl ?_
  refine ww_aloadQ_n dJ7_compareTo_2_1 1 rfl ?_
  obtain ⟨hc, h⟩ := h
  refine wm_cast hM1 hc cast_0 q688 dJ7_compareTo_2_2 ?_
  obtain ⟨hg, h⟩ := h
  refine wm_callV (n := 1) hM1 (tm_J7_compareTo h) rfl hg rfl (lw_V q1101 q936 q937 q121 q938) ⟨by decide, by decide, by decide +kernel⟩ rfl ⟨Nat.le_of_ble_eq_true rfl, Nat.le_of_ble_eq_true rfl⟩ rfl (Nat.le_of_ble_eq_true rfl) dJ7_compareTo_2_5 ⟨Nat.le_refl _, Nat.le_refl _⟩ ?_
  clear h
  rintro _ _ ws ⟨rfl, y_1, rfl, h⟩ hM2
  refine ww_st1 ?_
  exact ww_iret (ws, μ) rfl ⟨hM2, ⟨rfl, _, rfl, h⟩⟩ rfl (Nat.le_refl _) (Nat.le_refl _) dJ7_compareTo_2_8
/-! J4_compare: java/util/TreeMap compare (Ljava/lang/Object;Ljava/lang/Object;)I; flags (False, False, False), depth 5 -/
def wc_J4_compare (ad : Nat → Nat) (μ : HM) (b : Nat) (o1 : Option Nat) (o2 : Option Nat) (P : Int → Prop) : Prop :=
  ∃ x_1 : Option Nat, gQ μ b 19 2 = some x_1 ∧
  ((x_1 = none →
    (∀ z : Nat, o1 = some z → ∃ ci, gC μ z = some ci ∧ (ci = 7 ∨ ci = 8 ∨ ci = 9 ∨ ci = 17 ∨ ci = 21 ∨ ci = 22)) ∧
    ∃ a_3 : Nat, o1 = some a_3 ∧
    gC μ a_3 = some 22 ∧
    wc_J7_compareTo_2 ad μ a_3 o2 (fun y_4 =>
      P y_4)) ∧
  (∀ a_2 : Nat, x_1 = some a_2 →
    ∃ x_6 : Option Nat, gQ μ b 19 2 = some x_6 ∧
    False))
set_option maxHeartbeats 4000000 in
theorem tm_J4_compare {G : g_G} {l : Launch} {μ : HM} {b : Nat} {o1 : Option Nat} {o2 : Option Nat} {P : Int → Prop} (h : wc_J4_compare (g_ad G) μ b o1 o2 P) : CM G l yJ4_compare cJ4_compare 3 (Option.some Jvm.ClassFile.FieldType.int) 5 0 0 [.ref b, va_rf o1, va_rf o2] μ (hN1 μ P) := by
  unfold wc_J4_compare at h
  refine wm_of (lvs := [(0, va_rf (some b)), (1, va_rf o1), (2, va_rf o2)]) (by decide) (by simp [lg_sl, rf_cat, vI_cat, vL_cat, ref_cat]) (by simp [lv_args, rf_cat, vI_cat, vL_cat, ref_cat, rf_some]) (fun fr ws hM1 => ?_)
  show WW G l cJ4_compare RJ4 3 (Option.some Jvm.ClassFile.FieldType.int) "compare" 5 0 0 (hMR G (hN1 μ P)) (fun u => [u.1, fr]) 0 0 [ws, fr] 0 [(0, va_rf (some b)), (1, va_rf o1), (2, va_rf o2)] []
  refine ww_aloadQ_n dJ4_compare_0 0 rfl ?_
  obtain ⟨x_1, hx, h⟩ := h
  refine wm_getQ hM1 rfl in_J4 (ci := 19) rfl (by decide) 2 (Nat.le_of_ble_eq_true rfl) hx (fun _ _ => rfl) q223 (fun _ _ h => h) dJ4_compare_1 ?_
  refine ww_ifnonnullQ (tgt := 20) dJ4_compare_4 (by decide) (fun a_2 c => ?_) (fun c => ?_)
  · replace h := h.2 a_2 c
    subst c
    refine ww_aloadQ_n dJ4_compare_20 0 rfl ?_
    obtain ⟨x_6, hx, h⟩ := h
    refine wm_getQ hM1 rfl in_J4 (ci := 19) rfl (by decide) 2 (Nat.le_of_ble_eq_true rfl) hx (fun _ _ => rfl) q223 (fun _ _ h => h) dJ4_compare_21 ?_
    refine ww_aloadQ_n dJ4_compare_24 1 rfl ?_
    refine ww_aloadQ_n dJ4_compare_25 2 rfl ?_
    exact h.elim
  · replace h := h.1 c
    subst c
    refine ww_aloadQ_n dJ4_compare_7 1 rfl ?_
    obtain ⟨hc, h⟩ := h
    refine wm_cast hM1 hc cast_2 q916 dJ4_compare_8 ?_
    refine ww_aloadQ_n dJ4_compare_11 2 rfl ?_
    obtain ⟨a_3, ea_3, h⟩ := h
    subst ea_3
    obtain ⟨hg, h⟩ := h
    refine wm_callF (n := 1) hM1 (tm_J7_compareTo_2 h) rfl hg rfl (lw_F q918 q1096 q1098 q121 q1100) (by decide) ⟨by decide, by decide, by decide +kernel⟩ rfl ⟨Nat.le_of_ble_eq_true rfl, Nat.le_of_ble_eq_true rfl⟩ rfl (Nat.le_of_ble_eq_true rfl) dJ4_compare_12 ⟨Nat.le_refl _, Nat.le_refl _⟩ ?_
    clear h
    rintro _ _ ws ⟨rfl, y_4, rfl, h⟩ hM2
    refine ww_st1 ?_
    refine ww_goto (tgt := 31) dJ4_compare_17 (by decide) ?_
    exact ww_iret (ws, μ) rfl ⟨hM2, ⟨rfl, _, rfl, h⟩⟩ rfl (Nat.le_refl _) (Nat.le_refl _) dJ4_compare_31
/-! J4_addEntryToEmptyMap: java/util/TreeMap addEntryToEmptyMap (Ljava/lang/Object;Ljava/lang/Object;)V; flags (True, True, False), depth 6 -/
def wc_J4_addEntryToEmptyMap (ad : Nat → Nat) (mc ms : Nat) (μ : HM) (b : Nat) (o1 : Option Nat) (o2 : Option Nat) (P : HM → Prop) : Prop :=
  gC μ b = some 19 ∧
  wc_J4_compare ad μ b o1 o1 (fun y_1 =>
    (0 + 1 ≤ mc ∧ 0 + 6 ≤ ms) ∧ ∀ q_3 : Nat, μ q_3 = none →
    wc_J22_init ad (hs μ q_3 (hO 20 (fun _ => 0) (fun _ => none))) q_3 o1 o2 none (fun μ_5 =>
      ∃ (fi_6 : Nat → Int) (fq_7 : Nat → Option Nat), μ_5 b = some (hO 19 fi_6 fq_7) ∧ 
      ∃ (fi_8 : Nat → Int) (fq_9 : Nat → Option Nat), (hs μ_5 b (hO 19 fi_6 (upF fq_7 3 (some q_3)))) b = some (hO 19 fi_8 fq_9) ∧ 
      ∃ x_10 : Int, gI (hs (hs μ_5 b (hO 19 fi_6 (upF fq_7 3 (some q_3)))) b (hO 19 (upF fi_8 4 1) fq_9)) b 19 5 = some x_10 ∧
      ∃ (fi_11 : Nat → Int) (fq_12 : Nat → Option Nat), (hs (hs μ_5 b (hO 19 fi_6 (upF fq_7 3 (some q_3)))) b (hO 19 (upF fi_8 4 1) fq_9)) b = some (hO 19 fi_11 fq_12) ∧ 
      P (hs (hs (hs μ_5 b (hO 19 fi_6 (upF fq_7 3 (some q_3)))) b (hO 19 (upF fi_8 4 1) fq_9)) b (hO 19 (upF fi_11 5 (x_10 + 1)) fq_12))))
set_option maxHeartbeats 4000000 in
theorem tm_J4_addEntryToEmptyMap {G : g_G} {l : Launch} {mc ms : Nat} {μ : HM} {b : Nat} {o1 : Option Nat} {o2 : Option Nat} {P : HM → Prop} (h : wc_J4_addEntryToEmptyMap (g_ad G) mc ms μ b o1 o2 P) : CM G l yJ4_addEntryToEmptyMap cJ4_addEntryToEmptyMap 3 (Option.none : Option Jvm.ClassFile.FieldType) 6 mc ms [.ref b, va_rf o1, va_rf o2] μ (hR0 P) := by
  unfold wc_J4_addEntryToEmptyMap at h
  refine wm_of (lvs := [(0, va_rf (some b)), (1, va_rf o1), (2, va_rf o2)]) (by decide) (by simp [lg_sl, rf_cat, vI_cat, vL_cat, ref_cat]) (by simp [lv_args, rf_cat, vI_cat, vL_cat, ref_cat, rf_some]) (fun fr ws hM1 => ?_)
  show WW G l cJ4_addEntryToEmptyMap RJ4 3 (Option.none : Option Jvm.ClassFile.FieldType) "addEntryToEmptyMap" 6 mc ms (hMR G (hR0 P)) (fun u => [u.1, fr]) 0 0 [ws, fr] 0 [(0, va_rf (some b)), (1, va_rf o1), (2, va_rf o2)] []
  have hB : 0 ≤ mc ∧ 0 ≤ ms := ⟨Nat.zero_le _, Nat.zero_le _⟩
  refine ww_aloadQ_n dJ4_addEntryToEmptyMap_0 0 rfl ?_
  refine ww_aloadQ_n dJ4_addEntryToEmptyMap_1 1 rfl ?_
  refine ww_aloadQ_n dJ4_addEntryToEmptyMap_2 1 rfl ?_
  obtain ⟨hg, h⟩ := h
  refine wm_callV (n := 2) hM1 (tm_J4_compare h) rfl hg rfl (lw_V q1248 q1249 q1250 q115 q1251) ⟨by decide, by decide, by decide +kernel⟩ rfl ⟨Nat.le_of_ble_eq_true rfl, Nat.le_of_ble_eq_true rfl⟩ rfl (Nat.le_of_ble_eq_true rfl) dJ4_addEntryToEmptyMap_3 hB ?_
  clear h
  rintro _ _ ws ⟨rfl, y_1, rfl, h⟩ hM2
  refine ww_st1 ?_
  refine ww_pop dJ4_addEntryToEmptyMap_6 rfl ?_
  refine ww_aloadQ_n dJ4_addEntryToEmptyMap_7 0 rfl ?_
  obtain ⟨b_4, h⟩ := h
  refine wm_new hM2 in_J22 tyJ22_ok q1252 q1253 q142 (ci := 20) rfl dfl_20 b_4.1 b_4.2 dJ4_addEntryToEmptyMap_8 (fun q_3 ws hq hM3 => ?_)
  replace h := h q_3 hq
  have hB := b_4
  refine ww_dup dJ4_addEntryToEmptyMap_11 (rf_cat _) ?_
  refine ww_aloadQ_n dJ4_addEntryToEmptyMap_12 1 rfl ?_
  refine ww_aloadQ_n dJ4_addEntryToEmptyMap_13 2 rfl ?_
  refine ww_nullQ dJ4_addEntryToEmptyMap_14 ?_
  refine wm_callI (n := 3) hM3 (tm_J22_init h) rfl q1256 q142 q1254 q1255 rfl ⟨by decide, by decide, by decide +kernel⟩ rfl ⟨Nat.le_of_ble_eq_true rfl, Nat.le_of_ble_eq_true rfl⟩ rfl (by simp only [List.map_cons, List.map_nil, rf_cat, vI_cat, vL_cat, List.sum_cons, List.sum_nil]; decide) dJ4_addEntryToEmptyMap_15 hB ?_
  clear h
  rintro _ μ_5 ws ⟨rfl, h⟩ hM4
  refine ww_st0 ?_
  obtain ⟨fi_6, fq_7, hc, h⟩ := h
  refine wm_putQ hM4 rfl in_J4 tyJ4_ok nmJ4 (ci := 19) rfl 3 (Nat.le_of_ble_eq_true rfl) hc (fun _ _ => rfl) (fun _ _ => Nat.le_of_ble_eq_true rfl) q224 (fun _ _ h => h) rfl (narrow_rf rfl _) (fits_rf rfl _) dJ4_addEntryToEmptyMap_18 (fun ws hM5 => ?_)
  refine ww_aloadQ_n dJ4_addEntryToEmptyMap_21 0 rfl ?_
  refine ww_iconst dJ4_addEntryToEmptyMap_22 ?_
  obtain ⟨fi_8, fq_9, hc, h⟩ := h
  refine wm_putI hM5 rfl in_J4 tyJ4_ok nmJ4 (ci := 19) rfl 4 (Nat.le_of_ble_eq_true rfl) hc (fun _ _ => rfl) (fun _ _ => Nat.le_of_ble_eq_true rfl) q225 (fun _ _ h => h) rfl rfl rfl dJ4_addEntryToEmptyMap_23 (fun ws hM6 => ?_)
  refine ww_aloadQ_n dJ4_addEntryToEmptyMap_26 0 rfl ?_
  refine ww_dup dJ4_addEntryToEmptyMap_27 (rf_cat _) ?_
  obtain ⟨x_10, hx, h⟩ := h
  refine wm_getI hM6 rfl in_J4 (ci := 19) rfl (by decide) 5 (Nat.le_of_ble_eq_true rfl) hx (fun _ _ => rfl) q226 (fun _ _ h => h) dJ4_addEntryToEmptyMap_28 ?_
  refine ww_iconst dJ4_addEntryToEmptyMap_31 ?_
  refine ww_iadd dJ4_addEntryToEmptyMap_32 ?_
  obtain ⟨fi_11, fq_12, hc, h⟩ := h
  refine wm_putI hM6 rfl in_J4 tyJ4_ok nmJ4 (ci := 19) rfl 5 (Nat.le_of_ble_eq_true rfl) hc (fun _ _ => rfl) (fun _ _ => Nat.le_of_ble_eq_true rfl) q226 (fun _ _ h => h) rfl rfl rfl dJ4_addEntryToEmptyMap_33 (fun ws hM7 => ?_)
  exact ww_vret (ws, (hs (hs (hs μ_5 b (hO 19 fi_6 (upF fq_7 3 (some q_3)))) b (hO 19 (upF fi_8 4 1) fq_9)) b (hO 19 (upF fi_11 5 (x_10 + 1)) fq_12))) rfl ⟨hM7, ⟨rfl, h⟩⟩ rfl hB.1 hB.2 dJ4_addEntryToEmptyMap_36
/-! J4_put_2: java/util/TreeMap put (Ljava/lang/Object;Ljava/lang/Object;Z)Ljava/lang/Object;; flags (True, True, False), depth 7 -/
def wc_J4_put_2 (ad : Nat → Nat) (mc ms : Nat) (μ : HM) (b : Nat) (o1 : Option Nat) (o2 : Option Nat) (a3 : Int) (P : Option Nat → HM → Prop) : Prop :=
  ∃ x_1 : Option Nat, gQ μ b 19 3 = some x_1 ∧
  ((x_1 = none →
    gC μ b = some 19 ∧
    ∃ c_3 s_4 : Nat, (0 + c_3 ≤ mc ∧ 0 + s_4 ≤ ms) ∧
    wc_J4_addEntryToEmptyMap ad c_3 s_4 μ b o1 o2 (fun μ_6 =>
      P none μ_6)) ∧
  (∀ a_2 : Nat, x_1 = some a_2 →
    ∃ x_7 : Option Nat, gQ μ b 19 2 = some x_7 ∧
    ((x_7 = none →
      wc_J16_requireNonNull ad μ o1 (fun y_9 =>
        (∀ z : Nat, o1 = some z → ∃ ci, gC μ z = some ci ∧ (ci = 7 ∨ ci = 8 ∨ ci = 9 ∨ ci = 17 ∨ ci = 21 ∨ ci = 22)) ∧
        ∃ I123 : Nat → Option Nat → Prop, (∀ (n123 : Nat) (v4_123 : Option Nat), I123 n123 v4_123 →
          ∃ a_12 : Nat, v4_123 = some a_12 ∧
          ∃ x_11 : Option Nat, gQ μ a_12 20 0 = some x_11 ∧
          ∃ a_13 : Nat, o1 = some a_13 ∧
          gC μ a_13 = some 22 ∧
          wc_J7_compareTo_2 ad μ a_13 x_11 (fun y_14 =>
            rI y_14 ∧
            ∃ J196 : Option Nat → Prop, (∀ (v4_196 : Option Nat), J196 v4_196 →
              ((v4_196 = none →
                rI y_14 ∧
                ∃ J216 : Int → Prop, (∀ (s4_216 : Int), J216 s4_216 →
                  gC μ b = some 19 ∧
                  ∃ c_19 s_20 : Nat, (0 + c_19 ≤ mc ∧ 0 + s_20 ≤ ms) ∧
                  wc_J4_addEntry ad c_19 s_20 μ b (some a_13) o2 (some a_12) s4_216 (fun μ_22 =>
                    P none μ_22)) ∧
                ((0 ≤ y_14 →
                  J216 0) ∧
                (y_14 < 0 →
                  J216 1))) ∧
              (∀ a_17 : Nat, v4_196 = some a_17 →
                ∃ m : Nat, m < n123 ∧ I123 m (some a_17)))) ∧
            ((0 ≤ y_14 →
              rI y_14 ∧
              ((y_14 ≤ 0 →
                ∃ x_24 : Option Nat, gQ μ a_12 20 1 = some x_24 ∧
                rI a3 ∧
                ∃ J193 : HM → Prop, (∀ (μ193 : HM), J193 μ193 →
                  P x_24 μ193) ∧
                ∃ J187 : Prop, (J187 →
                  ∃ (fi_26 : Nat → Int) (fq_27 : Nat → Option Nat), μ a_12 = some (hO 20 fi_26 fq_27) ∧ 
                  J193 (hs μ a_12 (hO 20 fi_26 (upF fq_27 1 o2)))) ∧
                ((¬ a3 = 0 →
                  J187) ∧
                (a3 = 0 →
                  ((x_24 = none →
                    J187) ∧
                  (∀ a_28 : Nat, x_24 = some a_28 →
                    J193 μ))))) ∧
              (0 < y_14 →
                ∃ x_29 : Option Nat, gQ μ a_12 20 3 = some x_29 ∧
                J196 x_29))) ∧
            (y_14 < 0 →
              ∃ x_30 : Option Nat, gQ μ a_12 20 2 = some x_30 ∧
              J196 x_30)))) ∧
        ∃ m : Nat, I123 m (some a_2))) ∧
    (∀ a_8 : Nat, x_7 = some a_8 →
      ∃ x_31 : Option Nat, gQ μ a_2 20 0 = some x_31 ∧
      False))))
set_option maxHeartbeats 4000000 in
theorem tm_J4_put_2 {G : g_G} {l : Launch} {mc ms : Nat} {μ : HM} {b : Nat} {o1 : Option Nat} {o2 : Option Nat} {a3 : Int} {P : Option Nat → HM → Prop} (h : wc_J4_put_2 (g_ad G) mc ms μ b o1 o2 a3 P) : CM G l yJ4_put_2 cJ4_put_2 10 (Option.some (Jvm.ClassFile.FieldType.object "java/lang/Object")) 7 mc ms [.ref b, va_rf o1, va_rf o2, vI a3] μ (hR4 P) := by
  unfold wc_J4_put_2 at h
  refine wm_of (lvs := [(0, va_rf (some b)), (1, va_rf o1), (2, va_rf o2), (3, vI a3)]) (by decide) (by simp [lg_sl, rf_cat, vI_cat, vL_cat, ref_cat]) (by simp [lv_args, rf_cat, vI_cat, vL_cat, ref_cat, rf_some]) (fun fr ws hM1 => ?_)
  show WW G l cJ4_put_2 RJ4 10 (Option.some (Jvm.ClassFile.FieldType.object "java/lang/Object")) "put" 7 mc ms (hMR G (hR4 P)) (fun u => [u.1, fr]) 0 0 [ws, fr] 0 [(0, va_rf (some b)), (1, va_rf o1), (2, va_rf o2), (3, vI a3)] []
  have hB : 0 ≤ mc ∧ 0 ≤ ms := ⟨Nat.zero_le _, Nat.zero_le _⟩
  refine ww_aloadQ_n dJ4_put_2_0 0 rfl ?_
  obtain ⟨x_1, hx, h⟩ := h
  refine wm_getQ hM1 rfl in_J4 (ci := 19) rfl (by decide) 3 (Nat.le_of_ble_eq_true rfl) hx (fun _ _ => rfl) q224 (fun _ _ h => h) dJ4_put_2_1 ?_
  refine ww_astoreQ (i := 4) (lv2 := [(4, va_rf x_1), (0, va_rf (some b)), (1, va_rf o1), (2, va_rf o2), (3, vI a3)]) dJ4_put_2_4 (Nat.le_of_ble_eq_true rfl) rfl ?_
  refine ww_aloadQ dJ4_put_2_6 0 rfl ?_
  refine ww_ifnonnullQ (tgt := 19) dJ4_put_2_8 (by decide) (fun a_2 c => ?_) (fun c => ?_)
  · replace h := h.2 a_2 c
    subst c
    refine ww_aloadQ_n dJ4_put_2_19 1 rfl ?_
    obtain ⟨x_7, hx, h⟩ := h
    refine wm_getQ hM1 rfl in_J4 (ci := 19) rfl (by decide) 2 (Nat.le_of_ble_eq_true rfl) hx (fun _ _ => rfl) q223 (fun _ _ h => h) dJ4_put_2_20 ?_
    refine ww_astoreQ (i := 7) (lv2 := [(7, va_rf x_7), (4, va_rf (some a_2)), (0, va_rf (some b)), (1, va_rf o1), (2, va_rf o2), (3, vI a3)]) dJ4_put_2_23 (Nat.le_of_ble_eq_true rfl) rfl ?_
    refine ww_aloadQ dJ4_put_2_25 0 rfl ?_
    refine ww_ifnullQ (tgt := 112) dJ4_put_2_27 (by decide) (fun c => ?_) (fun a_8 c => ?_)
    · replace h := h.1 c
      subst c
      refine ww_aloadQ_n dJ4_put_2_112 3 rfl ?_
      refine wm_callS (n := 1) hM1 (tm_J16_requireNonNull h) (lw_S q886 q887 q132 q888) ⟨by decide, by decide, by decide +kernel⟩ rfl ⟨Nat.le_of_ble_eq_true rfl, Nat.le_of_ble_eq_true rfl⟩ rfl (Nat.le_of_ble_eq_true rfl) dJ4_put_2_113 hB ?_
      clear h
      rintro _ _ ws ⟨rfl, y_9, rfl, h⟩ hM2
      refine ww_st1 ?_
      refine ww_pop dJ4_put_2_116 (rf_cat _) ?_
      refine ww_aloadQ_n dJ4_put_2_117 3 rfl ?_
      obtain ⟨hc, h⟩ := h
      refine wm_cast hM2 hc cast_2 q916 dJ4_put_2_118 ?_
      refine ww_astoreQ (i := 8) (lv2 := [(8, va_rf o1), (7, va_rf none), (4, va_rf (some a_2)), (0, va_rf (some b)), (1, va_rf o1), (2, va_rf o2), (3, vI a3)]) dJ4_put_2_121 (Nat.le_of_ble_eq_true rfl) (by simp [rf_cat, vI_cat, vL_cat, ref_cat]) ?_
      obtain ⟨I123, hI123, h⟩ := h
      have kI123 : ∀ (n123 : Nat), ∀ (v4_123 : Option Nat), I123 n123 v4_123 → ∀ ws : va_W, Mrep G ws μ → (0 ≤ mc ∧ 0 ≤ ms) → WW G l cJ4_put_2 RJ4 10 (Option.some (Jvm.ClassFile.FieldType.object "java/lang/Object")) "put" 7 mc ms (hMR G (hR4 P)) (fun u => [u.1, fr]) 0 0 [ws, fr] 123 [(0, va_rf (some b)), (1, va_rf o1), (2, va_rf o2), (3, vI a3), (4, va_rf v4_123), (8, va_rf o1)] [] := by
        clear h
        intro n123
        induction n123 using Nat.strongRecOn with
        | ind n123 ih123 =>
          intro v4_123 hj ws hM3 hB
          have h := hI123 n123 v4_123 hj
          refine ww_aloadQ dJ4_put_2_123 4 rfl ?_
          refine ww_astoreQ (i := 6) (lv2 := [(6, va_rf v4_123), (0, va_rf (some b)), (1, va_rf o1), (2, va_rf o2), (3, vI a3), (4, va_rf v4_123), (8, va_rf o1)]) dJ4_put_2_125 (Nat.le_of_ble_eq_true rfl) rfl ?_
          refine ww_aloadQ dJ4_put_2_127 6 rfl ?_
          refine ww_aloadQ dJ4_put_2_129 5 rfl ?_
          obtain ⟨a_12, ea_12, h⟩ := h
          subst ea_12
          obtain ⟨x_11, hx, h⟩ := h
          refine wm_getQ hM3 rfl in_J22 (ci := 20) rfl (by decide) 0 (Nat.le_of_ble_eq_true rfl) hx (fun _ _ => rfl) q1259 (fun _ _ h => h) dJ4_put_2_131 ?_
          obtain ⟨a_13, ea_13, h⟩ := h
          subst ea_13
          obtain ⟨hg, h⟩ := h
          refine wm_callF (n := 1) hM3 (tm_J7_compareTo_2 h) rfl hg rfl (lw_F q918 q1096 q1098 q121 q1100) (by decide) ⟨by decide, by decide, by decide +kernel⟩ rfl ⟨Nat.le_of_ble_eq_true rfl, Nat.le_of_ble_eq_true rfl⟩ rfl (Nat.le_of_ble_eq_true rfl) dJ4_put_2_134 hB ?_
          clear h
          rintro _ _ ws ⟨rfl, y_14, rfl, h⟩ hM4
          refine ww_st1 ?_
          refine ww_istore (i := 5) (lv2 := [(5, vI y_14), (6, va_rf (some a_12)), (0, va_rf (some b)), (1, va_rf (some a_13)), (2, va_rf o2), (3, vI a3), (4, va_rf (some a_12)), (8, va_rf (some a_13))]) dJ4_put_2_139 (Nat.le_of_ble_eq_true rfl) rfl ?_
          refine ww_iload dJ4_put_2_141 0 rfl ?_
          obtain ⟨r_16, h⟩ := h
          obtain ⟨J196, hJ196, h⟩ := h
          have kJ196 : ∀ (v4_196 : Option Nat), J196 v4_196 → ∀ ws : va_W, Mrep G ws μ → (0 ≤ mc ∧ 0 ≤ ms) → WW G l cJ4_put_2 RJ4 10 (Option.some (Jvm.ClassFile.FieldType.object "java/lang/Object")) "put" 7 mc ms (hMR G (hR4 P)) (fun u => [u.1, fr]) 0 0 [ws, fr] 196 [(0, va_rf (some b)), (1, va_rf (some a_13)), (2, va_rf o2), (3, vI a3), (4, va_rf v4_196), (5, vI y_14), (6, va_rf (some a_12)), (8, va_rf (some a_13))] [] := by
            clear h
            intro v4_196 hj ws hM5 hB
            have h := hJ196 v4_196 hj
            refine ww_aloadQ dJ4_put_2_196 4 rfl ?_
            refine ww_ifnonnullQ (tgt := 123) dJ4_put_2_198 (by decide) (fun a_17 c => ?_) (fun c => ?_)
            · replace h := h.2 a_17 c
              subst c
              refine ww_lv [0, 1, 2, 3, 4, 7] rfl ?_
              obtain ⟨m, hm, h⟩ := h
              exact ih123 m hm _ h _ hM5 hB
            · replace h := h.1 c
              subst c
              refine ww_aloadQ_n dJ4_put_2_201 0 rfl ?_
              refine ww_aloadQ_n dJ4_put_2_202 1 rfl ?_
              refine ww_aloadQ_n dJ4_put_2_203 2 rfl ?_
              refine ww_aloadQ dJ4_put_2_204 6 rfl ?_
              refine ww_iload dJ4_put_2_206 5 rfl ?_
              obtain ⟨r_18, h⟩ := h
              obtain ⟨J216, hJ216, h⟩ := h
              have kJ216 : ∀ (s4_216 : Int), J216 s4_216 → ∀ ws : va_W, Mrep G ws μ → (0 ≤ mc ∧ 0 ≤ ms) → WW G l cJ4_put_2 RJ4 10 (Option.some (Jvm.ClassFile.FieldType.object "java/lang/Object")) "put" 7 mc ms (hMR G (hR4 P)) (fun u => [u.1, fr]) 0 0 [ws, fr] 216 [] [vI s4_216, va_rf (some a_12), va_rf o2, va_rf (some a_13), va_rf (some b)] := by
                clear h
                intro s4_216 hj ws hM6 hB
                have h := hJ216 s4_216 hj
                obtain ⟨hg, h⟩ := h
                obtain ⟨c_19, s_20, b_21, h⟩ := h
                refine wm_callV (n := 4) hM6 (tm_J4_addEntry h) rfl hg rfl (lw_V q1281 q1283 qs17 q115 q1284) ⟨by decide, by decide, by decide +kernel⟩ rfl ⟨Nat.le_of_ble_eq_true rfl, Nat.le_of_ble_eq_true rfl⟩ rfl (Nat.le_of_ble_eq_true rfl) dJ4_put_2_216 b_21 ?_
                clear h
                rintro _ μ_22 ws ⟨rfl, h⟩ hM7
                have hB := b_21
                refine ww_st0 ?_
                refine ww_nullQ dJ4_put_2_219 ?_
                exact ww_aret (ws, μ_22) rfl (by first | exact Or.inl ⟨_, rfl⟩ | exact Or.inr ⟨_, rfl⟩) (rf_or _) ⟨hM7, ⟨_, rfl, h⟩⟩ rfl hB.1 hB.2 dJ4_put_2_220
              refine ww_if_ge (tgt := 215) dJ4_put_2_208 (by decide) r_18 (fun c => ?_) (fun c => ?_)
              · replace h := h.1 c
                refine ww_iconst dJ4_put_2_215 ?_
                refine ww_lv [] rfl ?_
                exact kJ216 _ h _ hM5 hB
              · replace h := h.2 (Int.not_le.mp c)
                refine ww_iconst dJ4_put_2_211 ?_
                refine ww_goto (tgt := 216) dJ4_put_2_212 (by decide) ?_
                refine ww_lv [] rfl ?_
                exact kJ216 _ h _ hM5 hB
          refine ww_if_ge (tgt := 156) dJ4_put_2_143 (by decide) r_16 (fun c => ?_) (fun c => ?_)
          · replace h := h.1 c
            refine ww_iload dJ4_put_2_156 0 rfl ?_
            obtain ⟨r_23, h⟩ := h
            refine ww_if_le (tgt := 171) dJ4_put_2_158 (by decide) r_23 (fun c => ?_) (fun c => ?_)
            · replace h := h.1 c
              refine ww_aloadQ dJ4_put_2_171 6 rfl ?_
              obtain ⟨x_24, hx, h⟩ := h
              refine wm_getQ hM4 rfl in_J22 (ci := 20) rfl (by decide) 1 (Nat.le_of_ble_eq_true rfl) hx (fun _ _ => rfl) q1261 (fun _ _ h => h) dJ4_put_2_173 ?_
              refine ww_astoreQ (i := 9) (lv2 := [(9, va_rf x_24), (5, vI y_14), (6, va_rf (some a_12)), (0, va_rf (some b)), (1, va_rf (some a_13)), (2, va_rf o2), (3, vI a3), (4, va_rf (some a_12)), (8, va_rf (some a_13))]) dJ4_put_2_176 (Nat.le_of_ble_eq_true rfl) rfl ?_
              refine ww_iload_n dJ4_put_2_178 6 rfl ?_
              obtain ⟨r_25, h⟩ := h
              obtain ⟨J193, hJ193, h⟩ := h
              have kJ193 : ∀ (μ193 : HM), J193 μ193 → ∀ ws : va_W, Mrep G ws μ193 → (0 ≤ mc ∧ 0 ≤ ms) → WW G l cJ4_put_2 RJ4 10 (Option.some (Jvm.ClassFile.FieldType.object "java/lang/Object")) "put" 7 mc ms (hMR G (hR4 P)) (fun u => [u.1, fr]) 0 0 [ws, fr] 193 [(9, va_rf x_24)] [] := by
                clear h
                intro μ193 hj ws hM8 hB
                have h := hJ193 μ193 hj
                refine ww_aloadQ dJ4_put_2_193 0 rfl ?_
                exact ww_aret (ws, μ193) rfl (by first | exact Or.inl ⟨_, rfl⟩ | exact Or.inr ⟨_, rfl⟩) (rf_or _) ⟨hM8, ⟨_, rfl, h⟩⟩ rfl hB.1 hB.2 dJ4_put_2_195
              obtain ⟨J187, hJ187, h⟩ := h
              have kJ187 : J187 → ∀ ws : va_W, Mrep G ws μ → (0 ≤ mc ∧ 0 ≤ ms) → WW G l cJ4_put_2 RJ4 10 (Option.some (Jvm.ClassFile.FieldType.object "java/lang/Object")) "put" 7 mc ms (hMR G (hR4 P)) (fun u => [u.1, fr]) 0 0 [ws, fr] 187 [(2, va_rf o2), (4, va_rf (some a_12)), (9, va_rf x_24)] [] := by
                clear h
                intro hj ws hM9 hB
                have h := hJ187 hj
                refine ww_aloadQ dJ4_put_2_187 1 rfl ?_
                refine ww_aloadQ_n dJ4_put_2_189 0 rfl ?_
                obtain ⟨fi_26, fq_27, hc, h⟩ := h
                refine wm_putQ hM9 rfl in_J22 tyJ22_ok nmJ22 (ci := 20) rfl 1 (Nat.le_of_ble_eq_true rfl) hc (fun _ _ => rfl) (fun _ _ => Nat.le_of_ble_eq_true rfl) q1261 (fun _ _ h => h) rfl (narrow_rf rfl _) (fits_rf rfl _) dJ4_put_2_190 (fun ws hM10 => ?_)
                refine ww_lv [2] rfl ?_
                exact kJ193 _ h _ hM10 hB
              refine ww_if_ne (tgt := 187) dJ4_put_2_179 (by decide) r_25 (fun c => ?_) (fun c => ?_)
              · replace h := h.1 c
                refine ww_lv [5, 7, 0] rfl ?_
                exact kJ187 h _ hM4 hB
              · replace h := h.2 c
                refine ww_aloadQ dJ4_put_2_182 0 rfl ?_
                refine ww_ifnonnullQ (tgt := 193) dJ4_put_2_184 (by decide) (fun a_28 c => ?_) (fun c => ?_)
                · replace h := h.2 a_28 c
                  subst c
                  refine ww_lv [0] rfl ?_
                  exact kJ193 _ h _ hM4 hB
                · replace h := h.1 c
                  subst c
                  refine ww_lv [5, 7, 0] rfl ?_
                  exact kJ187 h _ hM4 hB
            · replace h := h.2 (Int.not_le.mp c)
              refine ww_aloadQ dJ4_put_2_161 6 rfl ?_
              obtain ⟨x_29, hx, h⟩ := h
              refine wm_getQ hM4 rfl in_J22 (ci := 20) rfl (by decide) 3 (Nat.le_of_ble_eq_true rfl) hx (fun _ _ => rfl) q1263 (fun _ _ h => h) dJ4_put_2_163 ?_
              refine ww_astoreQ (i := 4) (lv2 := [(4, va_rf x_29), (5, vI y_14), (6, va_rf (some a_12)), (0, va_rf (some b)), (1, va_rf (some a_13)), (2, va_rf o2), (3, vI a3), (8, va_rf (some a_13))]) dJ4_put_2_166 (Nat.le_of_ble_eq_true rfl) rfl ?_
              refine ww_goto (tgt := 196) dJ4_put_2_168 (by decide) ?_
              refine ww_lv [3, 4, 5, 6, 0, 1, 2, 7] rfl ?_
              exact kJ196 _ h _ hM4 hB
          · replace h := h.2 (Int.not_le.mp c)
            refine ww_aloadQ dJ4_put_2_146 6 rfl ?_
            obtain ⟨x_30, hx, h⟩ := h
            refine wm_getQ hM4 rfl in_J22 (ci := 20) rfl (by decide) 2 (Nat.le_of_ble_eq_true rfl) hx (fun _ _ => rfl) q1262 (fun _ _ h => h) dJ4_put_2_148 ?_
            refine ww_astoreQ (i := 4) (lv2 := [(4, va_rf x_30), (5, vI y_14), (6, va_rf (some a_12)), (0, va_rf (some b)), (1, va_rf (some a_13)), (2, va_rf o2), (3, vI a3), (8, va_rf (some a_13))]) dJ4_put_2_151 (Nat.le_of_ble_eq_true rfl) rfl ?_
            refine ww_goto (tgt := 196) dJ4_put_2_153 (by decide) ?_
            refine ww_lv [3, 4, 5, 6, 0, 1, 2, 7] rfl ?_
            exact kJ196 _ h _ hM4 hB
      refine ww_lv [3, 4, 5, 6, 2, 0] rfl ?_
      obtain ⟨m, h⟩ := h
      exact kI123 m _ h _ hM2 hB
    · replace h := h.2 a_8 c
      subst c
      refine ww_aloadQ dJ4_put_2_30 1 rfl ?_
      refine ww_astoreQ (i := 6) (lv2 := [(6, va_rf (some a_2)), (7, va_rf (some a_8)), (4, va_rf (some a_2)), (0, va_rf (some b)), (1, va_rf o1), (2, va_rf o2), (3, vI a3)]) dJ4_put_2_32 (Nat.le_of_ble_eq_true rfl) rfl ?_
      refine ww_aloadQ dJ4_put_2_34 1 rfl ?_
      refine ww_aloadQ_n dJ4_put_2_36 4 rfl ?_
      refine ww_aloadQ dJ4_put_2_37 2 rfl ?_
      obtain ⟨x_31, hx, h⟩ := h
      refine wm_getQ hM1 rfl in_J22 (ci := 20) rfl (by decide) 0 (Nat.le_of_ble_eq_true rfl) hx (fun _ _ => rfl) q1259 (fun _ _ h => h) dJ4_put_2_39 ?_
      exact h.elim
  · replace h := h.1 c
    subst c
    refine ww_aloadQ_n dJ4_put_2_11 1 rfl ?_
    refine ww_aloadQ_n dJ4_put_2_12 2 rfl ?_
    refine ww_aloadQ_n dJ4_put_2_13 3 rfl ?_
    obtain ⟨hg, h⟩ := h
    obtain ⟨c_3, s_4, b_5, h⟩ := h
    refine wm_callV (n := 2) hM1 (tm_J4_addEntryToEmptyMap h) rfl hg rfl (lw_V q1244 q1246 qs16 q115 q1247) ⟨by decide, by decide, by decide +kernel⟩ rfl ⟨Nat.le_of_ble_eq_true rfl, Nat.le_of_ble_eq_true rfl⟩ rfl (Nat.le_of_ble_eq_true rfl) dJ4_put_2_14 b_5 ?_
    clear h
    rintro _ μ_6 ws ⟨rfl, h⟩ hM11
    have hB := b_5
    refine ww_st0 ?_
    refine ww_nullQ dJ4_put_2_17 ?_
    exact ww_aret (ws, μ_6) rfl (by first | exact Or.inl ⟨_, rfl⟩ | exact Or.inr ⟨_, rfl⟩) (rf_or _) ⟨hM11, ⟨_, rfl, h⟩⟩ rfl hB.1 hB.2 dJ4_put_2_18
/-! J4_put: java/util/TreeMap put (Ljava/lang/Object;Ljava/lang/Object;)Ljava/lang/Object;; flags (True, True, False), depth 8 -/
def wc_J4_put (ad : Nat → Nat) (mc ms : Nat) (μ : HM) (b : Nat) (o1 : Option Nat) (o2 : Option Nat) (P : Option Nat → HM → Prop) : Prop :=
  gC μ b = some 19 ∧
  ∃ c_1 s_2 : Nat, (0 + c_1 ≤ mc ∧ 0 + s_2 ≤ ms) ∧
  wc_J4_put_2 ad c_1 s_2 μ b o1 o2 1 (fun y_4 μ_6 =>
    P y_4 μ_6)
set_option maxHeartbeats 4000000 in
theorem tm_J4_put {G : g_G} {l : Launch} {mc ms : Nat} {μ : HM} {b : Nat} {o1 : Option Nat} {o2 : Option Nat} {P : Option Nat → HM → Prop} (h : wc_J4_put (g_ad G) mc ms μ b o1 o2 P) : CM G l yJ4_put cJ4_put 3 (Option.some (Jvm.ClassFile.FieldType.object "java/lang/Object")) 8 mc ms [.ref b, va_rf o1, va_rf o2] μ (hR4 P) := by
  unfold wc_J4_put at h
  refine wm_of (lvs := [(0, va_rf (some b)), (1, va_rf o1), (2, va_rf o2)]) (by decide) (by simp [lg_sl, rf_cat, vI_cat, vL_cat, ref_cat]) (by simp [lv_args, rf_cat, vI_cat, vL_cat, ref_cat, rf_some]) (fun fr ws hM1 => ?_)
  show WW G l cJ4_put RJ4 3 (Option.some (Jvm.ClassFile.FieldType.object "java/lang/Object")) "put" 8 mc ms (hMR G (hR4 P)) (fun u => [u.1, fr]) 0 0 [ws, fr] 0 [(0, va_rf (some b)), (1, va_rf o1), (2, va_rf o2)] []
  have hB : 0 ≤ mc ∧ 0 ≤ ms := ⟨Nat.zero_le _, Nat.zero_le _⟩
  refine ww_aloadQ_n dJ4_put_0 0 rfl ?_
  refine ww_aloadQ_n dJ4_put_1 1 rfl ?_
  refine ww_aloadQ_n dJ4_put_2 2 rfl ?_
  refine ww_iconst dJ4_put_3 ?_
  obtain ⟨hg, h⟩ := h
  obtain ⟨c_1, s_2, b_3, h⟩ := h
  refine wm_callV (n := 3) hM1 (tm_J4_put_2 h) rfl hg rfl (lw_V q1240 q1242 qs15 q115 q1243) ⟨by decide, by decide, by decide +kernel⟩ rfl ⟨Nat.le_of_ble_eq_true rfl, Nat.le_of_ble_eq_true rfl⟩ rfl (Nat.le_of_ble_eq_true rfl) dJ4_put_4 b_3 ?_
  clear h
  rintro _ μ_6 ws ⟨y_4, rfl, h⟩ hM2
  have hB := b_3
  refine ww_st1 ?_
  exact ww_aret (ws, μ_6) rfl (by first | exact Or.inl ⟨_, rfl⟩ | exact Or.inr ⟨_, rfl⟩) (rf_or _) ⟨hM2, ⟨_, rfl, h⟩⟩ rfl hB.1 hB.2 dJ4_put_7
/-! X3_add: HoloNet$Shelf add (LHoloNet$Labelled;)V; flags (True, True, False), depth 9 -/
def wc_X3_add (ad : Nat → Nat) (mc ms : Nat) (μ : HM) (b : Nat) (o1 : Option Nat) (P : HM → Prop) : Prop :=
  ∃ x_1 : Option Nat, gQ μ b 3 0 = some x_1 ∧
  ∃ a_2 : Nat, x_1 = some a_2 ∧
  gC μ a_2 = some 18 ∧
  ∃ c_3 s_4 : Nat, (0 + c_3 ≤ mc ∧ 0 + s_4 ≤ ms) ∧
  wc_J2_add ad c_3 s_4 μ a_2 o1 (fun y_6 μ_8 =>
    ∃ x_9 : Option Nat, gQ μ_8 b 3 1 = some x_9 ∧
    ∃ a_11 : Nat, o1 = some a_11 ∧
    ∃ (ci : Nat) (x_10 : Option Nat), (ci = 7 ∨ ci = 8 ∨ ci = 9) ∧ gQ μ_8 a_11 ci 0 = some x_10 ∧
    ∃ a_12 : Nat, x_9 = some a_12 ∧
    gC μ_8 a_12 = some 19 ∧
    ∃ c_13 s_14 : Nat, (0 + c_3 + c_13 ≤ mc ∧ 0 + s_4 + s_14 ≤ ms) ∧
    wc_J4_put ad c_13 s_14 μ_8 a_12 x_10 (some a_11) (fun y_16 μ_18 =>
      P μ_18))
set_option maxHeartbeats 4000000 in
theorem tm_X3_add {G : g_G} {l : Launch} {mc ms : Nat} {μ : HM} {b : Nat} {o1 : Option Nat} {P : HM → Prop} (h : wc_X3_add (g_ad G) mc ms μ b o1 P) : CM G l yX3_add cX3_add 2 (Option.none : Option Jvm.ClassFile.FieldType) 9 mc ms [.ref b, va_rf o1] μ (hR0 P) := by
  unfold wc_X3_add at h
  refine wm_of (lvs := [(0, va_rf (some b)), (1, va_rf o1)]) (by decide) (by simp [lg_sl, rf_cat, vI_cat, vL_cat, ref_cat]) (by simp [lv_args, rf_cat, vI_cat, vL_cat, ref_cat, rf_some]) (fun fr ws hM1 => ?_)
  show WW G l cX3_add RX3 2 (Option.none : Option Jvm.ClassFile.FieldType) "add" 9 mc ms (hMR G (hR0 P)) (fun u => [u.1, fr]) 0 0 [ws, fr] 0 [(0, va_rf (some b)), (1, va_rf o1)] []
  have hB : 0 ≤ mc ∧ 0 ≤ ms := ⟨Nat.zero_le _, Nat.zero_le _⟩
  refine ww_aloadQ_n dX3_add_0 0 rfl ?_
  obtain ⟨x_1, hx, h⟩ := h
  refine wm_getQ hM1 rfl in_X3 (ci := 3) rfl (by decide) 0 (Nat.le_of_ble_eq_true rfl) hx (fun _ _ => rfl) q246 (fun _ _ h => h) dX3_add_1 ?_
  refine ww_aloadQ_n dX3_add_4 1 rfl ?_
  obtain ⟨a_2, ea_2, h⟩ := h
  subst ea_2
  obtain ⟨hg, h⟩ := h
  obtain ⟨c_3, s_4, b_5, h⟩ := h
  refine wm_callV (n := 1) hM1 (tm_J2_add h) rfl hg rfl (lw_V q1175 q1176 q1177 q113 q1178) ⟨by decide, by decide, by decide +kernel⟩ rfl ⟨Nat.le_of_ble_eq_true rfl, Nat.le_of_ble_eq_true rfl⟩ rfl (Nat.le_of_ble_eq_true rfl) dX3_add_5 b_5 ?_
  clear h
  rintro _ μ_8 ws ⟨y_6, rfl, z_7, h⟩ hM2
  have hB := b_5
  refine ww_st1 ?_
  refine ww_pop dX3_add_8 rfl ?_
  refine ww_aloadQ_n dX3_add_9 0 rfl ?_
  obtain ⟨x_9, hx, h⟩ := h
  refine wm_getQ hM2 rfl in_X3 (ci := 3) rfl (by decide) 1 (Nat.le_of_ble_eq_true rfl) hx (fun _ _ => rfl) q247 (fun _ _ h => h) dX3_add_10 ?_
  refine ww_aloadQ_n dX3_add_13 1 rfl ?_
  obtain ⟨a_11, ea_11, h⟩ := h
  subst ea_11
  obtain ⟨ci, x_10, hci, hx, h⟩ := h
  refine wm_labQ hci hM2 rfl hx q1159 (fun _ _ h => h) dX3_add_14 ?_
  refine ww_aloadQ_n dX3_add_17 1 rfl ?_
  obtain ⟨a_12, ea_12, h⟩ := h
  subst ea_12
  obtain ⟨hg, h⟩ := h
  obtain ⟨c_13, s_14, b_15, h⟩ := h
  refine wm_callV (n := 2) hM2 (tm_J4_put h) rfl hg rfl (lw_V q1236 q1237 q1238 q115 q1239) ⟨by decide, by decide, by decide +kernel⟩ rfl ⟨Nat.le_of_ble_eq_true rfl, Nat.le_of_ble_eq_true rfl⟩ rfl (Nat.le_of_ble_eq_true rfl) dX3_add_18 b_15 ?_
  clear h
  rintro _ μ_18 ws ⟨y_16, rfl, h⟩ hM3
  have hB := b_15
  refine ww_st1 ?_
  refine ww_pop dX3_add_21 (rf_cat _) ?_
  exact ww_vret (ws, μ_18) rfl ⟨hM3, ⟨rfl, h⟩⟩ rfl hB.1 hB.2 dX3_add_22
/-! J2_size: java/util/ArrayList size ()I; flags (False, False, False), depth 0 -/
def wc_J2_size (ad : Nat → Nat) (μ : HM) (b : Nat) (P : Int → Prop) : Prop :=
  ∃ x_1 : Int, gI μ b 18 2 = some x_1 ∧
  P x_1
set_option maxHeartbeats 4000000 in
theorem tm_J2_size {G : g_G} {l : Launch} {μ : HM} {b : Nat} {P : Int → Prop} (h : wc_J2_size (g_ad G) μ b P) : CM G l yJ2_size cJ2_size 1 (Option.some Jvm.ClassFile.FieldType.int) 0 0 0 [.ref b] μ (hN1 μ P) := by
  unfold wc_J2_size at h
  refine wm_of (lvs := [(0, va_rf (some b))]) (by decide) (Nat.le_of_ble_eq_true rfl) rfl (fun fr ws hM1 => ?_)
  show WW G l cJ2_size RJ2 1 (Option.some Jvm.ClassFile.FieldType.int) "size" 0 0 0 (hMR G (hN1 μ P)) (fun u => [u.1, fr]) 0 0 [ws, fr] 0 [(0, va_rf (some b))] []
  refine ww_aloadQ_n dJ2_size_0 0 rfl ?_
  obtain ⟨x_1, hx, h⟩ := h
  refine wm_getI hM1 rfl in_J2 (ci := 18) rfl (by decide) 2 (Nat.le_of_ble_eq_true rfl) hx (fun _ _ => rfl) q201 (fun _ _ h => h) dJ2_size_1 ?_
  exact ww_iret (ws, μ) rfl ⟨hM1, ⟨rfl, _, rfl, h⟩⟩ rfl (Nat.le_refl _) (Nat.le_refl _) dJ2_size_4
