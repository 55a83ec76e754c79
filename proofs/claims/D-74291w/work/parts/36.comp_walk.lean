/-! THE COMPONENT and what it calls: weakest preconditions and walks (printed by tools/comp.py) -/
set_option maxRecDepth 100000
/-! J2_grow: java/util/ArrayList grow ()[Ljava/lang/Object;; flags (True, True, False), depth 4 -/
def wc_J2_grow (ad : Nat → Nat) (mc ms : Nat) (μ : HM) (b : Nat) (P : Option Nat → HM → Prop) : Prop :=
  ∃ x_1 : Int, gI μ b 18 2 = some x_1 ∧
  gC μ b = some 18 ∧
  ∃ c_2 s_3 : Nat, (0 + c_2 ≤ mc ∧ 0 + s_3 ≤ ms) ∧
  wc_J2_grow_2 ad c_2 s_3 μ b (x_1 + 1) (fun y_5 μ_7 =>
    P y_5 μ_7)
set_option maxHeartbeats 4000000 in
theorem tm_J2_grow {G : g_G} {l : Launch} {mc ms : Nat} {μ : HM} {b : Nat} {P : Option Nat → HM → Prop} (h : wc_J2_grow (g_ad G) mc ms μ b P) : CM G l yJ2_grow cJ2_grow 1 (Option.some (Jvm.ClassFile.FieldType.array (Jvm.ClassFile.FieldType.object "java/lang/Object"))) 4 mc ms [.ref b] μ (hR4 P) := by
  unfold wc_J2_grow at h
  refine wm_of (lvs := [(0, va_rf (some b))]) (by decide) (Nat.le_of_ble_eq_true rfl) rfl (fun fr ws hM1 => ?_)
  show WW G l cJ2_grow RJ2 1 (Option.some (Jvm.ClassFile.FieldType.array (Jvm.ClassFile.FieldType.object "java/lang/Object"))) "grow" 4 mc ms (hMR G (hR4 P)) (fun u => [u.1, fr]) 0 0 [ws, fr] 0 [(0, va_rf (some b))] []
  have hB : 0 ≤ mc ∧ 0 ≤ ms := ⟨Nat.zero_le _, Nat.zero_le _⟩
  refine ww_aloadQ_n dJ2_grow_0 0 rfl ?_
  refine ww_aloadQ_n dJ2_grow_1 0 rfl ?_
  obtain ⟨x_1, hx, h⟩ := h
  refine wm_getI hM1 rfl in_J2 (ci := 18) rfl (by decide) 2 (Nat.le_of_ble_eq_true rfl) hx (fun _ _ => rfl) q201 (fun _ _ h => h) dJ2_grow_2 ?_
  refine ww_iconst dJ2_grow_5 ?_
  refine ww_iadd dJ2_grow_6 ?_
  obtain ⟨hg, h⟩ := h
  obtain ⟨c_2, s_3, b_4, h⟩ := h
  refine wm_callV (n := 1) hM1 (tm_J2_grow_2 h) rfl hg rfl (lw_V q1187 q1189 qs14 q113 q1190) ⟨by decide, by decide, by decide +kernel⟩ rfl ⟨Nat.le_of_ble_eq_true rfl, Nat.le_of_ble_eq_true rfl⟩ rfl (Nat.le_of_ble_eq_true rfl) dJ2_grow_7 b_4 ?_
  clear h
  rintro _ μ_7 ws ⟨y_5, rfl, h⟩ hM2
  have hB := b_4
  refine ww_st1 ?_
  exact ww_aret (ws, μ_7) rfl (by first | exact Or.inl ⟨_, rfl⟩ | exact Or.inr ⟨_, rfl⟩) (rf_or _) ⟨hM2, ⟨_, rfl, h⟩⟩ rfl hB.1 hB.2 dJ2_grow_10
/-! J2_add_2: java/util/ArrayList add (Ljava/lang/Object;[Ljava/lang/Object;I)V; flags (True, True, False), depth 5 -/
def wc_J2_add_2 (ad : Nat → Nat) (mc ms : Nat) (μ : HM) (b : Nat) (o1 : Option Nat) (o2 : Option Nat) (a3 : Int) (P : HM → Prop) : Prop :=
  ∃ a_1 : Nat, o2 = some a_1 ∧
  ∃ n_2 : Nat, gL μ a_1 = some n_2 ∧
  rI a3 ∧
  rI (n_2 : Int) ∧
  ∃ J11 : Option Nat → HM → Nat → Nat → Prop, (∀ (v2_11 : Option Nat) (μ11 : HM) (uc11 : Nat) (us11 : Nat), J11 v2_11 μ11 uc11 us11 →
    ∃ a_5 : Nat, v2_11 = some a_5 ∧
    ∃ a_8 : Nat, o1 = some a_8 ∧
    ∃ (n_6 : Nat) (f_7 : Int → Option Nat), μ11 a_5 = some (hQ 4 n_6 f_7) ∧ hst μ11 4 a_8 ∧ ((0 : Int) ≤ a3 ∧ a3 < (n_6 : Int) ∧ (n_6 : Int) < 2147483648) ∧
    ∃ (fi_9 : Nat → Int) (fq_10 : Nat → Option Nat), (hs μ11 a_5 (hQ 4 n_6 (updI f_7 a3 (some a_8)))) b = some (hO 18 fi_9 fq_10) ∧ 
    P (hs (hs μ11 a_5 (hQ 4 n_6 (updI f_7 a3 (some a_8)))) b (hO 18 (upF fi_9 2 (a3 + 1)) fq_10))) ∧
  ((¬ a3 = (n_2 : Int) →
    J11 (some a_1) μ 0 0) ∧
  (a3 = (n_2 : Int) →
    gC μ b = some 18 ∧
    ∃ c_11 s_12 : Nat, (0 + c_11 ≤ mc ∧ 0 + s_12 ≤ ms) ∧
    wc_J2_grow ad c_11 s_12 μ b (fun y_14 μ_16 =>
      J11 y_14 μ_16 (0 + c_11) (0 + s_12))))
set_option maxHeartbeats 4000000 in
theorem tm_J2_add_2 {G : g_G} {l : Launch} {mc ms : Nat} {μ : HM} {b : Nat} {o1 : Option Nat} {o2 : Option Nat} {a3 : Int} {P : HM → Prop} (h : wc_J2_add_2 (g_ad G) mc ms μ b o1 o2 a3 P) : CM G l yJ2_add_2 cJ2_add_2 4 (Option.none : Option Jvm.ClassFile.FieldType) 5 mc ms [.ref b, va_rf o1, va_rf o2, vI a3] μ (hR0 P) := by
  unfold wc_J2_add_2 at h
  refine wm_of (lvs := [(0, va_rf (some b)), (1, va_rf o1), (2, va_rf o2), (3, vI a3)]) (by decide) (by simp [lg_sl, rf_cat, vI_cat, vL_cat, ref_cat]) (by simp [lv_args, rf_cat, vI_cat, vL_cat, ref_cat, rf_some]) (fun fr ws hM1 => ?_)
  show WW G l cJ2_add_2 RJ2 4 (Option.none : Option Jvm.ClassFile.FieldType) "add" 5 mc ms (hMR G (hR0 P)) (fun u => [u.1, fr]) 0 0 [ws, fr] 0 [(0, va_rf (some b)), (1, va_rf o1), (2, va_rf o2), (3, vI a3)] []
  have hB : 0 ≤ mc ∧ 0 ≤ ms := ⟨Nat.zero_le _, Nat.zero_le _⟩
  refine ww_iload_n dJ2_add_2_0 3 rfl ?_
  refine ww_aloadQ_n dJ2_add_2_1 2 rfl ?_
  obtain ⟨a_1, ea_1, h⟩ := h
  subst ea_1
  obtain ⟨n_2, hn, h⟩ := h
  refine wm_alen hM1 rfl hn dJ2_add_2_2 ?_
  obtain ⟨r_3, r_4, h⟩ := h
  obtain ⟨J11, hJ11, h⟩ := h
  have kJ11 : ∀ (v2_11 : Option Nat), ∀ (μ11 : HM), ∀ (uc11 : Nat), ∀ (us11 : Nat), J11 v2_11 μ11 uc11 us11 → ∀ ws : va_W, Mrep G ws μ11 → (uc11 ≤ mc ∧ us11 ≤ ms) → WW G l cJ2_add_2 RJ2 4 (Option.none : Option Jvm.ClassFile.FieldType) "add" 5 mc ms (hMR G (hR0 P)) (fun u => [u.1, fr]) uc11 us11 [ws, fr] 11 [(0, va_rf (some b)), (1, va_rf o1), (2, va_rf v2_11), (3, vI a3)] [] := by
    clear h
    intro v2_11 μ11 uc11 us11 hj ws hM2 hB
    have h := hJ11 v2_11 μ11 uc11 us11 hj
    refine ww_aloadQ_n dJ2_add_2_11 2 rfl ?_
    refine ww_iload_n dJ2_add_2_12 3 rfl ?_
    refine ww_aloadQ_n dJ2_add_2_13 1 rfl ?_
    obtain ⟨a_5, ea_5, h⟩ := h
    subst ea_5
    obtain ⟨a_8, ea_8, h⟩ := h
    subst ea_8
    obtain ⟨n_6, f_7, hc, hx, hi, h⟩ := h
    refine wm_aast hM2 rfl rfl hc hx hi.1 hi.2.1 hi.2.2 dJ2_add_2_14 (fun ws hM3 => ?_)
    refine ww_aloadQ_n dJ2_add_2_15 0 rfl ?_
    refine ww_iload_n dJ2_add_2_16 3 rfl ?_
    refine ww_iconst dJ2_add_2_17 ?_
    refine ww_iadd dJ2_add_2_18 ?_
    obtain ⟨fi_9, fq_10, hc, h⟩ := h
    refine wm_putI hM3 rfl in_J2 tyJ2_ok nmJ2 (ci := 18) rfl 2 (Nat.le_of_ble_eq_true rfl) hc (fun _ _ => rfl) (fun _ _ => Nat.le_of_ble_eq_true rfl) q201 (fun _ _ h => h) rfl rfl rfl dJ2_add_2_19 (fun ws hM4 => ?_)
    exact ww_vret (ws, (hs (hs μ11 a_5 (hQ 4 n_6 (updI f_7 a3 (some a_8)))) b (hO 18 (upF fi_9 2 (a3 + 1)) fq_10))) rfl ⟨hM4, ⟨rfl, h⟩⟩ rfl hB.1 hB.2 dJ2_add_2_22
  refine ww_icmp_ne (tgt := 11) dJ2_add_2_3 (by decide) r_3 r_4 (fun c => ?_) (fun c => ?_)
  · replace h := h.1 c
    exact kJ11 _ _ _ _ h _ hM1 hB
  · replace h := h.2 c
    refine ww_aloadQ_n dJ2_add_2_6 0 rfl ?_
    obtain ⟨hg, h⟩ := h
    obtain ⟨c_11, s_12, b_13, h⟩ := h
    refine wm_callV (n := 0) hM1 (tm_J2_grow h) rfl hg rfl (lw_V q1183 q1185 qs13 q113 q1186) ⟨by decide, by decide, by decide +kernel⟩ rfl ⟨Nat.le_of_ble_eq_true rfl, Nat.le_of_ble_eq_true rfl⟩ rfl (Nat.le_of_ble_eq_true rfl) dJ2_add_2_7 b_13 ?_
    clear h
    rintro _ μ_16 ws ⟨y_14, rfl, h⟩ hM5
    have hB := b_13
    refine ww_st1 ?_
    refine ww_astoreQ_n (i := 2) (lv2 := [(2, va_rf y_14), (0, va_rf (some b)), (1, va_rf o1), (3, vI a3)]) dJ2_add_2_10 rfl (Nat.le_of_ble_eq_true rfl) (by simp [rf_cat, vI_cat, vL_cat, ref_cat]) ?_
    refine ww_lv [1, 2, 0, 3] rfl ?_
    exact kJ11 _ _ _ _ h _ hM5 hB
/-! J2_add: java/util/ArrayList add (Ljava/lang/Object;)Z; flags (True, True, False), depth 6 -/
def wc_J2_add (ad : Nat → Nat) (mc ms : Nat) (μ : HM) (b : Nat) (o1 : Option Nat) (P : Int → HM → Prop) : Prop :=
  ∃ x_1 : Int, gI μ b 18 0 = some x_1 ∧
  ∃ (fi_2 : Nat → Int) (fq_3 : Nat → Option Nat), μ b = some (hO 18 fi_2 fq_3) ∧ 
  ∃ x_4 : Option Nat, gQ (hs μ b (hO 18 (upF fi_2 0 (x_1 + 1)) fq_3)) b 18 1 = some x_4 ∧
  ∃ x_5 : Int, gI (hs μ b (hO 18 (upF fi_2 0 (x_1 + 1)) fq_3)) b 18 2 = some x_5 ∧
  gC (hs μ b (hO 18 (upF fi_2 0 (x_1 + 1)) fq_3)) b = some 18 ∧
  ∃ c_6 s_7 : Nat, (0 + c_6 ≤ mc ∧ 0 + s_7 ≤ ms) ∧
  wc_J2_add_2 ad c_6 s_7 (hs μ b (hO 18 (upF fi_2 0 (x_1 + 1)) fq_3)) b o1 x_4 x_5 (fun μ_9 =>
    P 1 μ_9)
set_option maxHeartbeats 4000000 in
theorem tm_J2_add {G : g_G} {l : Launch} {mc ms : Nat} {μ : HM} {b : Nat} {o1 : Option Nat} {P : Int → HM → Prop} (h : wc_J2_add (g_ad G) mc ms μ b o1 P) : CM G l yJ2_add cJ2_add 2 (Option.some Jvm.ClassFile.FieldType.boolean) 6 mc ms [.ref b, va_rf o1] μ (hR2 P) := by
  unfold wc_J2_add at h
  refine wm_of (lvs := [(0, va_rf (some b)), (1, va_rf o1)]) (by decide) (by simp [lg_sl, rf_cat, vI_cat, vL_cat, ref_cat]) (by simp [lv_args, rf_cat, vI_cat, vL_cat, ref_cat, rf_some]) (fun fr ws hM1 => ?_)
  show WW G l cJ2_add RJ2 2 (Option.some Jvm.ClassFile.FieldType.boolean) "add" 6 mc ms (hMR G (hR2 P)) (fun u => [u.1, fr]) 0 0 [ws, fr] 0 [(0, va_rf (some b)), (1, va_rf o1)] []
  have hB : 0 ≤ mc ∧ 0 ≤ ms := ⟨Nat.zero_le _, Nat.zero_le _⟩
  refine ww_aloadQ_n dJ2_add_0 0 rfl ?_
  refine ww_dup dJ2_add_1 (rf_cat _) ?_
  obtain ⟨x_1, hx, h⟩ := h
  refine wm_getIS hM1 rfl in_J2 (ci := 18) rfl (by decide) 0 (Nat.le_of_ble_eq_true rfl) hx (fun _ _ => rfl) q205 (g_sameF q204) dJ2_add_2 ?_
  refine ww_iconst dJ2_add_5 ?_
  refine ww_iadd dJ2_add_6 ?_
  obtain ⟨fi_2, fq_3, hc, h⟩ := h
  refine wm_putIS hM1 rfl in_J2 tyJ2_ok nmJ2 (ci := 18) rfl 0 (Nat.le_of_ble_eq_true rfl) hc (fun _ _ => rfl) (fun _ _ => Nat.le_of_ble_eq_true rfl) q205 (g_sameF q204) rfl rfl rfl dJ2_add_7 (fun ws hM2 => ?_)
  refine ww_aloadQ_n dJ2_add_10 0 rfl ?_
  refine ww_aloadQ_n dJ2_add_11 1 rfl ?_
  refine ww_aloadQ_n dJ2_add_12 0 rfl ?_
  obtain ⟨x_4, hx, h⟩ := h
  refine wm_getQ hM2 rfl in_J2 (ci := 18) rfl (by decide) 1 (Nat.le_of_ble_eq_true rfl) hx (fun _ _ => rfl) q198 (fun _ _ h => h) dJ2_add_13 ?_
  refine ww_aloadQ_n dJ2_add_16 0 rfl ?_
  obtain ⟨x_5, hx, h⟩ := h
  refine wm_getI hM2 rfl in_J2 (ci := 18) rfl (by decide) 2 (Nat.le_of_ble_eq_true rfl) hx (fun _ _ => rfl) q201 (fun _ _ h => h) dJ2_add_17 ?_
  obtain ⟨hg, h⟩ := h
  obtain ⟨c_6, s_7, b_8, h⟩ := h
  refine wm_callV (n := 3) hM2 (tm_J2_add_2 h) rfl hg rfl (lw_V q1179 q1181 qs12 q113 q1182) ⟨by decide, by decide, by decide +kernel⟩ rfl ⟨Nat.le_of_ble_eq_true rfl, Nat.le_of_ble_eq_true rfl⟩ rfl (Nat.le_of_ble_eq_true rfl) dJ2_add_20 b_8 ?_
  clear h
  rintro _ μ_9 ws ⟨rfl, h⟩ hM3
  have hB := b_8
  refine ww_st0 ?_
  refine ww_iconst dJ2_add_23 ?_
  exact ww_zret (ws, μ_9) rfl (Or.inr rfl) ⟨hM3, ⟨_, rfl, Or.inr rfl, h⟩⟩ rfl hB.1 hB.2 dJ2_add_24
/-! J16_requireNonNull: java/util/Objects requireNonNull (Ljava/lang/Object;)Ljava/lang/Object;; flags (False, False, False), depth 0 -/
def wc_J16_requireNonNull (ad : Nat → Nat) (μ : HM) (o1 : Option Nat) (P : Option Nat → Prop) : Prop :=
  ((o1 = none →
    False) ∧
  (∀ a_1 : Nat, o1 = some a_1 →
    P (some a_1)))
set_option maxHeartbeats 4000000 in
theorem tm_J16_requireNonNull {G : g_G} {l : Launch} {μ : HM} {o1 : Option Nat} {P : Option Nat → Prop} (h : wc_J16_requireNonNull (g_ad G) μ o1 P) : CM G l yJ16_requireNonNull cJ16_requireNonNull 1 (Option.some (Jvm.ClassFile.FieldType.object "java/lang/Object")) 0 0 0 [va_rf o1] μ (hN4 μ P) := by
  unfold wc_J16_requireNonNull at h
  refine wm_of (lvs := [(0, va_rf o1)]) (by decide) (by simp [lg_sl, rf_cat, vI_cat, vL_cat, ref_cat]) (by simp [lv_args, rf_cat, vI_cat, vL_cat, ref_cat, rf_some]) (fun fr ws hM1 => ?_)
  show WW G l cJ16_requireNonNull RJ16 1 (Option.some (Jvm.ClassFile.FieldType.object "java/lang/Object")) "requireNonNull" 0 0 0 (hMR G (hN4 μ P)) (fun u => [u.1, fr]) 0 0 [ws, fr] 0 [(0, va_rf o1)] []
  refine ww_aloadQ_n dJ16_requireNonNull_0 0 rfl ?_
  refine ww_ifnonnullQ (tgt := 12) dJ16_requireNonNull_1 (by decide) (fun a_1 c => ?_) (fun c => ?_)
  · replace h := h.2 a_1 c
    subst c
    refine ww_aloadQ_n dJ16_requireNonNull_12 0 rfl ?_
    exact ww_aret (ws, μ) rfl (by first | exact Or.inl ⟨_, rfl⟩ | exact Or.inr ⟨_, rfl⟩) (rf_or _) ⟨hM1, ⟨rfl, _, rfl, h⟩⟩ rfl (Nat.le_refl _) (Nat.le_refl _) dJ16_requireNonNull_13
  · replace h := h.1 c
    subst c
    exact h.elim
/-! J22_init: java/util/TreeMap$Entry <init> (Ljava/lang/Object;Ljava/lang/Object;Ljava/util/TreeMap$Entry;)V; flags (True, False, False), depth 1 -/
def wc_J22_init (ad : Nat → Nat) (μ : HM) (b : Nat) (o1 : Option Nat) (o2 : Option Nat) (o3 : Option Nat) (P : HM → Prop) : Prop :=
  ∃ (fi_1 : Nat → Int) (fq_2 : Nat → Option Nat), μ b = some (hO 20 fi_1 fq_2) ∧ 
  ∃ (fi_3 : Nat → Int) (fq_4 : Nat → Option Nat), (hs μ b (hO 20 (upF fi_1 5 1) fq_2)) b = some (hO 20 fi_3 fq_4) ∧ 
  ∃ (fi_5 : Nat → Int) (fq_6 : Nat → Option Nat), (hs (hs μ b (hO 20 (upF fi_1 5 1) fq_2)) b (hO 20 fi_3 (upF fq_4 0 o1))) b = some (hO 20 fi_5 fq_6) ∧ 
  ∃ (fi_7 : Nat → Int) (fq_8 : Nat → Option Nat), (hs (hs (hs μ b (hO 20 (upF fi_1 5 1) fq_2)) b (hO 20 fi_3 (upF fq_4 0 o1))) b (hO 20 fi_5 (upF fq_6 1 o2))) b = some (hO 20 fi_7 fq_8) ∧ 
  P (hs (hs (hs (hs μ b (hO 20 (upF fi_1 5 1) fq_2)) b (hO 20 fi_3 (upF fq_4 0 o1))) b (hO 20 fi_5 (upF fq_6 1 o2))) b (hO 20 fi_7 (upF fq_8 4 o3)))
set_option maxHeartbeats 4000000 in
theorem tm_J22_init {G : g_G} {l : Launch} {μ : HM} {b : Nat} {o1 : Option Nat} {o2 : Option Nat} {o3 : Option Nat} {P : HM → Prop} (h : wc_J22_init (g_ad G) μ b o1 o2 o3 P) : CM G l yJ22_init cJ22_init 4 (Option.none : Option Jvm.ClassFile.FieldType) 1 0 0 [.ref b, va_rf o1, va_rf o2, va_rf o3] μ (hR0 P) := by
  unfold wc_J22_init at h
  refine wm_of (lvs := [(0, va_rf (some b)), (1, va_rf o1), (2, va_rf o2), (3, va_rf o3)]) (by decide) (by simp [lg_sl, rf_cat, vI_cat, vL_cat, ref_cat]) (by simp [lv_args, rf_cat, vI_cat, vL_cat, ref_cat, rf_some]) (fun fr ws hM1 => ?_)
  show WW G l cJ22_init RJ22 4 (Option.none : Option Jvm.ClassFile.FieldType) "<init>" 1 0 0 (hMR G (hR0 P)) (fun u => [u.1, fr]) 0 0 [ws, fr] 0 [(0, va_rf (some b)), (1, va_rf o1), (2, va_rf o2), (3, va_rf o3)] []
  refine ww_aloadQ_n dJ22_init_0 0 rfl ?_
  refine wm_objInit rfl q1257 q170 q171 (Nat.le_of_ble_eq_true rfl) (Nat.le_of_ble_eq_true rfl) dJ22_init_1 ?_
  refine ww_aloadQ_n dJ22_init_4 0 rfl ?_
  refine ww_iconst dJ22_init_5 ?_
  obtain ⟨fi_1, fq_2, hc, h⟩ := h
  refine wm_putI hM1 rfl in_J22 tyJ22_ok nmJ22 (ci := 20) rfl 5 (Nat.le_of_ble_eq_true rfl) hc (fun _ _ => rfl) (fun _ _ => Nat.le_of_ble_eq_true rfl) q1266 (fun _ _ h => h) rfl rfl rfl dJ22_init_6 (fun ws hM2 => ?_)
  refine ww_aloadQ_n dJ22_init_9 0 rfl ?_
  refine ww_aloadQ_n dJ22_init_10 1 rfl ?_
  obtain ⟨fi_3, fq_4, hc, h⟩ := h
  refine wm_putQ hM2 rfl in_J22 tyJ22_ok nmJ22 (ci := 20) rfl 0 (Nat.le_of_ble_eq_true rfl) hc (fun _ _ => rfl) (fun _ _ => Nat.le_of_ble_eq_true rfl) q1258 (fun _ _ h => h) rfl (narrow_rf rfl _) (fits_rf rfl _) dJ22_init_11 (fun ws hM3 => ?_)
  refine ww_aloadQ_n dJ22_init_14 0 rfl ?_
  refine ww_aloadQ_n dJ22_init_15 2 rfl ?_
  obtain ⟨fi_5, fq_6, hc, h⟩ := h
  refine wm_putQ hM3 rfl in_J22 tyJ22_ok nmJ22 (ci := 20) rfl 1 (Nat.le_of_ble_eq_true rfl) hc (fun _ _ => rfl) (fun _ _ => Nat.le_of_ble_eq_true rfl) q1260 (fun _ _ h => h) rfl (narrow_rf rfl _) (fits_rf rfl _) dJ22_init_16 (fun ws hM4 => ?_)
  refine ww_aloadQ_n dJ22_init_19 0 rfl ?_
  refine ww_aloadQ_n dJ22_init_20 3 rfl ?_
  obtain ⟨fi_7, fq_8, hc, h⟩ := h
  refine wm_putQ hM4 rfl in_J22 tyJ22_ok nmJ22 (ci := 20) rfl 4 (Nat.le_of_ble_eq_true rfl) hc (fun _ _ => rfl) (fun _ _ => Nat.le_of_ble_eq_true rfl) q1264 (fun _ _ h => h) rfl (narrow_rf rfl _) (fits_rf rfl _) dJ22_init_21 (fun ws hM5 => ?_)
  exact ww_vret (ws, (hs (hs (hs (hs μ b (hO 20 (upF fi_1 5 1) fq_2)) b (hO 20 fi_3 (upF fq_4 0 o1))) b (hO 20 fi_5 (upF fq_6 1 o2))) b (hO 20 fi_7 (upF fq_8 4 o3)))) rfl ⟨hM5, ⟨rfl, h⟩⟩ rfl (Nat.le_refl _) (Nat.le_refl _) dJ22_init_24
/-! J4_colorOf: java/util/TreeMap colorOf (Ljava/util/TreeMap$Entry;)Z; flags (False, False, False), depth 0 -/
def wc_J4_colorOf (ad : Nat → Nat) (μ : HM) (o1 : Option Nat) (P : Int → Prop) : Prop :=
  ((o1 = none →
    P 1) ∧
  (∀ a_1 : Nat, o1 = some a_1 →
    ∃ x_2 : Int, gI μ a_1 20 5 = some x_2 ∧
    (x_2 = 0 ∨ x_2 = 1) ∧ P x_2))
set_option maxHeartbeats 4000000 in
theorem tm_J4_colorOf {G : g_G} {l : Launch} {μ : HM} {o1 : Option Nat} {P : Int → Prop} (h : wc_J4_colorOf (g_ad G) μ o1 P) : CM G l yJ4_colorOf cJ4_colorOf 1 (Option.some Jvm.ClassFile.FieldType.boolean) 0 0 0 [va_rf o1] μ (hN2 μ P) := by
  unfold wc_J4_colorOf at h
  refine wm_of (lvs := [(0, va_rf o1)]) (by decide) (by simp [lg_sl, rf_cat, vI_cat, vL_cat, ref_cat]) (by simp [lv_args, rf_cat, vI_cat, vL_cat, ref_cat, rf_some]) (fun fr ws hM1 => ?_)
  show WW G l cJ4_colorOf RJ4 1 (Option.some Jvm.ClassFile.FieldType.boolean) "colorOf" 0 0 0 (hMR G (hN2 μ P)) (fun u => [u.1, fr]) 0 0 [ws, fr] 0 [(0, va_rf o1)] []
  refine ww_aloadQ_n dJ4_colorOf_0 0 rfl ?_
  refine ww_ifnonnullQ (tgt := 8) dJ4_colorOf_1 (by decide) (fun a_1 c => ?_) (fun c => ?_)
  · replace h := h.2 a_1 c
    subst c
    refine ww_aloadQ_n dJ4_colorOf_8 0 rfl ?_
    obtain ⟨x_2, hx, h⟩ := h
    refine wm_getI hM1 rfl in_J22 (ci := 20) rfl (by decide) 5 (Nat.le_of_ble_eq_true rfl) hx (fun _ _ => rfl) q1267 (fun _ _ h => h) dJ4_colorOf_9 ?_
    obtain ⟨hz, h⟩ := h
    exact ww_zret (ws, μ) rfl hz ⟨hM1, ⟨rfl, _, rfl, hz, h⟩⟩ rfl (Nat.le_refl _) (Nat.le_refl _) dJ4_colorOf_12
  · replace h := h.1 c
    subst c
    refine ww_iconst dJ4_colorOf_4 ?_
    refine ww_goto (tgt := 12) dJ4_colorOf_5 (by decide) ?_
    exact ww_zret (ws, μ) rfl (Or.inr rfl) ⟨hM1, ⟨rfl, _, rfl, Or.inr rfl, h⟩⟩ rfl (Nat.le_refl _) (Nat.le_refl _) dJ4_colorOf_12
/-! J4_leftOf: java/util/TreeMap leftOf (Ljava/util/TreeMap$Entry;)Ljava/util/TreeMap$Entry;; flags (False, False, False), depth 0 -/
def wc_J4_leftOf (ad : Nat → Nat) (μ : HM) (o1 : Option Nat) (P : Option Nat → Prop) : Prop :=
  ∃ J12 : Option Nat → Prop, (∀ (s0_12 : Option Nat), J12 s0_12 →
    P s0_12) ∧
  ((o1 = none →
    J12 none) ∧
  (∀ a_1 : Nat, o1 = some a_1 →
    ∃ x_2 : Option Nat, gQ μ a_1 20 2 = some x_2 ∧
    J12 x_2))
set_option maxHeartbeats 4000000 in
theorem tm_J4_leftOf {G : g_G} {l : Launch} {μ : HM} {o1 : Option Nat} {P : Option Nat → Prop} (h : wc_J4_leftOf (g_ad G) μ o1 P) : CM G l yJ4_leftOf cJ4_leftOf 1 (Option.some (Jvm.ClassFile.FieldType.object "java/util/TreeMap$Entry")) 0 0 0 [va_rf o1] μ (hN4 μ P) := by
  unfold wc_J4_leftOf at h
  refine wm_of (lvs := [(0, va_rf o1)]) (by decide) (by simp [lg_sl, rf_cat, vI_cat, vL_cat, ref_cat]) (by simp [lv_args, rf_cat, vI_cat, vL_cat, ref_cat, rf_some]) (fun fr ws hM1 => ?_)
  show WW G l cJ4_leftOf RJ4 1 (Option.some (Jvm.ClassFile.FieldType.object "java/util/TreeMap$Entry")) "leftOf" 0 0 0 (hMR G (hN4 μ P)) (fun u => [u.1, fr]) 0 0 [ws, fr] 0 [(0, va_rf o1)] []
  refine ww_aloadQ_n dJ4_leftOf_0 0 rfl ?_
  obtain ⟨J12, hJ12, h⟩ := h
  have kJ12 : ∀ (s0_12 : Option Nat), J12 s0_12 → ∀ ws : va_W, Mrep G ws μ → WW G l cJ4_leftOf RJ4 1 (Option.some (Jvm.ClassFile.FieldType.object "java/util/TreeMap$Entry")) "leftOf" 0 0 0 (hMR G (hN4 μ P)) (fun u => [u.1, fr]) 0 0 [ws, fr] 12 [] [va_rf s0_12] := by
    clear h
    intro s0_12 hj ws hM2
    have h := hJ12 s0_12 hj
    exact ww_aret (ws, μ) rfl (by first | exact Or.inl ⟨_, rfl⟩ | exact Or.inr ⟨_, rfl⟩) (rf_or _) ⟨hM2, ⟨rfl, _, rfl, h⟩⟩ rfl (Nat.le_refl _) (Nat.le_refl _) dJ4_leftOf_12
  refine ww_ifnonnullQ (tgt := 8) dJ4_leftOf_1 (by decide) (fun a_1 c => ?_) (fun c => ?_)
  · replace h := h.2 a_1 c
    subst c
    refine ww_aloadQ_n dJ4_leftOf_8 0 rfl ?_
    obtain ⟨x_2, hx, h⟩ := h
    refine wm_getQ hM1 rfl in_J22 (ci := 20) rfl (by decide) 2 (Nat.le_of_ble_eq_true rfl) hx (fun _ _ => rfl) q1262 (fun _ _ h => h) dJ4_leftOf_9 ?_
    refine ww_lv [] rfl ?_
    exact kJ12 _ h _ hM1
  · replace h := h.1 c
    subst c
    refine ww_nullQ dJ4_leftOf_4 ?_
    refine ww_goto (tgt := 12) dJ4_leftOf_5 (by decide) ?_
    refine ww_lv [] rfl ?_
    exact kJ12 _ h _ hM1
/-! J4_parentOf: java/util/TreeMap parentOf (Ljava/util/TreeMap$Entry;)Ljava/util/TreeMap$Entry;; flags (False, False, False), depth 0 -/
def wc_J4_parentOf (ad : Nat → Nat) (μ : HM) (o1 : Option Nat) (P : Option Nat → Prop) : Prop :=
  ∃ J12 : Option Nat → Prop, (∀ (s0_12 : Option Nat), J12 s0_12 →
    P s0_12) ∧
  ((o1 = none →
    J12 none) ∧
  (∀ a_1 : Nat, o1 = some a_1 →
    ∃ x_2 : Option Nat, gQ μ a_1 20 4 = some x_2 ∧
    J12 x_2))
set_option maxHeartbeats 4000000 in
theorem tm_J4_parentOf {G : g_G} {l : Launch} {μ : HM} {o1 : Option Nat} {P : Option Nat → Prop} (h : wc_J4_parentOf (g_ad G) μ o1 P) : CM G l yJ4_parentOf cJ4_parentOf 1 (Option.some (Jvm.ClassFile.FieldType.object "java/util/TreeMap$Entry")) 0 0 0 [va_rf o1] μ (hN4 μ P) := by
  unfold wc_J4_parentOf at h
  refine wm_of (lvs := [(0, va_rf o1)]) (by decide) (by simp [lg_sl, rf_cat, vI_cat, vL_cat, ref_cat]) (by simp [lv_args, rf_cat, vI_cat, vL_cat, ref_cat, rf_some]) (fun fr ws hM1 => ?_)
  show WW G l cJ4_parentOf RJ4 1 (Option.some (Jvm.ClassFile.FieldType.object "java/util/TreeMap$Entry")) "parentOf" 0 0 0 (hMR G (hN4 μ P)) (fun u => [u.1, fr]) 0 0 [ws, fr] 0 [(0, va_rf o1)] []
  refine ww_aloadQ_n dJ4_parentOf_0 0 rfl ?_
  obtain ⟨J12, hJ12, h⟩ := h
  have kJ12 : ∀ (s0_12 : Option Nat), J12 s0_12 → ∀ ws : va_W, Mrep G ws μ → WW G l cJ4_parentOf RJ4 1 (Option.some (Jvm.ClassFile.FieldType.object "java/util/TreeMap$Entry")) "parentOf" 0 0 0 (hMR G (hN4 μ P)) (fun u => [u.1, fr]) 0 0 [ws, fr] 12 [] [va_rf s0_12] := by
    clear h
    intro s0_12 hj ws hM2
    have h := hJ12 s0_12 hj
    exact ww_aret (ws, μ) rfl (by first | exact Or.inl ⟨_, rfl⟩ | exact Or.inr ⟨_, rfl⟩) (rf_or _) ⟨hM2, ⟨rfl, _, rfl, h⟩⟩ rfl (Nat.le_refl _) (Nat.le_refl _) dJ4_parentOf_12
  refine ww_ifnonnullQ (tgt := 8) dJ4_parentOf_1 (by decide) (fun a_1 c => ?_) (fun c => ?_)
  · replace h := h.2 a_1 c
    subst c
    refine ww_aloadQ_n dJ4_parentOf_8 0 rfl ?_
    obtain ⟨x_2, hx, h⟩ := h
    refine wm_getQ hM1 rfl in_J22 (ci := 20) rfl (by decide) 4 (Nat.le_of_ble_eq_true rfl) hx (fun _ _ => rfl) q1265 (fun _ _ h => h) dJ4_parentOf_9 ?_
    refine ww_lv [] rfl ?_
    exact kJ12 _ h _ hM1
  · replace h := h.1 c
    subst c
    refine ww_nullQ dJ4_parentOf_4 ?_
    refine ww_goto (tgt := 12) dJ4_parentOf_5 (by decide) ?_
    refine ww_lv [] rfl ?_
    exact kJ12 _ h _ hM1
/-! J4_rightOf: java/util/TreeMap rightOf (Ljava/util/TreeMap$Entry;)Ljava/util/TreeMap$Entry;; flags (False, False, False), depth 0 -/
def wc_J4_rightOf (ad : Nat → Nat) (μ : HM) (o1 : Option Nat) (P : Option Nat → Prop) : Prop :=
  ∃ J12 : Option Nat → Prop, (∀ (s0_12 : Option Nat), J12 s0_12 →
    P s0_12) ∧
  ((o1 = none →
    J12 none) ∧
  (∀ a_1 : Nat, o1 = some a_1 →
    ∃ x_2 : Option Nat, gQ μ a_1 20 3 = some x_2 ∧
    J12 x_2))
set_option maxHeartbeats 4000000 in
theorem tm_J4_rightOf {G : g_G} {l : Launch} {μ : HM} {o1 : Option Nat} {P : Option Nat → Prop} (h : wc_J4_rightOf (g_ad G) μ o1 P) : CM G l yJ4_rightOf cJ4_rightOf 1 (Option.some (Jvm.ClassFile.FieldType.object "java/util/TreeMap$Entry")) 0 0 0 [va_rf o1] μ (hN4 μ P) := by
  unfold wc_J4_rightOf at h
  refine wm_of (lvs := [(0, va_rf o1)]) (by decide) (by simp [lg_sl, rf_cat, vI_cat, vL_cat, ref_cat]) (by simp [lv_args, rf_cat, vI_cat, vL_cat, ref_cat, rf_some]) (fun fr ws hM1 => ?_)
  show WW G l cJ4_rightOf RJ4 1 (Option.some (Jvm.ClassFile.FieldType.object "java/util/TreeMap$Entry")) "rightOf" 0 0 0 (hMR G (hN4 μ P)) (fun u => [u.1, fr]) 0 0 [ws, fr] 0 [(0, va_rf o1)] []
  refine ww_aloadQ_n dJ4_rightOf_0 0 rfl ?_
  obtain ⟨J12, hJ12, h⟩ := h
  have kJ12 : ∀ (s0_12 : Option Nat), J12 s0_12 → ∀ ws : va_W, Mrep G ws μ → WW G l cJ4_rightOf RJ4 1 (Option.some (Jvm.ClassFile.FieldType.object "java/util/TreeMap$Entry")) "rightOf" 0 0 0 (hMR G (hN4 μ P)) (fun u => [u.1, fr]) 0 0 [ws, fr] 12 [] [va_rf s0_12] := by
    clear h
    intro s0_12 hj ws hM2
    have h := hJ12 s0_12 hj
    exact ww_aret (ws, μ) rfl (by first | exact Or.inl ⟨_, rfl⟩ | exact Or.inr ⟨_, rfl⟩) (rf_or _) ⟨hM2, ⟨rfl, _, rfl, h⟩⟩ rfl (Nat.le_refl _) (Nat.le_refl _) dJ4_rightOf_12
  refine ww_ifnonnullQ (tgt := 8) dJ4_rightOf_1 (by decide) (fun a_1 c => ?_) (fun c => ?_)
  · replace h := h.2 a_1 c
    subst c
    refine ww_aloadQ_n dJ4_rightOf_8 0 rfl ?_
    obtain ⟨x_2, hx, h⟩ := h
    refine wm_getQ hM1 rfl in_J22 (ci := 20) rfl (by decide) 3 (Nat.le_of_ble_eq_true rfl) hx (fun _ _ => rfl) q1263 (fun _ _ h => h) dJ4_rightOf_9 ?_
    refine ww_lv [] rfl ?_
    exact kJ12 _ h _ hM1
  · replace h := h.1 c
    subst c
    refine ww_nullQ dJ4_rightOf_4 ?_
    refine ww_goto (tgt := 12) dJ4_rightOf_5 (by decide) ?_
    refine ww_lv [] rfl ?_
    exact kJ12 _ h _ hM1
/-! J4_rotateLeft: java/util/TreeMap rotateLeft (Ljava/util/TreeMap$Entry;)V; flags (True, False, False), depth 0 -/
def wc_J4_rotateLeft (ad : Nat → Nat) (μ : HM) (b : Nat) (o1 : Option Nat) (P : HM → Prop) : Prop :=
  ((o1 = none →
    P μ) ∧
  (∀ a_1 : Nat, o1 = some a_1 →
    ∃ x_2 : Option Nat, gQ μ a_1 20 3 = some x_2 ∧
    ∃ a_4 : Nat, x_2 = some a_4 ∧
    ∃ x_3 : Option Nat, gQ μ a_4 20 2 = some x_3 ∧
    ∃ (fi_5 : Nat → Int) (fq_6 : Nat → Option Nat), μ a_1 = some (hO 20 fi_5 fq_6) ∧ 
    ∃ x_7 : Option Nat, gQ (hs μ a_1 (hO 20 fi_5 (upF fq_6 3 x_3))) a_4 20 2 = some x_7 ∧
    ∃ J32 : HM → Prop, (∀ (μ32 : HM), J32 μ32 →
      ∃ x_8 : Option Nat, gQ μ32 a_1 20 4 = some x_8 ∧
      ∃ (fi_9 : Nat → Int) (fq_10 : Nat → Option Nat), μ32 a_4 = some (hO 20 fi_9 fq_10) ∧ 
      ∃ x_11 : Option Nat, gQ (hs μ32 a_4 (hO 20 fi_9 (upF fq_10 4 x_8))) a_1 20 4 = some x_11 ∧
      ∃ J85 : HM → Prop, (∀ (μ85 : HM), J85 μ85 →
        ∃ (fi_12 : Nat → Int) (fq_13 : Nat → Option Nat), μ85 a_4 = some (hO 20 fi_12 fq_13) ∧ 
        ∃ (fi_14 : Nat → Int) (fq_15 : Nat → Option Nat), (hs μ85 a_4 (hO 20 fi_12 (upF fq_13 2 (some a_1)))) a_1 = some (hO 20 fi_14 fq_15) ∧ 
        P (hs (hs μ85 a_4 (hO 20 fi_12 (upF fq_13 2 (some a_1)))) a_1 (hO 20 fi_14 (upF fq_15 4 (some a_4))))) ∧
      ((x_11 = none →
        ∃ (fi_17 : Nat → Int) (fq_18 : Nat → Option Nat), (hs μ32 a_4 (hO 20 fi_9 (upF fq_10 4 x_8))) b = some (hO 19 fi_17 fq_18) ∧ 
        J85 (hs (hs μ32 a_4 (hO 20 fi_9 (upF fq_10 4 x_8))) b (hO 19 fi_17 (upF fq_18 3 (some a_4))))) ∧
      (∀ a_16 : Nat, x_11 = some a_16 →
        ∃ x_19 : Option Nat, gQ (hs μ32 a_4 (hO 20 fi_9 (upF fq_10 4 x_8))) a_1 20 4 = some x_19 ∧
        ∃ a_21 : Nat, x_19 = some a_21 ∧
        ∃ x_20 : Option Nat, gQ (hs μ32 a_4 (hO 20 fi_9 (upF fq_10 4 x_8))) a_21 20 2 = some x_20 ∧
        ((¬ (x_20 : Option Nat) = (some a_1) →
          ∃ x_22 : Option Nat, gQ (hs μ32 a_4 (hO 20 fi_9 (upF fq_10 4 x_8))) a_1 20 4 = some x_22 ∧
          ∃ a_23 : Nat, x_22 = some a_23 ∧
          ∃ (fi_24 : Nat → Int) (fq_25 : Nat → Option Nat), (hs μ32 a_4 (hO 20 fi_9 (upF fq_10 4 x_8))) a_23 = some (hO 20 fi_24 fq_25) ∧ 
          J85 (hs (hs μ32 a_4 (hO 20 fi_9 (upF fq_10 4 x_8))) a_23 (hO 20 fi_24 (upF fq_25 3 (some a_4))))) ∧
        ((x_20 : Option Nat) = (some a_1) →
          ∃ x_26 : Option Nat, gQ (hs μ32 a_4 (hO 20 fi_9 (upF fq_10 4 x_8))) a_1 20 4 = some x_26 ∧
          ∃ a_27 : Nat, x_26 = some a_27 ∧
          ∃ (fi_28 : Nat → Int) (fq_29 : Nat → Option Nat), (hs μ32 a_4 (hO 20 fi_9 (upF fq_10 4 x_8))) a_27 = some (hO 20 fi_28 fq_29) ∧ 
          J85 (hs (hs μ32 a_4 (hO 20 fi_9 (upF fq_10 4 x_8))) a_27 (hO 20 fi_28 (upF fq_29 2 (some a_4))))))))) ∧
    ((x_7 = none →
      J32 (hs μ a_1 (hO 20 fi_5 (upF fq_6 3 x_3)))) ∧
    (∀ a_30 : Nat, x_7 = some a_30 →
      ∃ x_31 : Option Nat, gQ (hs μ a_1 (hO 20 fi_5 (upF fq_6 3 x_3))) a_4 20 2 = some x_31 ∧
      ∃ a_32 : Nat, x_31 = some a_32 ∧
      ∃ (fi_33 : Nat → Int) (fq_34 : Nat → Option Nat), (hs μ a_1 (hO 20 fi_5 (upF fq_6 3 x_3))) a_32 = some (hO 20 fi_33 fq_34) ∧ 
      J32 (hs (hs μ a_1 (hO 20 fi_5 (upF fq_6 3 x_3))) a_32 (hO 20 fi_33 (upF fq_34 4 (some a_1))))))))
set_option maxHeartbeats 4000000 in
theorem tm_J4_rotateLeft {G : g_G} {l : Launch} {μ : HM} {b : Nat} {o1 : Option Nat} {P : HM → Prop} (h : wc_J4_rotateLeft (g_ad G) μ b o1 P) : CM G l yJ4_rotateLeft cJ4_rotateLeft 3 (Option.none : Option Jvm.ClassFile.FieldType) 0 0 0 [.ref b, va_rf o1] μ (hR0 P) := by
  unfold wc_J4_rotateLeft at h
  refine wm_of (lvs := [(0, va_rf (some b)), (1, va_rf o1)]) (by decide) (by simp [lg_sl, rf_cat, vI_cat, vL_cat, ref_cat]) (by simp [lv_args, rf_cat, vI_cat, vL_cat, ref_cat, rf_some]) (fun fr ws hM1 => ?_)
  show WW G l cJ4_rotateLeft RJ4 3 (Option.none : Option Jvm.ClassFile.FieldType) "rotateLeft" 0 0 0 (hMR G (hR0 P)) (fun u => [u.1, fr]) 0 0 [ws, fr] 0 [(0, va_rf (some b)), (1, va_rf o1)] []
  refine ww_aloadQ_n dJ4_rotateLeft_0 1 rfl ?_
  refine ww_ifnullQ (tgt := 95) dJ4_rotateLeft_1 (by decide) (fun c => ?_) (fun a_1 c => ?_)
  · replace h := h.1 c
    subst c
    exact ww_vret (ws, μ) rfl ⟨hM1, ⟨rfl, h⟩⟩ rfl (Nat.le_refl _) (Nat.le_refl _) dJ4_rotateLeft_95
  · replace h := h.2 a_1 c
    subst c
    refine ww_aloadQ_n dJ4_rotateLeft_4 1 rfl ?_
    obtain ⟨x_2, hx, h⟩ := h
    refine wm_getQ hM1 rfl in_J22 (ci := 20) rfl (by decide) 3 (Nat.le_of_ble_eq_true rfl) hx (fun _ _ => rfl) q1263 (fun _ _ h => h) dJ4_rotateLeft_5 ?_
    refine ww_astoreQ_n (i := 2) (lv2 := [(2, va_rf x_2), (0, va_rf (some b)), (1, va_rf (some a_1))]) dJ4_rotateLeft_8 rfl (Nat.le_of_ble_eq_true rfl) rfl ?_
    refine ww_aloadQ_n dJ4_rotateLeft_9 2 rfl ?_
    refine ww_aloadQ_n dJ4_rotateLeft_10 0 rfl ?_
    obtain ⟨a_4, ea_4, h⟩ := h
    subst ea_4
    obtain ⟨x_3, hx, h⟩ := h
    refine wm_getQ hM1 rfl in_J22 (ci := 20) rfl (by decide) 2 (Nat.le_of_ble_eq_true rfl) hx (fun _ _ => rfl) q1262 (fun _ _ h => h) dJ4_rotateLeft_11 ?_
    obtain ⟨fi_5, fq_6, hc, h⟩ := h
    refine wm_putQ hM1 rfl in_J22 tyJ22_ok nmJ22 (ci := 20) rfl 3 (Nat.le_of_ble_eq_true rfl) hc (fun _ _ => rfl) (fun _ _ => Nat.le_of_ble_eq_true rfl) q1263 (fun _ _ h => h) rfl (narrow_rf rfl _) (fits_rf rfl _) dJ4_rotateLeft_14 (fun ws hM2 => ?_)
    refine ww_aloadQ_n dJ4_rotateLeft_17 0 rfl ?_
    obtain ⟨x_7, hx, h⟩ := h
    refine wm_getQ hM2 rfl in_J22 (ci := 20) rfl (by decide) 2 (Nat.le_of_ble_eq_true rfl) hx (fun _ _ => rfl) q1262 (fun _ _ h => h) dJ4_rotateLeft_18 ?_
    obtain ⟨J32, hJ32, h⟩ := h
    have kJ32 : ∀ (μ32 : HM), J32 μ32 → ∀ ws : va_W, Mrep G ws μ32 → WW G l cJ4_rotateLeft RJ4 3 (Option.none : Option Jvm.ClassFile.FieldType) "rotateLeft" 0 0 0 (hMR G (hR0 P)) (fun u => [u.1, fr]) 0 0 [ws, fr] 32 [(0, va_rf (some b)), (1, va_rf (some a_1)), (2, va_rf (some a_4))] [] := by
      clear h
      intro μ32 hj ws hM3
      have h := hJ32 μ32 hj
      refine ww_aloadQ_n dJ4_rotateLeft_32 2 rfl ?_
      refine ww_aloadQ_n dJ4_rotateLeft_33 1 rfl ?_
      obtain ⟨x_8, hx, h⟩ := h
      refine wm_getQ hM3 rfl in_J22 (ci := 20) rfl (by decide) 4 (Nat.le_of_ble_eq_true rfl) hx (fun _ _ => rfl) q1265 (fun _ _ h => h) dJ4_rotateLeft_34 ?_
      obtain ⟨fi_9, fq_10, hc, h⟩ := h
      refine wm_putQ hM3 rfl in_J22 tyJ22_ok nmJ22 (ci := 20) rfl 4 (Nat.le_of_ble_eq_true rfl) hc (fun _ _ => rfl) (fun _ _ => Nat.le_of_ble_eq_true rfl) q1265 (fun _ _ h => h) rfl (narrow_rf rfl _) (fits_rf rfl _) dJ4_rotateLeft_37 (fun ws hM4 => ?_)
      refine ww_aloadQ_n dJ4_rotateLeft_40 1 rfl ?_
      obtain ⟨x_11, hx, h⟩ := h
      refine wm_getQ hM4 rfl in_J22 (ci := 20) rfl (by decide) 4 (Nat.le_of_ble_eq_true rfl) hx (fun _ _ => rfl) q1265 (fun _ _ h => h) dJ4_rotateLeft_41 ?_
      obtain ⟨J85, hJ85, h⟩ := h
      have kJ85 : ∀ (μ85 : HM), J85 μ85 → ∀ ws : va_W, Mrep G ws μ85 → WW G l cJ4_rotateLeft RJ4 3 (Option.none : Option Jvm.ClassFile.FieldType) "rotateLeft" 0 0 0 (hMR G (hR0 P)) (fun u => [u.1, fr]) 0 0 [ws, fr] 85 [(1, va_rf (some a_1)), (2, va_rf (some a_4))] [] := by
        clear h
        intro μ85 hj ws hM5
        have h := hJ85 μ85 hj
        refine ww_aloadQ_n dJ4_rotateLeft_85 1 rfl ?_
        refine ww_aloadQ_n dJ4_rotateLeft_86 0 rfl ?_
        obtain ⟨fi_12, fq_13, hc, h⟩ := h
        refine wm_putQ hM5 rfl in_J22 tyJ22_ok nmJ22 (ci := 20) rfl 2 (Nat.le_of_ble_eq_true rfl) hc (fun _ _ => rfl) (fun _ _ => Nat.le_of_ble_eq_true rfl) q1262 (fun _ _ h => h) rfl (narrow_rf rfl _) (fits_rf rfl _) dJ4_rotateLeft_87 (fun ws hM6 => ?_)
        refine ww_aloadQ_n dJ4_rotateLeft_90 0 rfl ?_
        refine ww_aloadQ_n dJ4_rotateLeft_91 1 rfl ?_
        obtain ⟨fi_14, fq_15, hc, h⟩ := h
        refine wm_putQ hM6 rfl in_J22 tyJ22_ok nmJ22 (ci := 20) rfl 4 (Nat.le_of_ble_eq_true rfl) hc (fun _ _ => rfl) (fun _ _ => Nat.le_of_ble_eq_true rfl) q1265 (fun _ _ h => h) rfl (narrow_rf rfl _) (fits_rf rfl _) dJ4_rotateLeft_92 (fun ws hM7 => ?_)
        exact ww_vret (ws, (hs (hs μ85 a_4 (hO 20 fi_12 (upF fq_13 2 (some a_1)))) a_1 (hO 20 fi_14 (upF fq_15 4 (some a_4))))) rfl ⟨hM7, ⟨rfl, h⟩⟩ rfl (Nat.le_refl _) (Nat.le_refl _) dJ4_rotateLeft_95
      refine ww_ifnonnullQ (tgt := 55) dJ4_rotateLeft_44 (by decide) (fun a_16 c => ?_) (fun c => ?_)
      · replace h := h.2 a_16 c
        subst c
        refine ww_aloadQ_n dJ4_rotateLeft_55 1 rfl ?_
        obtain ⟨x_19, hx, h⟩ := h
        refine wm_getQ hM4 rfl in_J22 (ci := 20) rfl (by decide) 4 (Nat.le_of_ble_eq_true rfl) hx (fun _ _ => rfl) q1265 (fun _ _ h => h) dJ4_rotateLeft_56 ?_
        obtain ⟨a_21, ea_21, h⟩ := h
        subst ea_21
        obtain ⟨x_20, hx, h⟩ := h
        refine wm_getQ hM4 rfl in_J22 (ci := 20) rfl (by decide) 2 (Nat.le_of_ble_eq_true rfl) hx (fun _ _ => rfl) q1262 (fun _ _ h => h) dJ4_rotateLeft_59 ?_
        refine ww_aloadQ_n dJ4_rotateLeft_62 1 rfl ?_
        refine ww_acmp_ne (tgt := 77) dJ4_rotateLeft_63 (by decide) (fun c => ?_) (fun c => ?_)
        · replace h := h.1 c
          refine ww_aloadQ_n dJ4_rotateLeft_77 1 rfl ?_
          obtain ⟨x_22, hx, h⟩ := h
          refine wm_getQ hM4 rfl in_J22 (ci := 20) rfl (by decide) 4 (Nat.le_of_ble_eq_true rfl) hx (fun _ _ => rfl) q1265 (fun _ _ h => h) dJ4_rotateLeft_78 ?_
          refine ww_aloadQ_n dJ4_rotateLeft_81 2 rfl ?_
          obtain ⟨a_23, ea_23, h⟩ := h
          subst ea_23
          obtain ⟨fi_24, fq_25, hc, h⟩ := h
          refine wm_putQ hM4 rfl in_J22 tyJ22_ok nmJ22 (ci := 20) rfl 3 (Nat.le_of_ble_eq_true rfl) hc (fun _ _ => rfl) (fun _ _ => Nat.le_of_ble_eq_true rfl) q1263 (fun _ _ h => h) rfl (narrow_rf rfl _) (fits_rf rfl _) dJ4_rotateLeft_82 (fun ws hM8 => ?_)
          refine ww_lv [1, 2] rfl ?_
          exact kJ85 _ h _ hM8
        · replace h := h.2 c
          refine ww_aloadQ_n dJ4_rotateLeft_66 1 rfl ?_
          obtain ⟨x_26, hx, h⟩ := h
          refine wm_getQ hM4 rfl in_J22 (ci := 20) rfl (by decide) 4 (Nat.le_of_ble_eq_true rfl) hx (fun _ _ => rfl) q1265 (fun _ _ h => h) dJ4_rotateLeft_67 ?_
          refine ww_aloadQ_n dJ4_rotateLeft_70 2 rfl ?_
          obtain ⟨a_27, ea_27, h⟩ := h
          subst ea_27
          obtain ⟨fi_28, fq_29, hc, h⟩ := h
          refine wm_putQ hM4 rfl in_J22 tyJ22_ok nmJ22 (ci := 20) rfl 2 (Nat.le_of_ble_eq_true rfl) hc (fun _ _ => rfl) (fun _ _ => Nat.le_of_ble_eq_true rfl) q1262 (fun _ _ h => h) rfl (narrow_rf rfl _) (fits_rf rfl _) dJ4_rotateLeft_71 (fun ws hM9 => ?_)
          refine ww_goto (tgt := 85) dJ4_rotateLeft_74 (by decide) ?_
          refine ww_lv [1, 2] rfl ?_
          exact kJ85 _ h _ hM9
      · replace h := h.1 c
        subst c
        refine ww_aloadQ_n dJ4_rotateLeft_47 0 rfl ?_
        refine ww_aloadQ_n dJ4_rotateLeft_48 2 rfl ?_
        obtain ⟨fi_17, fq_18, hc, h⟩ := h
        refine wm_putQ hM4 rfl in_J4 tyJ4_ok nmJ4 (ci := 19) rfl 3 (Nat.le_of_ble_eq_true rfl) hc (fun _ _ => rfl) (fun _ _ => Nat.le_of_ble_eq_true rfl) q224 (fun _ _ h => h) rfl (narrow_rf rfl _) (fits_rf rfl _) dJ4_rotateLeft_49 (fun ws hM10 => ?_)
        refine ww_goto (tgt := 85) dJ4_rotateLeft_52 (by decide) ?_
        refine ww_lv [1, 2] rfl ?_
        exact kJ85 _ h _ hM10
    refine ww_ifnullQ (tgt := 32) dJ4_rotateLeft_21 (by decide) (fun c => ?_) (fun a_30 c => ?_)
    · replace h := h.1 c
      subst c
      refine ww_lv [1, 2, 0] rfl ?_
      exact kJ32 _ h _ hM2
    · replace h := h.2 a_30 c
      subst c
      refine ww_aloadQ_n dJ4_rotateLeft_24 0 rfl ?_
      obtain ⟨x_31, hx, h⟩ := h
      refine wm_getQ hM2 rfl in_J22 (ci := 20) rfl (by decide) 2 (Nat.le_of_ble_eq_true rfl) hx (fun _ _ => rfl) q1262 (fun _ _ h => h) dJ4_rotateLeft_25 ?_
      refine ww_aloadQ_n dJ4_rotateLeft_28 2 rfl ?_
      obtain ⟨a_32, ea_32, h⟩ := h
      subst ea_32
      obtain ⟨fi_33, fq_34, hc, h⟩ := h
      refine wm_putQ hM2 rfl in_J22 tyJ22_ok nmJ22 (ci := 20) rfl 4 (Nat.le_of_ble_eq_true rfl) hc (fun _ _ => rfl) (fun _ _ => Nat.le_of_ble_eq_true rfl) q1265 (fun _ _ h => h) rfl (narrow_rf rfl _) (fits_rf rfl _) dJ4_rotateLeft_29 (fun ws hM11 => ?_)
      refine ww_lv [1, 2, 0] rfl ?_
      exact kJ32 _ h _ hM11
/-! J4_rotateRight: java/util/TreeMap rotateRight (Ljava/util/TreeMap$Entry;)V; flags (True, False, False), depth 0 -/
def wc_J4_rotateRight (ad : Nat → Nat) (μ : HM) (b : Nat) (o1 : Option Nat) (P : HM → Prop) : Prop :=
  ((o1 = none →
    P μ) ∧
  (∀ a_1 : Nat, o1 = some a_1 →
    ∃ x_2 : Option Nat, gQ μ a_1 20 2 = some x_2 ∧
    ∃ a_4 : Nat, x_2 = some a_4 ∧
    ∃ x_3 : Option Nat, gQ μ a_4 20 3 = some x_3 ∧
    ∃ (fi_5 : Nat → Int) (fq_6 : Nat → Option Nat), μ a_1 = some (hO 20 fi_5 fq_6) ∧ 
    ∃ x_7 : Option Nat, gQ (hs μ a_1 (hO 20 fi_5 (upF fq_6 2 x_3))) a_4 20 3 = some x_7 ∧
    ∃ J32 : HM → Prop, (∀ (μ32 : HM), J32 μ32 →
      ∃ x_8 : Option Nat, gQ μ32 a_1 20 4 = some x_8 ∧
      ∃ (fi_9 : Nat → Int) (fq_10 : Nat → Option Nat), μ32 a_4 = some (hO 20 fi_9 fq_10) ∧ 
      ∃ x_11 : Option Nat, gQ (hs μ32 a_4 (hO 20 fi_9 (upF fq_10 4 x_8))) a_1 20 4 = some x_11 ∧
      ∃ J85 : HM → Prop, (∀ (μ85 : HM), J85 μ85 →
        ∃ (fi_12 : Nat → Int) (fq_13 : Nat → Option Nat), μ85 a_4 = some (hO 20 fi_12 fq_13) ∧ 
        ∃ (fi_14 : Nat → Int) (fq_15 : Nat → Option Nat), (hs μ85 a_4 (hO 20 fi_12 (upF fq_13 3 (some a_1)))) a_1 = some (hO 20 fi_14 fq_15) ∧ 
        P (hs (hs μ85 a_4 (hO 20 fi_12 (upF fq_13 3 (some a_1)))) a_1 (hO 20 fi_14 (upF fq_15 4 (some a_4))))) ∧
      ((x_11 = none →
        ∃ (fi_17 : Nat → Int) (fq_18 : Nat → Option Nat), (hs μ32 a_4 (hO 20 fi_9 (upF fq_10 4 x_8))) b = some (hO 19 fi_17 fq_18) ∧ 
        J85 (hs (hs μ32 a_4 (hO 20 fi_9 (upF fq_10 4 x_8))) b (hO 19 fi_17 (upF fq_18 3 (some a_4))))) ∧
      (∀ a_16 : Nat, x_11 = some a_16 →
        ∃ x_19 : Option Nat, gQ (hs μ32 a_4 (hO 20 fi_9 (upF fq_10 4 x_8))) a_1 20 4 = some x_19 ∧
        ∃ a_21 : Nat, x_19 = some a_21 ∧
        ∃ x_20 : Option Nat, gQ (hs μ32 a_4 (hO 20 fi_9 (upF fq_10 4 x_8))) a_21 20 3 = some x_20 ∧
        ((¬ (x_20 : Option Nat) = (some a_1) →
          ∃ x_22 : Option Nat, gQ (hs μ32 a_4 (hO 20 fi_9 (upF fq_10 4 x_8))) a_1 20 4 = some x_22 ∧
          ∃ a_23 : Nat, x_22 = some a_23 ∧
          ∃ (fi_24 : Nat → Int) (fq_25 : Nat → Option Nat), (hs μ32 a_4 (hO 20 fi_9 (upF fq_10 4 x_8))) a_23 = some (hO 20 fi_24 fq_25) ∧ 
          J85 (hs (hs μ32 a_4 (hO 20 fi_9 (upF fq_10 4 x_8))) a_23 (hO 20 fi_24 (upF fq_25 2 (some a_4))))) ∧
        ((x_20 : Option Nat) = (some a_1) →
          ∃ x_26 : Option Nat, gQ (hs μ32 a_4 (hO 20 fi_9 (upF fq_10 4 x_8))) a_1 20 4 = some x_26 ∧
          ∃ a_27 : Nat, x_26 = some a_27 ∧
          ∃ (fi_28 : Nat → Int) (fq_29 : Nat → Option Nat), (hs μ32 a_4 (hO 20 fi_9 (upF fq_10 4 x_8))) a_27 = some (hO 20 fi_28 fq_29) ∧ 
          J85 (hs (hs μ32 a_4 (hO 20 fi_9 (upF fq_10 4 x_8))) a_27 (hO 20 fi_28 (upF fq_29 3 (some a_4))))))))) ∧
    ((x_7 = none →
      J32 (hs μ a_1 (hO 20 fi_5 (upF fq_6 2 x_3)))) ∧
    (∀ a_30 : Nat, x_7 = some a_30 →
      ∃ x_31 : Option Nat, gQ (hs μ a_1 (hO 20 fi_5 (upF fq_6 2 x_3))) a_4 20 3 = some x_31 ∧
      ∃ a_32 : Nat, x_31 = some a_32 ∧
      ∃ (fi_33 : Nat → Int) (fq_34 : Nat → Option Nat), (hs μ a_1 (hO 20 fi_5 (upF fq_6 2 x_3))) a_32 = some (hO 20 fi_33 fq_34) ∧ 
      J32 (hs (hs μ a_1 (hO 20 fi_5 (upF fq_6 2 x_3))) a_32 (hO 20 fi_33 (upF fq_34 4 (some a_1))))))))
set_option maxHeartbeats 4000000 in
theorem tm_J4_rotateRight {G : g_G} {l : Launch} {μ : HM} {b : Nat} {o1 : Option Nat} {P : HM → Prop} (h : wc_J4_rotateRight (g_ad G) μ b o1 P) : CM G l yJ4_rotateRight cJ4_rotateRight 3 (Option.none : Option Jvm.ClassFile.FieldType) 0 0 0 [.ref b, va_rf o1] μ (hR0 P) := by
  unfold wc_J4_rotateRight at h
  refine wm_of (lvs := [(0, va_rf (some b)), (1, va_rf o1)]) (by decide) (by simp [lg_sl, rf_cat, vI_cat, vL_cat, ref_cat]) (by simp [lv_args, rf_cat, vI_cat, vL_cat, ref_cat, rf_some]) (fun fr ws hM1 => ?_)
  show WW G l cJ4_rotateRight RJ4 3 (Option.none : Option Jvm.ClassFile.FieldType) "rotateRight" 0 0 0 (hMR G (hR0 P)) (fun u => [u.1, fr]) 0 0 [ws, fr] 0 [(0, va_rf (some b)), (1, va_rf o1)] []
  refine ww_aloadQ_n dJ4_rotateRight_0 1 rfl ?_
  refine ww_ifnullQ (tgt := 95) dJ4_rotateRight_1 (by decide) (fun c => ?_) (fun a_1 c => ?_)
  · replace h := h.1 c
    subst c
    exact ww_vret (ws, μ) rfl ⟨hM1, ⟨rfl, h⟩⟩ rfl (Nat.le_refl _) (Nat.le_refl _) dJ4_rotateRight_95
  · replace h := h.2 a_1 c
    subst c
    refine ww_aloadQ_n dJ4_rotateRight_4 1 rfl ?_
    obtain ⟨x_2, hx, h⟩ := h
    refine wm_getQ hM1 rfl in_J22 (ci := 20) rfl (by decide) 2 (Nat.le_of_ble_eq_true rfl) hx (fun _ _ => rfl) q1262 (fun _ _ h => h) dJ4_rotateRight_5 ?_
    refine ww_astoreQ_n (i := 2) (lv2 := [(2, va_rf x_2), (0, va_rf (some b)), (1, va_rf (some a_1))]) dJ4_rotateRight_8 rfl (Nat.le_of_ble_eq_true rfl) rfl ?_
    refine ww_aloadQ_n dJ4_rotateRight_9 2 rfl ?_
    refine ww_aloadQ_n dJ4_rotateRight_10 0 rfl ?_
    obtain ⟨a_4, ea_4, h⟩ := h
    subst ea_4
    obtain ⟨x_3, hx, h⟩ := h
    refine wm_getQ hM1 rfl in_J22 (ci := 20) rfl (by decide) 3 (Nat.le_of_ble_eq_true rfl) hx (fun _ _ => rfl) q1263 (fun _ _ h => h) dJ4_rotateRight_11 ?_
    obtain ⟨fi_5, fq_6, hc, h⟩ := h
    refine wm_putQ hM1 rfl in_J22 tyJ22_ok nmJ22 (ci := 20) rfl 2 (Nat.le_of_ble_eq_true rfl) hc (fun _ _ => rfl) (fun _ _ => Nat.le_of_ble_eq_true rfl) q1262 (fun _ _ h => h) rfl (narrow_rf rfl _) (fits_rf rfl _) dJ4_rotateRight_14 (fun ws hM2 => ?_)
    refine ww_aloadQ_n dJ4_rotateRight_17 0 rfl ?_
    obtain ⟨x_7, hx, h⟩ := h
    refine wm_getQ hM2 rfl in_J22 (ci := 20) rfl (by decide) 3 (Nat.le_of_ble_eq_true rfl) hx (fun _ _ => rfl) q1263 (fun _ _ h => h) dJ4_rotateRight_18 ?_
    obtain ⟨J32, hJ32, h⟩ := h
    have kJ32 : ∀ (μ32 : HM), J32 μ32 → ∀ ws : va_W, Mrep G ws μ32 → WW G l cJ4_rotateRight RJ4 3 (Option.none : Option Jvm.ClassFile.FieldType) "rotateRight" 0 0 0 (hMR G (hR0 P)) (fun u => [u.1, fr]) 0 0 [ws, fr] 32 [(0, va_rf (some b)), (1, va_rf (some a_1)), (2, va_rf (some a_4))] [] := by
      clear h
      intro μ32 hj ws hM3
      have h := hJ32 μ32 hj
      refine ww_aloadQ_n dJ4_rotateRight_32 2 rfl ?_
      refine ww_aloadQ_n dJ4_rotateRight_33 1 rfl ?_
      obtain ⟨x_8, hx, h⟩ := h
      refine wm_getQ hM3 rfl in_J22 (ci := 20) rfl (by decide) 4 (Nat.le_of_ble_eq_true rfl) hx (fun _ _ => rfl) q1265 (fun _ _ h => h) dJ4_rotateRight_34 ?_
      obtain ⟨fi_9, fq_10, hc, h⟩ := h
      refine wm_putQ hM3 rfl in_J22 tyJ22_ok nmJ22 (ci := 20) rfl 4 (Nat.le_of_ble_eq_true rfl) hc (fun _ _ => rfl) (fun _ _ => Nat.le_of_ble_eq_true rfl) q1265 (fun _ _ h => h) rfl (narrow_rf rfl _) (fits_rf rfl _) dJ4_rotateRight_37 (fun ws hM4 => ?_)
      refine ww_aloadQ_n dJ4_rotateRight_40 1 rfl ?_
      obtain ⟨x_11, hx, h⟩ := h
      refine wm_getQ hM4 rfl in_J22 (ci := 20) rfl (by decide) 4 (Nat.le_of_ble_eq_true rfl) hx (fun _ _ => rfl) q1265 (fun _ _ h => h) dJ4_rotateRight_41 ?_
      obtain ⟨J85, hJ85, h⟩ := h
      have kJ85 : ∀ (μ85 : HM), J85 μ85 → ∀ ws : va_W, Mrep G ws μ85 → WW G l cJ4_rotateRight RJ4 3 (Option.none : Option Jvm.ClassFile.FieldType) "rotateRight" 0 0 0 (hMR G (hR0 P)) (fun u => [u.1, fr]) 0 0 [ws, fr] 85 [(1, va_rf (some a_1)), (2, va_rf (some a_4))] [] := by
        clear h
        intro μ85 hj ws hM5
        have h := hJ85 μ85 hj
        refine ww_aloadQ_n dJ4_rotateRight_85 1 rfl ?_
        refine ww_aloadQ_n dJ4_rotateRight_86 0 rfl ?_
        obtain ⟨fi_12, fq_13, hc, h⟩ := h
        refine wm_putQ hM5 rfl in_J22 tyJ22_ok nmJ22 (ci := 20) rfl 3 (Nat.le_of_ble_eq_true rfl) hc (fun _ _ => rfl) (fun _ _ => Nat.le_of_ble_eq_true rfl) q1263 (fun _ _ h => h) rfl (narrow_rf rfl _) (fits_rf rfl _) dJ4_rotateRight_87 (fun ws hM6 => ?_)
        refine ww_aloadQ_n dJ4_rotateRight_90 0 rfl ?_
        refine ww_aloadQ_n dJ4_rotateRight_91 1 rfl ?_
        obtain ⟨fi_14, fq_15, hc, h⟩ := h
        refine wm_putQ hM6 rfl in_J22 tyJ22_ok nmJ22 (ci := 20) rfl 4 (Nat.le_of_ble_eq_true rfl) hc (fun _ _ => rfl) (fun _ _ => Nat.le_of_ble_eq_true rfl) q1265 (fun _ _ h => h) rfl (narrow_rf rfl _) (fits_rf rfl _) dJ4_rotateRight_92 (fun ws hM7 => ?_)
        exact ww_vret (ws, (hs (hs μ85 a_4 (hO 20 fi_12 (upF fq_13 3 (some a_1)))) a_1 (hO 20 fi_14 (upF fq_15 4 (some a_4))))) rfl ⟨hM7, ⟨rfl, h⟩⟩ rfl (Nat.le_refl _) (Nat.le_refl _) dJ4_rotateRight_95
      refine ww_ifnonnullQ (tgt := 55) dJ4_rotateRight_44 (by decide) (fun a_16 c => ?_) (fun c => ?_)
      · replace h := h.2 a_16 c
        subst c
        refine ww_aloadQ_n dJ4_rotateRight_55 1 rfl ?_
        obtain ⟨x_19, hx, h⟩ := h
        refine wm_getQ hM4 rfl in_J22 (ci := 20) rfl (by decide) 4 (Nat.le_of_ble_eq_true rfl) hx (fun _ _ => rfl) q1265 (fun _ _ h => h) dJ4_rotateRight_56 ?_
        obtain ⟨a_21, ea_21, h⟩ := h
        subst ea_21
        obtain ⟨x_20, hx, h⟩ := h
        refine wm_getQ hM4 rfl in_J22 (ci := 20) rfl (by decide) 3 (Nat.le_of_ble_eq_true rfl) hx (fun _ _ => rfl) q1263 (fun _ _ h => h) dJ4_rotateRight_59 ?_
        refine ww_aloadQ_n dJ4_rotateRight_62 1 rfl ?_
        refine ww_acmp_ne (tgt := 77) dJ4_rotateRight_63 (by decide) (fun c => ?_) (fun c => ?_)
        · replace h := h.1 c
          refine ww_aloadQ_n dJ4_rotateRight_77 1 rfl ?_
          obtain ⟨x_22, hx, h⟩ := h
          refine wm_getQ hM4 rfl in_J22 (ci := 20) rfl (by decide) 4 (Nat.le_of_ble_eq_true rfl) hx (fun _ _ => rfl) q1265 (fun _ _ h => h) dJ4_rotateRight_78 ?_
          refine ww_aloadQ_n dJ4_rotateRight_81 2 rfl ?_
          obtain ⟨a_23, ea_23, h⟩ := h
          subst ea_23
          obtain ⟨fi_24, fq_25, hc, h⟩ := h
          refine wm_putQ hM4 rfl in_J22 tyJ22_ok nmJ22 (ci := 20) rfl 2 (Nat.le_of_ble_eq_true rfl) hc (fun _ _ => rfl) (fun _ _ => Nat.le_of_ble_eq_true rfl) q1262 (fun _ _ h => h) rfl (narrow_rf rfl _) (fits_rf rfl _) dJ4_rotateRight_82 (fun ws hM8 => ?_)
          refine ww_lv [1, 2] rfl ?_
          exact kJ85 _ h _ hM8
        · replace h := h.2 c
          refine ww_aloadQ_n dJ4_rotateRight_66 1 rfl ?_
          obtain ⟨x_26, hx, h⟩ := h
          refine wm_getQ hM4 rfl in_J22 (ci := 20) rfl (by decide) 4 (Nat.le_of_ble_eq_true rfl) hx (fun _ _ => rfl) q1265 (fun _ _ h => h) dJ4_rotateRight_67 ?_
          refine ww_aloadQ_n dJ4_rotateRight_70 2 rfl ?_
          obtain ⟨a_27, ea_27, h⟩ := h
          subst ea_27
          obtain ⟨fi_28, fq_29, hc, h⟩ := h
          refine wm_putQ hM4 rfl in_J22 tyJ22_ok nmJ22 (ci := 20) rfl 3 (Nat.le_of_ble_eq_true rfl) hc (fun _ _ => rfl) (fun _ _ => Nat.le_of_ble_eq_true rfl) q1263 (fun _ _ h => h) rfl (narrow_rf rfl _) (fits_rf rfl _) dJ4_rotateRight_71 (fun ws hM9 => ?_)
          refine ww_goto (tgt := 85) dJ4_rotateRight_74 (by decide) ?_
          refine ww_lv [1, 2] rfl ?_
          exact kJ85 _ h _ hM9
      · replace h := h.1 c
        subst c
        refine ww_aloadQ_n dJ4_rotateRight_47 0 rfl ?_
        refine ww_aloadQ_n dJ4_rotateRight_48 2 rfl ?_
        obtain ⟨fi_17, fq_18, hc, h⟩ := h
        refine wm_putQ hM4 rfl in_J4 tyJ4_ok nmJ4 (ci := 19) rfl 3 (Nat.le_of_ble_eq_true rfl) hc (fun _ _ => rfl) (fun _ _ => Nat.le_of_ble_eq_true rfl) q224 (fun _ _ h => h) rfl (narrow_rf rfl _) (fits_rf rfl _) dJ4_rotateRight_49 (fun ws hM10 => ?_)
        refine ww_goto (tgt := 85) dJ4_rotateRight_52 (by decide) ?_
        refine ww_lv [1, 2] rfl ?_
        exact kJ85 _ h _ hM10
    refine ww_ifnullQ (tgt := 32) dJ4_rotateRight_21 (by decide) (fun c => ?_) (fun a_30 c => ?_)
    · replace h := h.1 c
      subst c
      refine ww_lv [1, 2, 0] rfl ?_
      exact kJ32 _ h _ hM2
    · replace h := h.2 a_30 c
      subst c
      refine ww_aloadQ_n dJ4_rotateRight_24 0 rfl ?_
      obtain ⟨x_31, hx, h⟩ := h
      refine wm_getQ hM2 rfl in_J22 (ci := 20) rfl (by decide) 3 (Nat.le_of_ble_eq_true rfl) hx (fun _ _ => rfl) q1263 (fun _ _ h => h) dJ4_rotateRight_25 ?_
      refine ww_aloadQ_n dJ4_rotateRight_28 2 rfl ?_
      obtain ⟨a_32, ea_32, h⟩ := h
      subst ea_32
      obtain ⟨fi_33, fq_34, hc, h⟩ := h
      refine wm_putQ hM2 rfl in_J22 tyJ22_ok nmJ22 (ci := 20) rfl 4 (Nat.le_of_ble_eq_true rfl) hc (fun _ _ => rfl) (fun _ _ => Nat.le_of_ble_eq_true rfl) q1265 (fun _ _ h => h) rfl (narrow_rf rfl _) (fits_rf rfl _) dJ4_rotateRight_29 (fun ws hM11 => ?_)
      refine ww_lv [1, 2, 0] rfl ?_
      exact kJ32 _ h _ hM11
/-! J4_setColor: java/util/TreeMap setColor (Ljava/util/TreeMap$Entry;Z)V; flags (True, False, False), depth 0 -/
def wc_J4_setColor (ad : Nat → Nat) (μ : HM) (o1 : Option Nat) (a2 : Int) (P : HM → Prop) : Prop :=
  ((o1 = none →
    P μ) ∧
  (∀ a_1 : Nat, o1 = some a_1 →
    ∃ (fi_2 : Nat → Int) (fq_3 : Nat → Option Nat), μ a_1 = some (hO 20 fi_2 fq_3) ∧ (a2 = 0 ∨ a2 = 1) ∧ 
    P (hs μ a_1 (hO 20 (upF fi_2 5 a2) fq_3))))
set_option maxHeartbeats 4000000 in
theorem tm_J4_setColor {G : g_G} {l : Launch} {μ : HM} {o1 : Option Nat} {a2 : Int} {P : HM → Prop} (h : wc_J4_setColor (g_ad G) μ o1 a2 P) : CM G l yJ4_setColor cJ4_setColor 2 (Option.none : Option Jvm.ClassFile.FieldType) 0 0 0 [va_rf o1, vI a2] μ (hR0 P) := by
  unfold wc_J4_setColor at h
  refine wm_of (lvs := [(0, va_rf o1), (1, vI a2)]) (by decide) (by simp [lg_sl, rf_cat, vI_cat, vL_cat, ref_cat]) (by simp [lv_args, rf_cat, vI_cat, vL_cat, ref_cat, rf_some]) (fun fr ws hM1 => ?_)
  show WW G l cJ4_setColor RJ4 2 (Option.none : Option Jvm.ClassFile.FieldType) "setColor" 0 0 0 (hMR G (hR0 P)) (fun u => [u.1, fr]) 0 0 [ws, fr] 0 [(0, va_rf o1), (1, vI a2)] []
  refine ww_aloadQ_n dJ4_setColor_0 0 rfl ?_
  refine ww_ifnullQ (tgt := 9) dJ4_setColor_1 (by decide) (fun c => ?_) (fun a_1 c => ?_)
  · replace h := h.1 c
    subst c
    exact ww_vret (ws, μ) rfl ⟨hM1, ⟨rfl, h⟩⟩ rfl (Nat.le_refl _) (Nat.le_refl _) dJ4_setColor_9
  · replace h := h.2 a_1 c
    subst c
    refine ww_aloadQ_n dJ4_setColor_4 0 rfl ?_
    refine ww_iload_n dJ4_setColor_5 1 rfl ?_
    obtain ⟨fi_2, fq_3, hc, hz, h⟩ := h
    refine wm_putI hM1 rfl in_J22 tyJ22_ok nmJ22 (ci := 20) rfl 5 (Nat.le_of_ble_eq_true rfl) hc (fun _ _ => rfl) (fun _ _ => Nat.le_of_ble_eq_true rfl) q1267 (fun _ _ h => h) rfl (narrow_z hz) (fits_z hz) dJ4_setColor_6 (fun ws hM2 => ?_)
    exact ww_vret (ws, (hs μ a_1 (hO 20 (upF fi_2 5 a2) fq_3))) rfl ⟨hM2, ⟨rfl, h⟩⟩ rfl (Nat.le_refl _) (Nat.le_refl _) dJ4_setColor_9
/-! J4_fixAfterInsertion: java/util/TreeMap fixAfterInsertion (Ljava/util/TreeMap$Entry;)V; flags (True, False, False), depth 1 -/
def wc_J4_fixAfterInsertion (ad : Nat → Nat) (μ : HM) (b : Nat) (o1 : Option Nat) (P : HM → Prop) : Prop :=
  ∃ a_1 : Nat, o1 = some a_1 ∧
  ∃ (fi_2 : Nat → Int) (fq_3 : Nat → Option Nat), μ a_1 = some (hO 20 fi_2 fq_3) ∧ 
  ∃ I5 : Nat → Option Nat → HM → Prop, (∀ (n5 : Nat) (v1_5 : Option Nat) (μ5 : HM), I5 n5 v1_5 μ5 →
    ∃ J258 : Prop, (J258 →
      ∃ x_4 : Option Nat, gQ μ5 b 19 3 = some x_4 ∧
      ∃ a_5 : Nat, x_4 = some a_5 ∧
      ∃ (fi_6 : Nat → Int) (fq_7 : Nat → Option Nat), μ5 a_5 = some (hO 20 fi_6 fq_7) ∧ 
      P (hs μ5 a_5 (hO 20 (upF fi_6 5 1) fq_7))) ∧
    ((v1_5 = none →
      J258) ∧
    (∀ a_8 : Nat, v1_5 = some a_8 →
      ∃ x_9 : Option Nat, gQ μ5 b 19 3 = some x_9 ∧
      ((((some a_8) : Option Nat) = x_9 →
        J258) ∧
      (¬ ((some a_8) : Option Nat) = x_9 →
        ∃ x_10 : Option Nat, gQ μ5 a_8 20 4 = some x_10 ∧
        ∃ a_12 : Nat, x_10 = some a_12 ∧
        ∃ x_11 : Int, gI μ5 a_12 20 5 = some x_11 ∧
        rI x_11 ∧
        ((¬ x_11 = 0 →
          J258) ∧
        (x_11 = 0 →
          wc_J4_parentOf ad μ5 (some a_8) (fun y_14 =>
            wc_J4_parentOf ad μ5 (some a_8) (fun y_16 =>
              wc_J4_parentOf ad μ5 y_16 (fun y_18 =>
                wc_J4_leftOf ad μ5 y_18 (fun y_20 =>
                  ((¬ (y_14 : Option Nat) = y_20 →
                    wc_J4_parentOf ad μ5 (some a_8) (fun y_22 =>
                      wc_J4_parentOf ad μ5 y_22 (fun y_24 =>
                        wc_J4_leftOf ad μ5 y_24 (fun y_26 =>
                          wc_J4_colorOf ad μ5 y_26 (fun y_28 =>
                            ∃ J255 : Option Nat → HM → Prop, (∀ (v1_255 : Option Nat) (μ255 : HM), J255 v1_255 μ255 →
                              ∃ m : Nat, m < n5 ∧ I5 m v1_255 μ255) ∧
                            ((¬ y_28 = 0 →
                              wc_J4_parentOf ad μ5 (some a_8) (fun y_30 =>
                                wc_J4_leftOf ad μ5 y_30 (fun y_32 =>
                                  ∃ J225 : Option Nat → HM → Prop, (∀ (v1_225 : Option Nat) (μ225 : HM), J225 v1_225 μ225 →
                                    wc_J4_parentOf ad μ225 v1_225 (fun y_34 =>
                                      wc_J4_setColor ad μ225 y_34 1 (fun μ_36 =>
                                        wc_J4_parentOf ad μ_36 v1_225 (fun y_37 =>
                                          wc_J4_parentOf ad μ_36 y_37 (fun y_39 =>
                                            wc_J4_setColor ad μ_36 y_39 0 (fun μ_41 =>
                                              wc_J4_parentOf ad μ_41 v1_225 (fun y_42 =>
                                                wc_J4_parentOf ad μ_41 y_42 (fun y_44 =>
                                                  gC μ_41 b = some 19 ∧
                                                  wc_J4_rotateLeft ad μ_41 b y_44 (fun μ_46 =>
                                                    J255 v1_225 μ_46))))))))) ∧
                                  ((¬ ((some a_8) : Option Nat) = y_32 →
                                    J225 (some a_8) μ5) ∧
                                  (((some a_8) : Option Nat) = y_32 →
                                    wc_J4_parentOf ad μ5 (some a_8) (fun y_47 =>
                                      gC μ5 b = some 19 ∧
                                      wc_J4_rotateRight ad μ5 b y_47 (fun μ_49 =>
                                        J225 y_47 μ_49))))))) ∧
                            (y_28 = 0 →
                              wc_J4_parentOf ad μ5 (some a_8) (fun y_50 =>
                                wc_J4_setColor ad μ5 y_50 1 (fun μ_52 =>
                                  wc_J4_setColor ad μ_52 y_26 1 (fun μ_53 =>
                                    wc_J4_parentOf ad μ_53 (some a_8) (fun y_54 =>
                                      wc_J4_parentOf ad μ_53 y_54 (fun y_56 =>
                                        wc_J4_setColor ad μ_53 y_56 0 (fun μ_58 =>
                                          wc_J4_parentOf ad μ_58 (some a_8) (fun y_59 =>
                                            wc_J4_parentOf ad μ_58 y_59 (fun y_61 =>
                                              J255 y_61 μ_58))))))))))))))) ∧
                  ((y_14 : Option Nat) = y_20 →
                    wc_J4_parentOf ad μ5 (some a_8) (fun y_63 =>
                      wc_J4_parentOf ad μ5 y_63 (fun y_65 =>
                        wc_J4_rightOf ad μ5 y_65 (fun y_67 =>
                          wc_J4_colorOf ad μ5 y_67 (fun y_69 =>
                            ∃ J148 : Option Nat → HM → Prop, (∀ (v1_148 : Option Nat) (μ148 : HM), J148 v1_148 μ148 →
                              ∃ m : Nat, m < n5 ∧ I5 m v1_148 μ148) ∧
                            ((¬ y_69 = 0 →
                              wc_J4_parentOf ad μ5 (some a_8) (fun y_71 =>
                                wc_J4_rightOf ad μ5 y_71 (fun y_73 =>
                                  ∃ J118 : Option Nat → HM → Prop, (∀ (v1_118 : Option Nat) (μ118 : HM), J118 v1_118 μ118 →
                                    wc_J4_parentOf ad μ118 v1_118 (fun y_75 =>
                                      wc_J4_setColor ad μ118 y_75 1 (fun μ_77 =>
                                        wc_J4_parentOf ad μ_77 v1_118 (fun y_78 =>
                                          wc_J4_parentOf ad μ_77 y_78 (fun y_80 =>
                                            wc_J4_setColor ad μ_77 y_80 0 (fun μ_82 =>
                                              wc_J4_parentOf ad μ_82 v1_118 (fun y_83 =>
                                                wc_J4_parentOf ad μ_82 y_83 (fun y_85 =>
                                                  gC μ_82 b = some 19 ∧
                                                  wc_J4_rotateRight ad μ_82 b y_85 (fun μ_87 =>
                                                    J148 v1_118 μ_87))))))))) ∧
                                  ((¬ ((some a_8) : Option Nat) = y_73 →
                                    J118 (some a_8) μ5) ∧
                                  (((some a_8) : Option Nat) = y_73 →
                                    wc_J4_parentOf ad μ5 (some a_8) (fun y_88 =>
                                      gC μ5 b = some 19 ∧
                                      wc_J4_rotateLeft ad μ5 b y_88 (fun μ_90 =>
                                        J118 y_88 μ_90))))))) ∧
                            (y_69 = 0 →
                              wc_J4_parentOf ad μ5 (some a_8) (fun y_91 =>
                                wc_J4_setColor ad μ5 y_91 1 (fun μ_93 =>
                                  wc_J4_setColor ad μ_93 y_67 1 (fun μ_94 =>
                                    wc_J4_parentOf ad μ_94 (some a_8) (fun y_95 =>
                                      wc_J4_parentOf ad μ_94 y_95 (fun y_97 =>
                                        wc_J4_setColor ad μ_94 y_97 0 (fun μ_99 =>
                                          wc_J4_parentOf ad μ_99 (some a_8) (fun y_100 =>
                                            wc_J4_parentOf ad μ_99 y_100 (fun y_102 =>
                                              J148 y_102 μ_99))))))))))))))))))))))))))) ∧
  ∃ m : Nat, I5 m (some a_1) (hs μ a_1 (hO 20 (upF fi_2 5 0) fq_3))
set_option maxHeartbeats 4000000 in
theorem tm_J4_fixAfterInsertion {G : g_G} {l : Launch} {μ : HM} {b : Nat} {o1 : Option Nat} {P : HM → Prop} (h : wc_J4_fixAfterInsertion (g_ad G) μ b o1 P) : CM G l yJ4_fixAfterInsertion cJ4_fixAfterInsertion 3 (Option.none : Option Jvm.ClassFile.FieldType) 1 0 0 [.ref b, va_rf o1] μ (hR0 P) := by
  unfold wc_J4_fixAfterInsertion at h
  refine wm_of (lvs := [(0, va_rf (some b)), (1, va_rf o1)]) (by decide) (by simp [lg_sl, rf_cat, vI_cat, vL_cat, ref_cat]) (by simp [lv_args, rf_cat, vI_cat, vL_cat, ref_cat, rf_some]) (fun fr ws hM1 => ?_)
  show WW G l cJ4_fixAfterInsertion RJ4 3 (Option.none : Option Jvm.ClassFile.FieldType) "fixAfterInsertion" 1 0 0 (hMR G (hR0 P)) (fun u => [u.1, fr]) 0 0 [ws, fr] 0 [(0, va_rf (some b)), (1, va_rf o1)] []
  refine ww_aloadQ_n dJ4_fixAfterInsertion_0 1 rfl ?_
  refine ww_iconst dJ4_fixAfterInsertion_1 ?_
  obtain ⟨a_1, ea_1, h⟩ := h
  subst ea_1
  obtain ⟨fi_2, fq_3, hc, h⟩ := h
  refine wm_putI hM1 rfl in_J22 tyJ22_ok nmJ22 (ci := 20) rfl 5 (Nat.le_of_ble_eq_true rfl) hc (fun _ _ => rfl) (fun _ _ => Nat.le_of_ble_eq_true rfl) q1267 (fun _ _ h => h) rfl rfl rfl dJ4_fixAfterInsertion_2 (fun ws hM2 => ?_)
  obtain ⟨I5, hI5, h⟩ := h
  have kI5 : ∀ (n5 : Nat), ∀ (v1_5 : Option Nat), ∀ (μ5 : HM), I5 n5 v1_5 μ5 → ∀ ws : va_W, Mrep G ws μ5 → WW G l cJ4_fixAfterInsertion RJ4 3 (Option.none : Option Jvm.ClassFile.FieldType) "fixAfterInsertion" 1 0 0 (hMR G (hR0 P)) (fun u => [u.1, fr]) 0 0 [ws, fr] 5 [(0, va_rf (some b)), (1, va_rf v1_5)] [] := by
    clear h
    intro n5
    induction n5 using Nat.strongRecOn with
    | ind n5 ih5 =>
      intro v1_5 μ5 hj ws hM3
      have h := hI5 n5 v1_5 μ5 hj
      refine ww_aloadQ_n dJ4_fixAfterInsertion_5 1 rfl ?_
      obtain ⟨J258, hJ258, h⟩ := h
      have kJ258 : J258 → ∀ ws : va_W, Mrep G ws μ5 → WW G l cJ4_fixAfterInsertion RJ4 3 (Option.none : Option Jvm.ClassFile.FieldType) "fixAfterInsertion" 1 0 0 (hMR G (hR0 P)) (fun u => [u.1, fr]) 0 0 [ws, fr] 258 [(0, va_rf (some b))] [] := by
        clear h
        intro hj ws hM4
        have h := hJ258 hj
        refine ww_aloadQ_n dJ4_fixAfterInsertion_258 0 rfl ?_
        obtain ⟨x_4, hx, h⟩ := h
        refine wm_getQ hM4 rfl in_J4 (ci := 19) rfl (by decide) 3 (Nat.le_of_ble_eq_true rfl) hx (fun _ _ => rfl) q224 (fun _ _ h => h) dJ4_fixAfterInsertion_259 ?_
        refine ww_iconst dJ4_fixAfterInsertion_262 ?_
        obtain ⟨a_5, ea_5, h⟩ := h
        subst ea_5
        obtain ⟨fi_6, fq_7, hc, h⟩ := h
        refine wm_putI hM4 rfl in_J22 tyJ22_ok nmJ22 (ci := 20) rfl 5 (Nat.le_of_ble_eq_true rfl) hc (fun _ _ => rfl) (fun _ _ => Nat.le_of_ble_eq_true rfl) q1267 (fun _ _ h => h) rfl rfl rfl dJ4_fixAfterInsertion_263 (fun ws hM5 => ?_)
        exact ww_vret (ws, (hs μ5 a_5 (hO 20 (upF fi_6 5 1) fq_7))) rfl ⟨hM5, ⟨rfl, h⟩⟩ rfl (Nat.le_refl _) (Nat.le_refl _) dJ4_fixAfterInsertion_266
      refine ww_ifnullQ (tgt := 258) dJ4_fixAfterInsertion_6 (by decide) (fun c => ?_) (fun a_8 c => ?_)
      · replace h := h.1 c
        subst c
        refine ww_lv [0] rfl ?_
        exact kJ258 h _ hM3
      · replace h := h.2 a_8 c
        subst c
        refine ww_aloadQ_n dJ4_fixAfterInsertion_9 1 rfl ?_
        refine ww_aloadQ_n dJ4_fixAfterInsertion_10 0 rfl ?_
        obtain ⟨x_9, hx, h⟩ := h
        refine wm_getQ hM3 rfl in_J4 (ci := 19) rfl (by decide) 3 (Nat.le_of_ble_eq_true rfl) hx (fun _ _ => rfl) q224 (fun _ _ h => h) dJ4_fixAfterInsertion_11 ?_
        refine ww_acmp_eq (tgt := 258) dJ4_fixAfterInsertion_14 (by decide) (fun c => ?_) (fun c => ?_)
        · replace h := h.1 c
          refine ww_lv [0] rfl ?_
          exact kJ258 h _ hM3
        · replace h := h.2 c
          refine ww_aloadQ_n dJ4_fixAfterInsertion_17 1 rfl ?_
          obtain ⟨x_10, hx, h⟩ := h
          refine wm_getQ hM3 rfl in_J22 (ci := 20) rfl (by decide) 4 (Nat.le_of_ble_eq_true rfl) hx (fun _ _ => rfl) q1265 (fun _ _ h => h) dJ4_fixAfterInsertion_18 ?_
          obtain ⟨a_12, ea_12, h⟩ := h
          subst ea_12
          obtain ⟨x_11, hx, h⟩ := h
          refine wm_getI hM3 rfl in_J22 (ci := 20) rfl (by decide) 5 (Nat.le_of_ble_eq_true rfl) hx (fun _ _ => rfl) q1267 (fun _ _ h => h) dJ4_fixAfterInsertion_21 ?_
          obtain ⟨r_13, h⟩ := h
          refine ww_if_ne (tgt := 258) dJ4_fixAfterInsertion_24 (by decide) r_13 (fun c => ?_) (fun c => ?_)
          · replace h := h.1 c
            refine ww_lv [0] rfl ?_
            exact kJ258 h _ hM3
          · replace h := h.2 c
            refine ww_aloadQ_n dJ4_fixAfterInsertion_27 1 rfl ?_
            refine wm_callS (n := 1) hM3 (tm_J4_parentOf h) (lw_S q1289 q1290 q115 q1291) ⟨by decide, by decide, by decide +kernel⟩ rfl ⟨Nat.le_of_ble_eq_true rfl, Nat.le_of_ble_eq_true rfl⟩ rfl (Nat.le_of_ble_eq_true rfl) dJ4_fixAfterInsertion_28 ⟨Nat.le_refl _, Nat.le_refl _⟩ ?_
            clear h
            rintro _ _ ws ⟨rfl, y_14, rfl, h⟩ hM6
            refine ww_st1 ?_
            refine ww_aloadQ_n dJ4_fixAfterInsertion_31 1 rfl ?_
            refine wm_callS (n := 1) hM6 (tm_J4_parentOf h) (lw_S q1289 q1290 q115 q1291) ⟨by decide, by decide, by decide +kernel⟩ rfl ⟨Nat.le_of_ble_eq_true rfl, Nat.le_of_ble_eq_true rfl⟩ rfl (by simp only [List.map_cons, List.map_nil, rf_cat, vI_cat, vL_cat, List.sum_cons, List.sum_nil]; decide) dJ4_fixAfterInsertion_32 ⟨Nat.le_refl _, Nat.le_refl _⟩ ?_
            clear h
            rintro _ _ ws ⟨rfl, y_16, rfl, h⟩ hM7
            refine ww_st1 ?_
            refine wm_callS (n := 1) hM7 (tm_J4_parentOf h) (lw_S q1289 q1290 q115 q1291) ⟨by decide, by decide, by decide +kernel⟩ rfl ⟨Nat.le_of_ble_eq_true rfl, Nat.le_of_ble_eq_true rfl⟩ rfl (by simp only [List.map_cons, List.map_nil, rf_cat, vI_cat, vL_cat, List.sum_cons, List.sum_nil]; decide) dJ4_fixAfterInsertion_35 ⟨Nat.le_refl _, Nat.le_refl _⟩ ?_
            clear h
            rintro _ _ ws ⟨rfl, y_18, rfl, h⟩ hM8
            refine ww_st1 ?_
            refine wm_callS (n := 1) hM8 (tm_J4_leftOf h) (lw_S q1292 q1293 q115 q1294) ⟨by decide, by decide, by decide +kernel⟩ rfl ⟨Nat.le_of_ble_eq_true rfl, Nat.le_of_ble_eq_true rfl⟩ rfl (by simp only [List.map_cons, List.map_nil, rf_cat, vI_cat, vL_cat, List.sum_cons, List.sum_nil]; decide) dJ4_fixAfterInsertion_38 ⟨Nat.le_refl _, Nat.le_refl _⟩ ?_
            clear h
            rintro _ _ ws ⟨rfl, y_20, rfl, h⟩ hM9
            refine ww_st1 ?_
            refine ww_acmp_ne (tgt := 151) dJ4_fixAfterInsertion_41 (by decide) (fun c => ?_) (fun c => ?_)
            · replace h := h.1 c
              refine ww_aloadQ_n dJ4_fixAfterInsertion_151 1 rfl ?_
              refine wm_callS (n := 1) hM9 (tm_J4_parentOf h) (lw_S q1289 q1290 q115 q1291) ⟨by decide, by decide, by decide +kernel⟩ rfl ⟨Nat.le_of_ble_eq_true rfl, Nat.le_of_ble_eq_true rfl⟩ rfl (Nat.le_of_ble_eq_true rfl) dJ4_fixAfterInsertion_152 ⟨Nat.le_refl _, Nat.le_refl _⟩ ?_
              clear h
              rintro _ _ ws ⟨rfl, y_22, rfl, h⟩ hM10
              refine ww_st1 ?_
              refine wm_callS (n := 1) hM10 (tm_J4_parentOf h) (lw_S q1289 q1290 q115 q1291) ⟨by decide, by decide, by decide +kernel⟩ rfl ⟨Nat.le_of_ble_eq_true rfl, Nat.le_of_ble_eq_true rfl⟩ rfl (Nat.le_of_ble_eq_true rfl) dJ4_fixAfterInsertion_155 ⟨Nat.le_refl _, Nat.le_refl _⟩ ?_
              clear h
              rintro _ _ ws ⟨rfl, y_24, rfl, h⟩ hM11
              refine ww_st1 ?_
              refine wm_callS (n := 1) hM11 (tm_J4_leftOf h) (lw_S q1292 q1293 q115 q1294) ⟨by decide, by decide, by decide +kernel⟩ rfl ⟨Nat.le_of_ble_eq_true rfl, Nat.le_of_ble_eq_true rfl⟩ rfl (Nat.le_of_ble_eq_true rfl) dJ4_fixAfterInsertion_158 ⟨Nat.le_refl _, Nat.le_refl _⟩ ?_
              clear h
              rintro _ _ ws ⟨rfl, y_26, rfl, h⟩ hM12
              refine ww_st1 ?_
              refine ww_astoreQ_n (i := 2) (lv2 := [(2, va_rf y_26), (0, va_rf (some b)), (1, va_rf (some a_8))]) dJ4_fixAfterInsertion_161 rfl (Nat.le_of_ble_eq_true rfl) rfl ?_
              refine ww_aloadQ_n dJ4_fixAfterInsertion_162 0 rfl ?_
              refine wm_callS (n := 1) hM12 (tm_J4_colorOf h) (lw_S q1298 q1299 q115 q1300) ⟨by decide, by decide, by decide +kernel⟩ rfl ⟨Nat.le_of_ble_eq_true rfl, Nat.le_of_ble_eq_true rfl⟩ rfl (Nat.le_of_ble_eq_true rfl) dJ4_fixAfterInsertion_163 ⟨Nat.le_refl _, Nat.le_refl _⟩ ?_
              clear h
              rintro _ _ ws ⟨rfl, y_28, rfl, z_29, h⟩ hM13
              refine ww_st1 ?_
              obtain ⟨J255, hJ255, h⟩ := h
              have kJ255 : ∀ (v1_255 : Option Nat), ∀ (μ255 : HM), J255 v1_255 μ255 → ∀ ws : va_W, Mrep G ws μ255 → WW G l cJ4_fixAfterInsertion RJ4 3 (Option.none : Option Jvm.ClassFile.FieldType) "fixAfterInsertion" 1 0 0 (hMR G (hR0 P)) (fun u => [u.1, fr]) 0 0 [ws, fr] 255 [(0, va_rf (some b)), (1, va_rf v1_255)] [] := by
                clear h
                intro v1_255 μ255 hj ws hM14
                have h := hJ255 v1_255 μ255 hj
                refine ww_goto (tgt := 5) dJ4_fixAfterInsertion_255 (by decide) ?_
                obtain ⟨m, hm, h⟩ := h
                exact ih5 m hm _ _ h _ hM14
              refine ww_if_ne (tgt := 204) dJ4_fixAfterInsertion_166 (by decide) (r_z z_29) (fun c => ?_) (fun c => ?_)
              · replace h := h.1 c
                refine ww_aloadQ_n dJ4_fixAfterInsertion_204 2 rfl ?_
                refine ww_aloadQ_n dJ4_fixAfterInsertion_205 2 rfl ?_
                refine wm_callS (n := 1) hM13 (tm_J4_parentOf h) (lw_S q1289 q1290 q115 q1291) ⟨by decide, by decide, by decide +kernel⟩ rfl ⟨Nat.le_of_ble_eq_true rfl, Nat.le_of_ble_eq_true rfl⟩ rfl (by simp only [List.map_cons, List.map_nil, rf_cat, vI_cat, vL_cat, List.sum_cons, List.sum_nil]; decide) dJ4_fixAfterInsertion_206 ⟨Nat.le_refl _, Nat.le_refl _⟩ ?_
                clear h
                rintro _ _ ws ⟨rfl, y_30, rfl, h⟩ hM15
                refine ww_st1 ?_
                refine wm_callS (n := 1) hM15 (tm_J4_leftOf h) (lw_S q1292 q1293 q115 q1294) ⟨by decide, by decide, by decide +kernel⟩ rfl ⟨Nat.le_of_ble_eq_true rfl, Nat.le_of_ble_eq_true rfl⟩ rfl (by simp only [List.map_cons, List.map_nil, rf_cat, vI_cat, vL_cat, List.sum_cons, List.sum_nil]; decide) dJ4_fixAfterInsertion_209 ⟨Nat.le_refl _, Nat.le_refl _⟩ ?_
                clear h
                rintro _ _ ws ⟨rfl, y_32, rfl, h⟩ hM16
                refine ww_st1 ?_
                obtain ⟨J225, hJ225, h⟩ := h
                have kJ225 : ∀ (v1_225 : Option Nat), ∀ (μ225 : HM), J225 v1_225 μ225 → ∀ ws : va_W, Mrep G ws μ225 → WW G l cJ4_fixAfterInsertion RJ4 3 (Option.none : Option Jvm.ClassFile.FieldType) "fixAfterInsertion" 1 0 0 (hMR G (hR0 P)) (fun u => [u.1, fr]) 0 0 [ws, fr] 225 [(0, va_rf (some b)), (1, va_rf v1_225)] [] := by
                  clear h
                  intro v1_225 μ225 hj ws hM17
                  have h := hJ225 v1_225 μ225 hj
                  refine ww_aloadQ_n dJ4_fixAfterInsertion_225 1 rfl ?_
                  refine wm_callS (n := 1) hM17 (tm_J4_parentOf h) (lw_S q1289 q1290 q115 q1291) ⟨by decide, by decide, by decide +kernel⟩ rfl ⟨Nat.le_of_ble_eq_true rfl, Nat.le_of_ble_eq_true rfl⟩ rfl (Nat.le_of_ble_eq_true rfl) dJ4_fixAfterInsertion_226 ⟨Nat.le_refl _, Nat.le_refl _⟩ ?_
                  clear h
                  rintro _ _ ws ⟨rfl, y_34, rfl, h⟩ hM18
                  refine ww_st1 ?_
                  refine ww_iconst dJ4_fixAfterInsertion_229 ?_
                  refine wm_callS (n := 2) hM18 (tm_J4_setColor h) (lw_S q1301 q1302 q115 q1303) ⟨by decide, by decide, by decide +kernel⟩ rfl ⟨Nat.le_of_ble_eq_true rfl, Nat.le_of_ble_eq_true rfl⟩ rfl (Nat.le_of_ble_eq_true rfl) dJ4_fixAfterInsertion_230 ⟨Nat.le_refl _, Nat.le_refl _⟩ ?_
                  clear h
                  rintro _ μ_36 ws ⟨rfl, h⟩ hM19
                  refine ww_st0 ?_
                  refine ww_aloadQ_n dJ4_fixAfterInsertion_233 1 rfl ?_
                  refine wm_callS (n := 1) hM19 (tm_J4_parentOf h) (lw_S q1289 q1290 q115 q1291) ⟨by decide, by decide, by decide +kernel⟩ rfl ⟨Nat.le_of_ble_eq_true rfl, Nat.le_of_ble_eq_true rfl⟩ rfl (Nat.le_of_ble_eq_true rfl) dJ4_fixAfterInsertion_234 ⟨Nat.le_refl _, Nat.le_refl _⟩ ?_
                  clear h
                  rintro _ _ ws ⟨rfl, y_37, rfl, h⟩ hM20
                  refine ww_st1 ?_
                  refine wm_callS (n := 1) hM20 (tm_J4_parentOf h) (lw_S q1289 q1290 q115 q1291) ⟨by decide, by decide, by decide +kernel⟩ rfl ⟨Nat.le_of_ble_eq_true rfl, Nat.le_of_ble_eq_true rfl⟩ rfl (Nat.le_of_ble_eq_true rfl) dJ4_fixAfterInsertion_237 ⟨Nat.le_refl _, Nat.le_refl _⟩ ?_
                  clear h
                  rintro _ _ ws ⟨rfl, y_39, rfl, h⟩ hM21
                  refine ww_st1 ?_
                  refine ww_iconst dJ4_fixAfterInsertion_240 ?_
                  refine wm_callS (n := 2) hM21 (tm_J4_setColor h) (lw_S q1301 q1302 q115 q1303) ⟨by decide, by decide, by decide +kernel⟩ rfl ⟨Nat.le_of_ble_eq_true rfl, Nat.le_of_ble_eq_true rfl⟩ rfl (Nat.le_of_ble_eq_true rfl) dJ4_fixAfterInsertion_241 ⟨Nat.le_refl _, Nat.le_refl _⟩ ?_
                  clear h
                  rintro _ μ_41 ws ⟨rfl, h⟩ hM22
                  refine ww_st0 ?_
                  refine ww_aloadQ_n dJ4_fixAfterInsertion_244 0 rfl ?_
                  refine ww_aloadQ_n dJ4_fixAfterInsertion_245 1 rfl ?_
                  refine wm_callS (n := 1) hM22 (tm_J4_parentOf h) (lw_S q1289 q1290 q115 q1291) ⟨by decide, by decide, by decide +kernel⟩ rfl ⟨Nat.le_of_ble_eq_true rfl, Nat.le_of_ble_eq_true rfl⟩ rfl (by simp only [List.map_cons, List.map_nil, rf_cat, vI_cat, vL_cat, List.sum_cons, List.sum_nil]; decide) dJ4_fixAfterInsertion_246 ⟨Nat.le_refl _, Nat.le_refl _⟩ ?_
                  clear h
                  rintro _ _ ws ⟨rfl, y_42, rfl, h⟩ hM23
                  refine ww_st1 ?_
                  refine wm_callS (n := 1) hM23 (tm_J4_parentOf h) (lw_S q1289 q1290 q115 q1291) ⟨by decide, by decide, by decide +kernel⟩ rfl ⟨Nat.le_of_ble_eq_true rfl, Nat.le_of_ble_eq_true rfl⟩ rfl (by simp only [List.map_cons, List.map_nil, rf_cat, vI_cat, vL_cat, List.sum_cons, List.sum_nil]; decide) dJ4_fixAfterInsertion_249 ⟨Nat.le_refl _, Nat.le_refl _⟩ ?_
                  clear h
                  rintro _ _ ws ⟨rfl, y_44, rfl, h⟩ hM24
                  refine ww_st1 ?_
                  obtain ⟨hg, h⟩ := h
                  refine wm_callV (n := 1) hM24 (tm_J4_rotateLeft h) rfl hg rfl (lw_V q1304 q1306 qs19 q115 q1307) ⟨by decide, by decide, by decide +kernel⟩ rfl ⟨Nat.le_of_ble_eq_true rfl, Nat.le_of_ble_eq_true rfl⟩ rfl (Nat.le_of_ble_eq_true rfl) dJ4_fixAfterInsertion_252 ⟨Nat.le_refl _, Nat.le_refl _⟩ ?_
                  clear h
                  rintro _ μ_46 ws ⟨rfl, h⟩ hM25
                  refine ww_st0 ?_
                  exact kJ255 _ _ h _ hM25
                refine ww_acmp_ne (tgt := 225) dJ4_fixAfterInsertion_212 (by decide) (fun c => ?_) (fun c => ?_)
                · replace h := h.1 c
                  refine ww_lv [1, 2] rfl ?_
                  exact kJ225 _ _ h _ hM16
                · replace h := h.2 c
                  refine ww_aloadQ_n dJ4_fixAfterInsertion_215 2 rfl ?_
                  refine wm_callS (n := 1) hM16 (tm_J4_parentOf h) (lw_S q1289 q1290 q115 q1291) ⟨by decide, by decide, by decide +kernel⟩ rfl ⟨Nat.le_of_ble_eq_true rfl, Nat.le_of_ble_eq_true rfl⟩ rfl (Nat.le_of_ble_eq_true rfl) dJ4_fixAfterInsertion_216 ⟨Nat.le_refl _, Nat.le_refl _⟩ ?_
                  clear h
                  rintro _ _ ws ⟨rfl, y_47, rfl, h⟩ hM26
                  refine ww_st1 ?_
                  refine ww_astoreQ_n (i := 1) (lv2 := [(1, va_rf y_47), (2, va_rf y_26), (0, va_rf (some b))]) dJ4_fixAfterInsertion_219 rfl (Nat.le_of_ble_eq_true rfl) rfl ?_
                  refine ww_aloadQ_n dJ4_fixAfterInsertion_220 2 rfl ?_
                  refine ww_aloadQ_n dJ4_fixAfterInsertion_221 0 rfl ?_
                  obtain ⟨hg, h⟩ := h
                  refine wm_callV (n := 1) hM26 (tm_J4_rotateRight h) rfl hg rfl (lw_V q1308 q1310 qs20 q115 q1311) ⟨by decide, by decide, by decide +kernel⟩ rfl ⟨Nat.le_of_ble_eq_true rfl, Nat.le_of_ble_eq_true rfl⟩ rfl (Nat.le_of_ble_eq_true rfl) dJ4_fixAfterInsertion_222 ⟨Nat.le_refl _, Nat.le_refl _⟩ ?_
                  clear h
                  rintro _ μ_49 ws ⟨rfl, h⟩ hM27
                  refine ww_st0 ?_
                  refine ww_lv [2, 0] rfl ?_
                  exact kJ225 _ _ h _ hM27
              · replace h := h.2 c
                refine ww_aloadQ_n dJ4_fixAfterInsertion_169 2 rfl ?_
                refine wm_callS (n := 1) hM13 (tm_J4_parentOf h) (lw_S q1289 q1290 q115 q1291) ⟨by decide, by decide, by decide +kernel⟩ rfl ⟨Nat.le_of_ble_eq_true rfl, Nat.le_of_ble_eq_true rfl⟩ rfl (Nat.le_of_ble_eq_true rfl) dJ4_fixAfterInsertion_170 ⟨Nat.le_refl _, Nat.le_refl _⟩ ?_
                clear h
                rintro _ _ ws ⟨rfl, y_50, rfl, h⟩ hM28
                refine ww_st1 ?_
                refine ww_iconst dJ4_fixAfterInsertion_173 ?_
                refine wm_callS (n := 2) hM28 (tm_J4_setColor h) (lw_S q1301 q1302 q115 q1303) ⟨by decide, by decide, by decide +kernel⟩ rfl ⟨Nat.le_of_ble_eq_true rfl, Nat.le_of_ble_eq_true rfl⟩ rfl (Nat.le_of_ble_eq_true rfl) dJ4_fixAfterInsertion_174 ⟨Nat.le_refl _, Nat.le_refl _⟩ ?_
                clear h
                rintro _ μ_52 ws ⟨rfl, h⟩ hM29
                refine ww_st0 ?_
                refine ww_aloadQ_n dJ4_fixAfterInsertion_177 0 rfl ?_
                refine ww_iconst dJ4_fixAfterInsertion_178 ?_
                refine wm_callS (n := 2) hM29 (tm_J4_setColor h) (lw_S q1301 q1302 q115 q1303) ⟨by decide, by decide, by decide +kernel⟩ rfl ⟨Nat.le_of_ble_eq_true rfl, Nat.le_of_ble_eq_true rfl⟩ rfl (Nat.le_of_ble_eq_true rfl) dJ4_fixAfterInsertion_179 ⟨Nat.le_refl _, Nat.le_refl _⟩ ?_
                clear h
                rintro _ μ_53 ws ⟨rfl, h⟩ hM30
                refine ww_st0 ?_
                refine ww_aloadQ_n dJ4_fixAfterInsertion_182 2 rfl ?_
                refine wm_callS (n := 1) hM30 (tm_J4_parentOf h) (lw_S q1289 q1290 q115 q1291) ⟨by decide, by decide, by decide +kernel⟩ rfl ⟨Nat.le_of_ble_eq_true rfl, Nat.le_of_ble_eq_true rfl⟩ rfl (Nat.le_of_ble_eq_true rfl) dJ4_fixAfterInsertion_183 ⟨Nat.le_refl _, Nat.le_refl _⟩ ?_
                clear h
                rintro _ _ ws ⟨rfl, y_54, rfl, h⟩ hM31
                refine ww_st1 ?_
                refine wm_callS (n := 1) hM31 (tm_J4_parentOf h) (lw_S q1289 q1290 q115 q1291) ⟨by decide, by decide, by decide +kernel⟩ rfl ⟨Nat.le_of_ble_eq_true rfl, Nat.le_of_ble_eq_true rfl⟩ rfl (Nat.le_of_ble_eq_true rfl) dJ4_fixAfterInsertion_186 ⟨Nat.le_refl _, Nat.le_refl _⟩ ?_
                clear h
                rintro _ _ ws ⟨rfl, y_56, rfl, h⟩ hM32
                refine ww_st1 ?_
                refine ww_iconst dJ4_fixAfterInsertion_189 ?_
                refine wm_callS (n := 2) hM32 (tm_J4_setColor h) (lw_S q1301 q1302 q115 q1303) ⟨by decide, by decide, by decide +kernel⟩ rfl ⟨Nat.le_of_ble_eq_true rfl, Nat.le_of_ble_eq_true rfl⟩ rfl (Nat.le_of_ble_eq_true rfl) dJ4_fixAfterInsertion_190 ⟨Nat.le_refl _, Nat.le_refl _⟩ ?_
                clear h
                rintro _ μ_58 ws ⟨rfl, h⟩ hM33
                refine ww_st0 ?_
                refine ww_aloadQ_n dJ4_fixAfterInsertion_193 2 rfl ?_
                refine wm_callS (n := 1) hM33 (tm_J4_parentOf h) (lw_S q1289 q1290 q115 q1291) ⟨by decide, by decide, by decide +kernel⟩ rfl ⟨Nat.le_of_ble_eq_true rfl, Nat.le_of_ble_eq_true rfl⟩ rfl (Nat.le_of_ble_eq_true rfl) dJ4_fixAfterInsertion_194 ⟨Nat.le_refl _, Nat.le_refl _⟩ ?_
                clear h
                rintro _ _ ws ⟨rfl, y_59, rfl, h⟩ hM34
                refine ww_st1 ?_
                refine wm_callS (n := 1) hM34 (tm_J4_parentOf h) (lw_S q1289 q1290 q115 q1291) ⟨by decide, by decide, by decide +kernel⟩ rfl ⟨Nat.le_of_ble_eq_true rfl, Nat.le_of_ble_eq_true rfl⟩ rfl (Nat.le_of_ble_eq_true rfl) dJ4_fixAfterInsertion_197 ⟨Nat.le_refl _, Nat.le_refl _⟩ ?_
                clear h
                rintro _ _ ws ⟨rfl, y_61, rfl, h⟩ hM35
                refine ww_st1 ?_
                refine ww_astoreQ_n (i := 1) (lv2 := [(1, va_rf y_61), (2, va_rf y_26), (0, va_rf (some b))]) dJ4_fixAfterInsertion_200 rfl (Nat.le_of_ble_eq_true rfl) rfl ?_
                refine ww_goto (tgt := 255) dJ4_fixAfterInsertion_201 (by decide) ?_
                refine ww_lv [2, 0] rfl ?_
                exact kJ255 _ _ h _ hM35
            · replace h := h.2 c
              refine ww_aloadQ_n dJ4_fixAfterInsertion_44 1 rfl ?_
              refine wm_callS (n := 1) hM9 (tm_J4_parentOf h) (lw_S q1289 q1290 q115 q1291) ⟨by decide, by decide, by decide +kernel⟩ rfl ⟨Nat.le_of_ble_eq_true rfl, Nat.le_of_ble_eq_true rfl⟩ rfl (Nat.le_of_ble_eq_true rfl) dJ4_fixAfterInsertion_45 ⟨Nat.le_refl _, Nat.le_refl _⟩ ?_
              clear h
              rintro _ _ ws ⟨rfl, y_63, rfl, h⟩ hM36
              refine ww_st1 ?_
              refine wm_callS (n := 1) hM36 (tm_J4_parentOf h) (lw_S q1289 q1290 q115 q1291) ⟨by decide, by decide, by decide +kernel⟩ rfl ⟨Nat.le_of_ble_eq_true rfl, Nat.le_of_ble_eq_true rfl⟩ rfl (Nat.le_of_ble_eq_true rfl) dJ4_fixAfterInsertion_48 ⟨Nat.le_refl _, Nat.le_refl _⟩ ?_
              clear h
              rintro _ _ ws ⟨rfl, y_65, rfl, h⟩ hM37
              refine ww_st1 ?_
              refine wm_callS (n := 1) hM37 (tm_J4_rightOf h) (lw_S q1295 q1296 q115 q1297) ⟨by decide, by decide, by decide +kernel⟩ rfl ⟨Nat.le_of_ble_eq_true rfl, Nat.le_of_ble_eq_true rfl⟩ rfl (Nat.le_of_ble_eq_true rfl) dJ4_fixAfterInsertion_51 ⟨Nat.le_refl _, Nat.le_refl _⟩ ?_
              clear h
              rintro _ _ ws ⟨rfl, y_67, rfl, h⟩ hM38
              refine ww_st1 ?_
              refine ww_astoreQ_n (i := 2) (lv2 := [(2, va_rf y_67), (0, va_rf (some b)), (1, va_rf (some a_8))]) dJ4_fixAfterInsertion_54 rfl (Nat.le_of_ble_eq_true rfl) rfl ?_
              refine ww_aloadQ_n dJ4_fixAfterInsertion_55 0 rfl ?_
              refine wm_callS (n := 1) hM38 (tm_J4_colorOf h) (lw_S q1298 q1299 q115 q1300) ⟨by decide, by decide, by decide +kernel⟩ rfl ⟨Nat.le_of_ble_eq_true rfl, Nat.le_of_ble_eq_true rfl⟩ rfl (Nat.le_of_ble_eq_true rfl) dJ4_fixAfterInsertion_56 ⟨Nat.le_refl _, Nat.le_refl _⟩ ?_
              clear h
              rintro _ _ ws ⟨rfl, y_69, rfl, z_70, h⟩ hM39
              refine ww_st1 ?_
              obtain ⟨J148, hJ148, h⟩ := h
              have kJ148 : ∀ (v1_148 : Option Nat), ∀ (μ148 : HM), J148 v1_148 μ148 → ∀ ws : va_W, Mrep G ws μ148 → WW G l cJ4_fixAfterInsertion RJ4 3 (Option.none : Option Jvm.ClassFile.FieldType) "fixAfterInsertion" 1 0 0 (hMR G (hR0 P)) (fun u => [u.1, fr]) 0 0 [ws, fr] 148 [(0, va_rf (some b)), (1, va_rf v1_148)] [] := by
                clear h
                intro v1_148 μ148 hj ws hM40
                have h := hJ148 v1_148 μ148 hj
                refine ww_goto (tgt := 5) dJ4_fixAfterInsertion_148 (by decide) ?_
                obtain ⟨m, hm, h⟩ := h
                exact ih5 m hm _ _ h _ hM40
              refine ww_if_ne (tgt := 97) dJ4_fixAfterInsertion_59 (by decide) (r_z z_70) (fun c => ?_) (fun c => ?_)
              · replace h := h.1 c
                refine ww_aloadQ_n dJ4_fixAfterInsertion_97 2 rfl ?_
                refine ww_aloadQ_n dJ4_fixAfterInsertion_98 2 rfl ?_
                refine wm_callS (n := 1) hM39 (tm_J4_parentOf h) (lw_S q1289 q1290 q115 q1291) ⟨by decide, by decide, by decide +kernel⟩ rfl ⟨Nat.le_of_ble_eq_true rfl, Nat.le_of_ble_eq_true rfl⟩ rfl (by simp only [List.map_cons, List.map_nil, rf_cat, vI_cat, vL_cat, List.sum_cons, List.sum_nil]; decide) dJ4_fixAfterInsertion_99 ⟨Nat.le_refl _, Nat.le_refl _⟩ ?_
                clear h
                rintro _ _ ws ⟨rfl, y_71, rfl, h⟩ hM41
                refine ww_st1 ?_
                refine wm_callS (n := 1) hM41 (tm_J4_rightOf h) (lw_S q1295 q1296 q115 q1297) ⟨by decide, by decide, by decide +kernel⟩ rfl ⟨Nat.le_of_ble_eq_true rfl, Nat.le_of_ble_eq_true rfl⟩ rfl (by simp only [List.map_cons, List.map_nil, rf_cat, vI_cat, vL_cat, List.sum_cons, List.sum_nil]; decide) dJ4_fixAfterInsertion_102 ⟨Nat.le_refl _, Nat.le_refl _⟩ ?_
                clear h
                rintro _ _ ws ⟨rfl, y_73, rfl, h⟩ hM42
                refine ww_st1 ?_
                obtain ⟨J118, hJ118, h⟩ := h
                have kJ118 : ∀ (v1_118 : Option Nat), ∀ (μ118 : HM), J118 v1_118 μ118 → ∀ ws : va_W, Mrep G ws μ118 → WW G l cJ4_fixAfterInsertion RJ4 3 (Option.none : Option Jvm.ClassFile.FieldType) "fixAfterInsertion" 1 0 0 (hMR G (hR0 P)) (fun u => [u.1, fr]) 0 0 [ws, fr] 118 [(0, va_rf (some b)), (1, va_rf v1_118)] [] := by
                  clear h
                  intro v1_118 μ118 hj ws hM43
                  have h := hJ118 v1_118 μ118 hj
                  refine ww_aloadQ_n dJ4_fixAfterInsertion_118 1 rfl ?_
                  refine wm_callS (n := 1) hM43 (tm_J4_parentOf h) (lw_S q1289 q1290 q115 q1291) ⟨by decide, by decide, by decide +kernel⟩ rfl ⟨Nat.le_of_ble_eq_true rfl, Nat.le_of_ble_eq_true rfl⟩ rfl (Nat.le_of_ble_eq_true rfl) dJ4_fixAfterInsertion_119 ⟨Nat.le_refl _, Nat.le_refl _⟩ ?_
                  clear h
                  rintro _ _ ws ⟨rfl, y_75, rfl, h⟩ hM44
                  refine ww_st1 ?_
                  refine ww_iconst dJ4_fixAfterInsertion_122 ?_
                  refine wm_callS (n := 2) hM44 (tm_J4_setColor h) (lw_S q1301 q1302 q115 q1303) ⟨by decide, by decide, by decide +kernel⟩ rfl ⟨Nat.le_of_ble_eq_true rfl, Nat.le_of_ble_eq_true rfl⟩ rfl (Nat.le_of_ble_eq_true rfl) dJ4_fixAfterInsertion_123 ⟨Nat.le_refl _, Nat.le_refl _⟩ ?_
                  clear h
                  rintro _ μ_77 ws ⟨rfl, h⟩ hM45
                  refine ww_st0 ?_
                  refine ww_aloadQ_n dJ4_fixAfterInsertion_126 1 rfl ?_
                  refine wm_callS (n := 1) hM45 (tm_J4_parentOf h) (lw_S q1289 q1290 q115 q1291) ⟨by decide, by decide, by decide +kernel⟩ rfl ⟨Nat.le_of_ble_eq_true rfl, Nat.le_of_ble_eq_true rfl⟩ rfl (Nat.le_of_ble_eq_true rfl) dJ4_fixAfterInsertion_127 ⟨Nat.le_refl _, Nat.le_refl _⟩ ?_
                  clear h
                  rintro _ _ ws ⟨rfl, y_78, rfl, h⟩ hM46
                  refine ww_st1 ?_
                  refine wm_callS (n := 1) hM46 (tm_J4_parentOf h) (lw_S q1289 q1290 q115 q1291) ⟨by decide, by decide, by decide +kernel⟩ rfl ⟨Nat.le_of_ble_eq_true rfl, Nat.le_of_ble_eq_true rfl⟩ rfl (Nat.le_of_ble_eq_true rfl) dJ4_fixAfterInsertion_130 ⟨Nat.le_refl _, Nat.le_refl _⟩ ?_
                  clear h
                  rintro _ _ ws ⟨rfl, y_80, rfl, h⟩ hM47
                  refine ww_st1 ?_
                  refine ww_iconst dJ4_fixAfterInsertion_133 ?_
                  refine wm_callS (n := 2) hM47 (tm_J4_setColor h) (lw_S q1301 q1302 q115 q1303) ⟨by decide, by decide, by decide +kernel⟩ rfl ⟨Nat.le_of_ble_eq_true rfl, Nat.le_of_ble_eq_true rfl⟩ rfl (Nat.le_of_ble_eq_true rfl) dJ4_fixAfterInsertion_134 ⟨Nat.le_refl _, Nat.le_refl _⟩ ?_
                  clear h
                  rintro _ μ_82 ws ⟨rfl, h⟩ hM48
                  refine ww_st0 ?_
                  refine ww_aloadQ_n dJ4_fixAfterInsertion_137 0 rfl ?_
                  refine ww_aloadQ_n dJ4_fixAfterInsertion_138 1 rfl ?_
                  refine wm_callS (n := 1) hM48 (tm_J4_parentOf h) (lw_S q1289 q1290 q115 q1291) ⟨by decide, by decide, by decide +kernel⟩ rfl ⟨Nat.le_of_ble_eq_true rfl, Nat.le_of_ble_eq_true rfl⟩ rfl (by simp only [List.map_cons, List.map_nil, rf_cat, vI_cat, vL_cat, List.sum_cons, List.sum_nil]; decide) dJ4_fixAfterInsertion_139 ⟨Nat.le_refl _, Nat.le_refl _⟩ ?_
                  clear h
                  rintro _ _ ws ⟨rfl, y_83, rfl, h⟩ hM49
                  refine ww_st1 ?_
                  refine wm_callS (n := 1) hM49 (tm_J4_parentOf h) (lw_S q1289 q1290 q115 q1291) ⟨by decide, by decide, by decide +kernel⟩ rfl ⟨Nat.le_of_ble_eq_true rfl, Nat.le_of_ble_eq_true rfl⟩ rfl (by simp only [List.map_cons, List.map_nil, rf_cat, vI_cat, vL_cat, List.sum_cons, List.sum_nil]; decide) dJ4_fixAfterInsertion_142 ⟨Nat.le_refl _, Nat.le_refl _⟩ ?_
                  clear h
                  rintro _ _ ws ⟨rfl, y_85, rfl, h⟩ hM50
                  refine ww_st1 ?_
                  obtain ⟨hg, h⟩ := h
                  refine wm_callV (n := 1) hM50 (tm_J4_rotateRight h) rfl hg rfl (lw_V q1308 q1310 qs20 q115 q1311) ⟨by decide, by decide, by decide +kernel⟩ rfl ⟨Nat.le_of_ble_eq_true rfl, Nat.le_of_ble_eq_true rfl⟩ rfl (Nat.le_of_ble_eq_true rfl) dJ4_fixAfterInsertion_145 ⟨Nat.le_refl _, Nat.le_refl _⟩ ?_
                  clear h
                  rintro _ μ_87 ws ⟨rfl, h⟩ hM51
                  refine ww_st0 ?_
                  exact kJ148 _ _ h _ hM51
                refine ww_acmp_ne (tgt := 118) dJ4_fixAfterInsertion_105 (by decide) (fun c => ?_) (fun c => ?_)
                · replace h := h.1 c
                  refine ww_lv [1, 2] rfl ?_
                  exact kJ118 _ _ h _ hM42
                · replace h := h.2 c
                  refine ww_aloadQ_n dJ4_fixAfterInsertion_108 2 rfl ?_
                  refine wm_callS (n := 1) hM42 (tm_J4_parentOf h) (lw_S q1289 q1290 q115 q1291) ⟨by decide, by decide, by decide +kernel⟩ rfl ⟨Nat.le_of_ble_eq_true rfl, Nat.le_of_ble_eq_true rfl⟩ rfl (Nat.le_of_ble_eq_true rfl) dJ4_fixAfterInsertion_109 ⟨Nat.le_refl _, Nat.le_refl _⟩ ?_
                  clear h
                  rintro _ _ ws ⟨rfl, y_88, rfl, h⟩ hM52
                  refine ww_st1 ?_
                  refine ww_astoreQ_n (i := 1) (lv2 := [(1, va_rf y_88), (2, va_rf y_67), (0, va_rf (some b))]) dJ4_fixAfterInsertion_112 rfl (Nat.le_of_ble_eq_true rfl) rfl ?_
                  refine ww_aloadQ_n dJ4_fixAfterInsertion_113 2 rfl ?_
                  refine ww_aloadQ_n dJ4_fixAfterInsertion_114 0 rfl ?_
                  obtain ⟨hg, h⟩ := h
                  refine wm_callV (n := 1) hM52 (tm_J4_rotateLeft h) rfl hg rfl (lw_V q1304 q1306 qs19 q115 q1307) ⟨by decide, by decide, by decide +kernel⟩ rfl ⟨Nat.le_of_ble_eq_true rfl, Nat.le_of_ble_eq_true rfl⟩ rfl (Nat.le_of_ble_eq_true rfl) dJ4_fixAfterInsertion_115 ⟨Nat.le_refl _, Nat.le_refl _⟩ ?_
                  clear h
                  rintro _ μ_90 ws ⟨rfl, h⟩ hM53
                  refine ww_st0 ?_
                  refine ww_lv [2, 0] rfl ?_
                  exact kJ118 _ _ h _ hM53
              · replace h := h.2 c
                refine ww_aloadQ_n dJ4_fixAfterInsertion_62 2 rfl ?_
                refine wm_callS (n := 1) hM39 (tm_J4_parentOf h) (lw_S q1289 q1290 q115 q1291) ⟨by decide, by decide, by decide +kernel⟩ rfl ⟨Nat.le_of_ble_eq_true rfl, Nat.le_of_ble_eq_true rfl⟩ rfl (Nat.le_of_ble_eq_true rfl) dJ4_fixAfterInsertion_63 ⟨Nat.le_refl _, Nat.le_refl _⟩ ?_
                clear h
                rintro _ _ ws ⟨rfl, y_91, rfl, h⟩ hM54
                refine ww_st1 ?_
                refine ww_iconst dJ4_fixAfterInsertion_66 ?_
                refine wm_callS (n := 2) hM54 (tm_J4_setColor h) (lw_S q1301 q1302 q115 q1303) ⟨by decide, by decide, by decide +kernel⟩ rfl ⟨Nat.le_of_ble_eq_true rfl, Nat.le_of_ble_eq_true rfl⟩ rfl (Nat.le_of_ble_eq_true rfl) dJ4_fixAfterInsertion_67 ⟨Nat.le_refl _, Nat.le_refl _⟩ ?_
                clear h
                rintro _ μ_93 ws ⟨rfl, h⟩ hM55
                refine ww_st0 ?_
                refine ww_aloadQ_n dJ4_fixAfterInsertion_70 0 rfl ?_
                refine ww_iconst dJ4_fixAfterInsertion_71 ?_
                refine wm_callS (n := 2) hM55 (tm_J4_setColor h) (lw_S q1301 q1302 q115 q1303) ⟨by decide, by decide, by decide +kernel⟩ rfl ⟨Nat.le_of_ble_eq_true rfl, Nat.le_of_ble_eq_true rfl⟩ rfl (Nat.le_of_ble_eq_true rfl) dJ4_fixAfterInsertion_72 ⟨Nat.le_refl _, Nat.le_refl _⟩ ?_
                clear h
                rintro _ μ_94 ws ⟨rfl, h⟩ hM56
                refine ww_st0 ?_
                refine ww_aloadQ_n dJ4_fixAfterInsertion_75 2 rfl ?_
                refine wm_callS (n := 1) hM56 (tm_J4_parentOf h) (lw_S q1289 q1290 q115 q1291) ⟨by decide, by decide, by decide +kernel⟩ rfl ⟨Nat.le_of_ble_eq_true rfl, Nat.le_of_ble_eq_true rfl⟩ rfl (Nat.le_of_ble_eq_true rfl) dJ4_fixAfterInsertion_76 ⟨Nat.le_refl _, Nat.le_refl _⟩ ?_
                clear h
                rintro _ _ ws ⟨rfl, y_95, rfl, h⟩ hM57
                refine ww_st1 ?_
                refine wm_callS (n := 1) hM57 (tm_J4_parentOf h) (lw_S q1289 q1290 q115 q1291) ⟨by decide, by decide, by decide +kernel⟩ rfl ⟨Nat.le_of_ble_eq_true rfl, Nat.le_of_ble_eq_true rfl⟩ rfl (Nat.le_of_ble_eq_true rfl) dJ4_fixAfterInsertion_79 ⟨Nat.le_refl _, Nat.le_refl _⟩ ?_
                clear h
                rintro _ _ ws ⟨rfl, y_97, rfl, h⟩ hM58
                refine ww_st1 ?_
                refine ww_iconst dJ4_fixAfterInsertion_82 ?_
                refine wm_callS (n := 2) hM58 (tm_J4_setColor h) (lw_S q1301 q1302 q115 q1303) ⟨by decide, by decide, by decide +kernel⟩ rfl ⟨Nat.le_of_ble_eq_true rfl, Nat.le_of_ble_eq_true rfl⟩ rfl (Nat.le_of_ble_eq_true rfl) dJ4_fixAfterInsertion_83 ⟨Nat.le_refl _, Nat.le_refl _⟩ ?_
                clear h
                rintro _ μ_99 ws ⟨rfl, h⟩ hM59
                refine ww_st0 ?_
                refine ww_aloadQ_n dJ4_fixAfterInsertion_86 2 rfl ?_
                refine wm_callS (n := 1) hM59 (tm_J4_parentOf h) (lw_S q1289 q1290 q115 q1291) ⟨by decide, by decide, by decide +kernel⟩ rfl ⟨Nat.le_of_ble_eq_true rfl, Nat.le_of_ble_eq_true rfl⟩ rfl (Nat.le_of_ble_eq_true rfl) dJ4_fixAfterInsertion_87 ⟨Nat.le_refl _, Nat.le_refl _⟩ ?_
                clear h
                rintro _ _ ws ⟨rfl, y_100, rfl, h⟩ hM60
                refine ww_st1 ?_
                refine wm_callS (n := 1) hM60 (tm_J4_parentOf h) (lw_S q1289 q1290 q115 q1291) ⟨by decide, by decide, by decide +kernel⟩ rfl ⟨Nat.le_of_ble_eq_true rfl, Nat.le_of_ble_eq_true rfl⟩ rfl (Nat.le_of_ble_eq_true rfl) dJ4_fixAfterInsertion_90 ⟨Nat.le_refl _, Nat.le_refl _⟩ ?_
                clear h
                rintro _ _ ws ⟨rfl, y_102, rfl, h⟩ hM61
                refine ww_st1 ?_
                refine ww_astoreQ_n (i := 1) (lv2 := [(1, va_rf y_102), (2, va_rf y_67), (0, va_rf (some b))]) dJ4_fixAfterInsertion_93 rfl (Nat.le_of_ble_eq_true rfl) rfl ?_
                refine ww_goto (tgt := 148) dJ4_fixAfterInsertion_94 (by decide) ?_
                refine ww_lv [2, 0] rfl ?_
                exact kJ148 _ _ h _ hM61
  obtain ⟨m, h⟩ := h
  exact kI5 m _ _ h _ hM2
