/-! THE TWIN: weakest preconditions and walks (printed by tools/twin.py) -/
set_option maxRecDepth 100000
/-! fieldLine -/
def w_fieldLine (σ : TS) (P : Int → TS → Prop) : Prop :=
  w_steps σ (fun σ_1 =>
    rI (tF σ_1 6) ∧
    ∃ J18 : Int → Prop, (∀ (s1_18 : Int), J18 s1_18 →
      w_must σ_1 s1_18 1 (fun y_3 σ_4 =>
        ((y_3 = 0 →
          P 0 σ_4) ∧
        (¬ y_3 = 0 →
          rI (tF σ_4 7) ∧
          w_within (tF σ_4 7) 3 97 (fun y_7 =>
            ∃ J58 : Int → Prop, (∀ (s1_58 : Int), J58 s1_58 →
              w_must σ_4 s1_58 4 (fun y_9 σ_10 =>
                ((¬ y_9 = 0 →
                  w_steps (sA σ_10 13 1 (tF σ_10 7)) (fun σ_12 =>
                    rI (tF σ_12 6) ∧
                    ∃ J95 : Int → Prop, (∀ (s1_95 : Int), J95 s1_95 →
                      w_must σ_12 s1_95 1 (fun y_14 σ_15 =>
                        ((¬ y_14 = 0 →
                          w_steps σ_15 (fun σ_17 =>
                            P 1 σ_17)) ∧
                        (y_14 = 0 →
                          P 0 σ_15)))) ∧
                    ((¬ (tF σ_12 6) = 3 →
                      J95 0) ∧
                    ((tF σ_12 6) = 3 →
                      J95 1)))) ∧
                (y_9 = 0 →
                  P 0 σ_10)))) ∧
            ∃ J57 : Prop, (J57 →
              J58 0) ∧
            ((y_7 = 0 →
              J57) ∧
            (¬ y_7 = 0 →
              w_isPrime (tF σ_4 7) (fun y_18 =>
                ((y_18 = 0 →
                  J57) ∧
                (¬ y_18 = 0 →
                  J58 1)))))))))) ∧
    ((¬ (tF σ_1 6) = 2 →
      J18 0) ∧
    ((tF σ_1 6) = 2 →
      J18 1)))
set_option maxHeartbeats 4000000 in
theorem t_fieldLine {G : g_G} {l : Launch} {q : Nat → Nat} {σ : TS} {P : Int → TS → Prop} (h : w_fieldLine σ P) : CT G l yX5_fieldLine cX5_fieldLine 1 (Option.some Jvm.ClassFile.FieldType.boolean) 2 0 0 [.ref (q 100)] [tw G q σ] (tR2 (P)) (fun u => [tw G q u.2]) := by
  unfold w_fieldLine at h
  refine ww_of (by decide) (Nat.le_of_ble_eq_true rfl) (fun fr => ?_)
  show WW G l cX5_fieldLine RX5 1 (Option.some Jvm.ClassFile.FieldType.boolean) "fieldLine" 2 0 0 (tR2 (P)) (tS G q fr) 0 0 [tw G q σ, fr] 0 [(0, .ref (q 100))] []
  refine ww_aload_n dX5_fieldLine_0 0 rfl ?_
  refine tc_steps h ⟨Nat.le_of_ble_eq_true rfl, Nat.le_of_ble_eq_true rfl⟩ ⟨Nat.le_refl _, Nat.le_refl _⟩ (Nat.le_of_ble_eq_true rfl) dX5_fieldLine_1 (fun σ_1 h => ?_)
  refine ww_aload_n dX5_fieldLine_4 0 rfl ?_
  refine ww_aload_n dX5_fieldLine_5 0 rfl ?_
  refine tg_6 dX5_fieldLine_6 ?_
  refine ww_iconst dX5_fieldLine_9 ?_
  obtain ⟨r_2, h⟩ := h
  obtain ⟨J18, hJ18, h⟩ := h
  have kJ18 : ∀ (s1_18 : Int), J18 s1_18 → WW G l cX5_fieldLine RX5 1 (Option.some Jvm.ClassFile.FieldType.boolean) "fieldLine" 2 0 0 (tR2 (P)) (tS G q fr) 0 0 [tw G q σ_1, fr] 18 [(0, .ref (q 100))] [vI s1_18, .ref (q 100)] := by
    intro s1_18 hj
    have h := hJ18 s1_18 hj
    refine ww_iconst dX5_fieldLine_18 ?_
    refine tc_must h ⟨Nat.le_of_ble_eq_true rfl, Nat.le_of_ble_eq_true rfl⟩ ⟨Nat.le_refl _, Nat.le_refl _⟩ (Nat.le_of_ble_eq_true rfl) dX5_fieldLine_19 (fun y_3 σ_4 z_5 h => ?_)
    refine ww_if_eq (tgt := 65) dX5_fieldLine_22 (by decide) (z01 z_5) (fun c => ?_) (fun c => ?_)
    · replace h := h.1 c
      refine ww_iconst dX5_fieldLine_65 ?_
      exact ww_zret (0, σ_4) rfl (Or.inl rfl) ⟨rfl, (Or.inl rfl), h⟩ rfl (Nat.le_refl _) (Nat.le_refl _) dX5_fieldLine_66
    · replace h := h.2 c
      refine ww_aload_n dX5_fieldLine_25 0 rfl ?_
      refine ww_aload_n dX5_fieldLine_26 0 rfl ?_
      refine tg_7 dX5_fieldLine_27 ?_
      obtain ⟨r_6, h⟩ := h
      refine ww_i2l dX5_fieldLine_30 r_6 ?_
      refine ww_ldc2 (x := 3) dX5_fieldLine_31 q2339 rfl ?_
      refine ww_ldc2 (x := 97) dX5_fieldLine_34 q2316 rfl ?_
      refine tc_within h ⟨Nat.le_of_ble_eq_true rfl, Nat.le_of_ble_eq_true rfl⟩ ⟨Nat.le_refl _, Nat.le_refl _⟩ (Nat.le_of_ble_eq_true rfl) dX5_fieldLine_37 (fun y_7 z_8 h => ?_)
      obtain ⟨J58, hJ58, h⟩ := h
      have kJ58 : ∀ (s1_58 : Int), J58 s1_58 → WW G l cX5_fieldLine RX5 1 (Option.some Jvm.ClassFile.FieldType.boolean) "fieldLine" 2 0 0 (tR2 (P)) (tS G q fr) 0 0 [tw G q σ_4, fr] 58 [(0, .ref (q 100))] [vI s1_58, .ref (q 100)] := by
        intro s1_58 hj
        have h := hJ58 s1_58 hj
        refine ww_iconst dX5_fieldLine_58 ?_
        refine tc_must h ⟨Nat.le_of_ble_eq_true rfl, Nat.le_of_ble_eq_true rfl⟩ ⟨Nat.le_refl _, Nat.le_refl _⟩ (Nat.le_of_ble_eq_true rfl) dX5_fieldLine_59 (fun y_9 σ_10 z_11 h => ?_)
        refine ww_if_ne (tgt := 67) dX5_fieldLine_62 (by decide) (z01 z_11) (fun c => ?_) (fun c => ?_)
        · replace h := h.1 c
          refine ww_aload_n dX5_fieldLine_67 0 rfl ?_
          refine tg_13 dX5_fieldLine_68 ?_
          refine ww_iconst dX5_fieldLine_71 ?_
          refine ww_aload_n dX5_fieldLine_72 0 rfl ?_
          refine tg_7 dX5_fieldLine_73 ?_
          refine ts_13 ⟨by decide, by decide⟩ dX5_fieldLine_76 ?_
          refine ww_aload_n dX5_fieldLine_77 0 rfl ?_
          refine tc_steps h ⟨Nat.le_of_ble_eq_true rfl, Nat.le_of_ble_eq_true rfl⟩ ⟨Nat.le_refl _, Nat.le_refl _⟩ (Nat.le_of_ble_eq_true rfl) dX5_fieldLine_78 (fun σ_12 h => ?_)
          refine ww_aload_n dX5_fieldLine_81 0 rfl ?_
          refine ww_aload_n dX5_fieldLine_82 0 rfl ?_
          refine tg_6 dX5_fieldLine_83 ?_
          refine ww_iconst dX5_fieldLine_86 ?_
          obtain ⟨r_13, h⟩ := h
          obtain ⟨J95, hJ95, h⟩ := h
          have kJ95 : ∀ (s1_95 : Int), J95 s1_95 → WW G l cX5_fieldLine RX5 1 (Option.some Jvm.ClassFile.FieldType.boolean) "fieldLine" 2 0 0 (tR2 (P)) (tS G q fr) 0 0 [tw G q σ_12, fr] 95 [(0, .ref (q 100))] [vI s1_95, .ref (q 100)] := by
            intro s1_95 hj
            have h := hJ95 s1_95 hj
            refine ww_iconst dX5_fieldLine_95 ?_
            refine tc_must h ⟨Nat.le_of_ble_eq_true rfl, Nat.le_of_ble_eq_true rfl⟩ ⟨Nat.le_refl _, Nat.le_refl _⟩ (Nat.le_of_ble_eq_true rfl) dX5_fieldLine_96 (fun y_14 σ_15 z_16 h => ?_)
            refine ww_if_ne (tgt := 104) dX5_fieldLine_99 (by decide) (z01 z_16) (fun c => ?_) (fun c => ?_)
            · replace h := h.1 c
              refine ww_aload_n dX5_fieldLine_104 0 rfl ?_
              refine tc_steps h ⟨Nat.le_of_ble_eq_true rfl, Nat.le_of_ble_eq_true rfl⟩ ⟨Nat.le_refl _, Nat.le_refl _⟩ (Nat.le_of_ble_eq_true rfl) dX5_fieldLine_105 (fun σ_17 h => ?_)
              refine ww_iconst dX5_fieldLine_108 ?_
              exact ww_zret (1, σ_17) rfl (Or.inr rfl) ⟨rfl, (Or.inr rfl), h⟩ rfl (Nat.le_refl _) (Nat.le_refl _) dX5_fieldLine_109
            · replace h := h.2 c
              refine ww_iconst dX5_fieldLine_102 ?_
              exact ww_zret (0, σ_15) rfl (Or.inl rfl) ⟨rfl, (Or.inl rfl), h⟩ rfl (Nat.le_refl _) (Nat.le_refl _) dX5_fieldLine_103
          refine ww_icmp_ne (tgt := 94) dX5_fieldLine_87 (by decide) r_13 (by decide) (fun c => ?_) (fun c => ?_)
          · replace h := h.1 c
            refine ww_iconst dX5_fieldLine_94 ?_
            exact kJ95 _ h
          · replace h := h.2 c
            refine ww_iconst dX5_fieldLine_90 ?_
            refine ww_goto (tgt := 95) dX5_fieldLine_91 (by decide) ?_
            exact kJ95 _ h
        · replace h := h.2 c
          refine ww_iconst dX5_fieldLine_65 ?_
          exact ww_zret (0, σ_10) rfl (Or.inl rfl) ⟨rfl, (Or.inl rfl), h⟩ rfl (Nat.le_refl _) (Nat.le_refl _) dX5_fieldLine_66
      obtain ⟨J57, hJ57, h⟩ := h
      have kJ57 : J57 → WW G l cX5_fieldLine RX5 1 (Option.some Jvm.ClassFile.FieldType.boolean) "fieldLine" 2 0 0 (tR2 (P)) (tS G q fr) 0 0 [tw G q σ_4, fr] 57 [(0, .ref (q 100))] [.ref (q 100)] := by
        intro hj
        have h := hJ57 hj
        refine ww_iconst dX5_fieldLine_57 ?_
        exact kJ58 _ h
      refine ww_if_eq (tgt := 57) dX5_fieldLine_40 (by decide) (z01 z_8) (fun c => ?_) (fun c => ?_)
      · replace h := h.1 c
        exact kJ57 h
      · replace h := h.2 c
        refine ww_aload_n dX5_fieldLine_43 0 rfl ?_
        refine tg_7 dX5_fieldLine_44 ?_
        refine tc_isPrime h ⟨Nat.le_of_ble_eq_true rfl, Nat.le_of_ble_eq_true rfl⟩ ⟨Nat.le_refl _, Nat.le_refl _⟩ (Nat.le_of_ble_eq_true rfl) dX5_fieldLine_47 (fun y_18 z_19 h => ?_)
        refine ww_if_eq (tgt := 57) dX5_fieldLine_50 (by decide) (z01 z_19) (fun c => ?_) (fun c => ?_)
        · replace h := h.1 c
          exact kJ57 h
        · replace h := h.2 c
          refine ww_iconst dX5_fieldLine_53 ?_
          refine ww_goto (tgt := 58) dX5_fieldLine_54 (by decide) ?_
          exact kJ58 _ h
  refine ww_icmp_ne (tgt := 17) dX5_fieldLine_10 (by decide) r_2 (by decide) (fun c => ?_) (fun c => ?_)
  · replace h := h.1 c
    refine ww_iconst dX5_fieldLine_17 ?_
    exact kJ18 _ h
  · replace h := h.2 c
    refine ww_iconst dX5_fieldLine_13 ?_
    refine ww_goto (tgt := 18) dX5_fieldLine_14 (by decide) ?_
    exact kJ18 _ h
theorem tc_fieldLine {S : Type} {G : g_G} {l : Launch} {cc : ByteArray} {nL : Nat} {ret : Option FieldType} {mn : String} {d mc ms : Nat} {R : Option Value → S → Prop} {sh : S → List va_W} {cells slots pc : Nat} {lv : List (Nat × Value)} {st : List Value} {q : Nat → Nat} {fr : va_W} {σ : TS} {P : Int → TS → Prop} (h : w_fieldLine σ P) (hR : 2 + 1 ≤ d ∧ 16 + (1 + 11) + 100 * 2 ≤ 100 * d) (hc : cells ≤ mc ∧ slots ≤ ms) (hst : (st.map fun v => v.category).sum ≤ 16) (hdg : decode cc pc = .ok (.invokevirtual 245, 3)) (k : ∀ r, ∀ σ2, (r = 0 ∨ r = 1) → P r σ2 → WW G l cc RX5 nL ret mn d mc ms R sh cells slots [tw G q σ2, fr] (pc + 3) lv (vI r :: st)) : WW G l cc RX5 nL ret mn d mc ms R sh cells slots [tw G q σ, fr] pc lv (.ref (q 100) :: st) := by
  refine tw_call2 (n := 0) (t_fieldLine (q := q) h) (lw_V q2331 q2333 qs60 q117 q2334) ⟨rfl, by decide, by decide, by decide +kernel⟩ rfl hR hc rfl hst hdg ?_
  exact fun r σ2 z h => k r σ2 z h
/-! is -/
def w_is (σ : TS) (i1 : Nat) (P : Int → Prop) : Prop :=
  rI (tF σ 6) ∧
  ((¬ (tF σ 6) = 1 →
    P 0) ∧
  ((tF σ 6) = 1 →
    w_spelled i1 (fun y_2 =>
      rL (tF σ 8) ∧
      rL y_2 ∧
      ((¬ (tF σ 8) = y_2 →
        P 0) ∧
      ((tF σ 8) = y_2 →
        P 1)))))
set_option maxHeartbeats 4000000 in
theorem t_is {G : g_G} {l : Launch} {q : Nat → Nat} {σ : TS} {i1 : Nat} {P : Int → Prop} (h : w_is σ i1 P) : CT G l yX5_is cX5_is 2 (Option.some Jvm.ClassFile.FieldType.boolean) 8 0 0 [.ref (q 100), .ref (g_ad G (10 + i1))] [tw G q σ] (tR2 (fun r s => s = σ ∧ P r)) (fun u => [tw G q u.2]) := by
  unfold w_is at h
  refine ww_of (by decide) (Nat.le_of_ble_eq_true rfl) (fun fr => ?_)
  show WW G l cX5_is RX5 2 (Option.some Jvm.ClassFile.FieldType.boolean) "is" 8 0 0 (tR2 (fun r s => s = σ ∧ P r)) (tS G q fr) 0 0 [tw G q σ, fr] 0 [(0, .ref (q 100)), (1, .ref (g_ad G (10 + i1)))] []
  refine ww_aload_n dX5_is_0 0 rfl ?_
  refine tg_6 dX5_is_1 ?_
  refine ww_iconst dX5_is_4 ?_
  obtain ⟨r_1, h⟩ := h
  refine ww_icmp_ne (tgt := 24) dX5_is_5 (by decide) r_1 (by decide) (fun c => ?_) (fun c => ?_)
  · replace h := h.1 c
    refine ww_iconst dX5_is_24 ?_
    exact ww_zret (0, σ) rfl (Or.inl rfl) ⟨rfl, (Or.inl rfl), ⟨rfl, h⟩⟩ rfl (Nat.le_refl _) (Nat.le_refl _) dX5_is_25
  · replace h := h.2 c
    refine ww_aload_n dX5_is_8 0 rfl ?_
    refine tg_8 dX5_is_9 ?_
    refine ww_aload_n dX5_is_12 1 rfl ?_
    refine tc_spelled h ⟨Nat.le_of_ble_eq_true rfl, Nat.le_of_ble_eq_true rfl⟩ ⟨Nat.le_refl _, Nat.le_refl _⟩ (Nat.le_of_ble_eq_true rfl) dX5_is_13 (fun y_2 h => ?_)
    obtain ⟨r_3, r_4, h⟩ := h
    refine ww_lcmp dX5_is_16 r_3 r_4 ?_
    refine ww_if_ne (tgt := 24) dX5_is_17 (by decide) r_cmp (fun c => ?_) (fun c => ?_)
    · replace h := h.1 (cmp_ne.mp c)
      refine ww_iconst dX5_is_24 ?_
      exact ww_zret (0, σ) rfl (Or.inl rfl) ⟨rfl, (Or.inl rfl), ⟨rfl, h⟩⟩ rfl (Nat.le_refl _) (Nat.le_refl _) dX5_is_25
    · replace h := h.2 (cmp_nen.mp c)
      refine ww_iconst dX5_is_20 ?_
      refine ww_goto (tgt := 25) dX5_is_21 (by decide) ?_
      exact ww_zret (1, σ) rfl (Or.inr rfl) ⟨rfl, (Or.inr rfl), ⟨rfl, h⟩⟩ rfl (Nat.le_refl _) (Nat.le_refl _) dX5_is_25
theorem tc_is {S : Type} {G : g_G} {l : Launch} {cc : ByteArray} {nL : Nat} {ret : Option FieldType} {mn : String} {d mc ms : Nat} {R : Option Value → S → Prop} {sh : S → List va_W} {cells slots pc : Nat} {lv : List (Nat × Value)} {st : List Value} {q : Nat → Nat} {fr : va_W} {σ : TS} {i1 : Nat} {P : Int → Prop} (h : w_is σ i1 P) (hR : 8 + 1 ≤ d ∧ 16 + (2 + 11) + 100 * 8 ≤ 100 * d) (hc : cells ≤ mc ∧ slots ≤ ms) (hst : (st.map fun v => v.category).sum ≤ 16) (hdg : decode cc pc = .ok (.invokevirtual 158, 3)) (k : ∀ r, (r = 0 ∨ r = 1) → P r → WW G l cc RX5 nL ret mn d mc ms R sh cells slots [tw G q σ, fr] (pc + 3) lv (vI r :: st)) : WW G l cc RX5 nL ret mn d mc ms R sh cells slots [tw G q σ, fr] pc lv (.ref (g_ad G (10 + i1)) :: .ref (q 100) :: st) := by
  refine tw_call2 (n := 1) (t_is (q := q) h) (lw_V q2322 q2324 qs59 q117 q2325) ⟨rfl, by decide, by decide, by decide +kernel⟩ rfl hR hc rfl hst hdg ?_
  rintro r σ2 z ⟨rfl, h2⟩
  exact k r z h2
/-! modulo -/
def w_modulo (a1 : Int) (a2 : Int) (P : Int → Prop) : Prop :=
  rI a2 ∧
  (rL a1 ∧ (0 : Int) < a2 ∧ (a2 : Int) < 2147483648) ∧
  rI (a1.tmod a2) ∧
  ((0 ≤ (a1.tmod a2) →
    P (a1.tmod a2)) ∧
  ((a1.tmod a2) < 0 →
    P ((a1.tmod a2) + a2)))
set_option maxHeartbeats 4000000 in
theorem t_modulo {G : g_G} {l : Launch} {a1 : Int} {a2 : Int} {P : Int → Prop} (h : w_modulo a1 a2 P) : CT G l yX5_modulo cX5_modulo 4 (Option.some Jvm.ClassFile.FieldType.int) 0 0 0 [vL a1, vI a2] [] (uR1 P) (fun _ => []) := by
  unfold w_modulo at h
  refine ww_of (by decide) (Nat.le_of_ble_eq_true rfl) (fun fr => ?_)
  show WW G l cX5_modulo RX5 4 (Option.some Jvm.ClassFile.FieldType.int) "modulo" 0 0 0 (uR1 P) (fun _ => [fr]) 0 0 [fr] 0 [(0, vL a1), (2, vI a2)] []
  refine ww_lload_n dX5_modulo_0 0 rfl ?_
  refine ww_iload_n dX5_modulo_1 1 rfl ?_
  obtain ⟨r_1, h⟩ := h
  refine ww_i2l dX5_modulo_2 r_1 ?_
  obtain ⟨r_2, h⟩ := h
  refine ww_lrem dX5_modulo_3 r_2 ?_
  refine ww_l2i dX5_modulo_4 ?_
  refine ww_istore_n dX5_modulo_5 rfl (Nat.le_of_ble_eq_true rfl) rfl ?_
  refine ww_iload_n dX5_modulo_6 0 rfl ?_
  obtain ⟨r_3, h⟩ := h
  refine ww_if_ge (tgt := 16) dX5_modulo_7 (by decide) r_3 (fun c => ?_) (fun c => ?_)
  · replace h := h.1 c
    refine ww_iload_n dX5_modulo_16 0 rfl ?_
    exact ww_iret (a1.tmod a2) rfl ⟨rfl, h⟩ rfl (Nat.le_refl _) (Nat.le_refl _) dX5_modulo_17
  · replace h := h.2 (Int.not_le.mp c)
    refine ww_iload_n dX5_modulo_10 0 rfl ?_
    refine ww_iload_n dX5_modulo_11 2 rfl ?_
    refine ww_iadd dX5_modulo_12 ?_
    refine ww_goto (tgt := 17) dX5_modulo_13 (by decide) ?_
    exact ww_iret ((a1.tmod a2) + a2) rfl ⟨rfl, h⟩ rfl (Nat.le_refl _) (Nat.le_refl _) dX5_modulo_17
theorem tc_modulo {S : Type} {G : g_G} {l : Launch} {cc : ByteArray} {nL : Nat} {ret : Option FieldType} {mn : String} {d mc ms : Nat} {R : Option Value → S → Prop} {sh : S → List va_W} {cells slots pc : Nat} {lv : List (Nat × Value)} {st : List Value} {Ws : List va_W} {a1 : Int} {a2 : Int} {P : Int → Prop} (h : w_modulo a1 a2 P) (hR : 0 + 1 ≤ d ∧ 16 + (4 + 11) + 100 * 0 ≤ 100 * d) (hc : cells ≤ mc ∧ slots ≤ ms) (hst : (st.map fun v => v.category).sum ≤ 16) (hdg : decode cc pc = .ok (.invokestatic 211, 3)) (k : ∀ r, P r → WW G l cc RX5 nL ret mn d mc ms R sh cells slots Ws (pc + 3) lv (vI r :: st)) : WW G l cc RX5 nL ret mn d mc ms R sh cells slots Ws pc lv (vI a2 :: vL a1 :: st) := by
  refine tw_callS1 (n := 2) (t_modulo h) (lw_S q2392 q2393 q117 q2394) ⟨by decide, by decide, by decide +kernel⟩ rfl hR hc rfl hst hdg ?_
  exact k
/-! baseNamed -/
def w_baseNamed (σ : TS) (P : Int → Prop) : Prop :=
  ∃ I2 : Nat → Int → Prop, (∀ (n2 : Nat) (v1_2 : Int), I2 n2 v1_2 →
    (0 ≤ tF σ 12 ∧ tF σ 12 < 2) ∧
    rI v1_2 ∧
    rI (tA σ 15 (tF σ 12)) ∧
    (((tA σ 15 (tF σ 12)) ≤ v1_2 →
      P (-1)) ∧
    (v1_2 < (tA σ 15 (tF σ 12)) →
      (0 ≤ (5 * (tF σ 12)) + v1_2 ∧ (5 * (tF σ 12)) + v1_2 < 10) ∧
      rL (tA σ 18 ((5 * (tF σ 12)) + v1_2)) ∧
      rL (tF σ 8) ∧
      ((¬ (tA σ 18 ((5 * (tF σ 12)) + v1_2)) = (tF σ 8) →
        ∃ m : Nat, m < n2 ∧ I2 m (v1_2 + 1)) ∧
      ((tA σ 18 ((5 * (tF σ 12)) + v1_2)) = (tF σ 8) →
        P v1_2))))) ∧
  ∃ m : Nat, I2 m 0
set_option maxHeartbeats 4000000 in
theorem t_baseNamed {G : g_G} {l : Launch} {q : Nat → Nat} {σ : TS} {P : Int → Prop} (h : w_baseNamed σ P) : CT G l yX5_baseNamed cX5_baseNamed 2 (Option.some Jvm.ClassFile.FieldType.int) 0 0 0 [.ref (q 100)] [tw G q σ] (tR1 (fun r s => s = σ ∧ P r)) (fun u => [tw G q u.2]) := by
  unfold w_baseNamed at h
  refine ww_of (by decide) (Nat.le_of_ble_eq_true rfl) (fun fr => ?_)
  show WW G l cX5_baseNamed RX5 2 (Option.some Jvm.ClassFile.FieldType.int) "baseNamed" 0 0 0 (tR1 (fun r s => s = σ ∧ P r)) (tS G q fr) 0 0 [tw G q σ, fr] 0 [(0, .ref (q 100))] []
  refine ww_iconst dX5_baseNamed_0 ?_
  refine ww_istore_n dX5_baseNamed_1 rfl (Nat.le_of_ble_eq_true rfl) rfl ?_
  obtain ⟨I2, hI2, h⟩ := h
  have kI2 : ∀ (n2 : Nat), ∀ (v1_2 : Int), I2 n2 v1_2 → WW G l cX5_baseNamed RX5 2 (Option.some Jvm.ClassFile.FieldType.int) "baseNamed" 0 0 0 (tR1 (fun r s => s = σ ∧ P r)) (tS G q fr) 0 0 [tw G q σ, fr] 2 [(0, .ref (q 100)), (1, vI v1_2)] [] := by
    intro n2
    induction n2 using Nat.strongRecOn with
    | ind n2 ih2 =>
      intro v1_2 hj
      have h := hI2 n2 v1_2 hj
      refine ww_iload_n dX5_baseNamed_2 1 rfl ?_
      refine ww_aload_n dX5_baseNamed_3 0 rfl ?_
      refine tg_15 dX5_baseNamed_4 ?_
      refine ww_aload_n dX5_baseNamed_7 0 rfl ?_
      refine tg_12 dX5_baseNamed_8 ?_
      obtain ⟨r_1, h⟩ := h
      refine ta_15 r_1 dX5_baseNamed_11 ?_
      obtain ⟨r_2, r_3, h⟩ := h
      refine ww_icmp_ge (tgt := 44) dX5_baseNamed_12 (by decide) r_2 r_3 (fun c => ?_) (fun c => ?_)
      · replace h := h.1 c
        refine ww_iconst dX5_baseNamed_44 ?_
        exact ww_iret ((-1), σ) rfl ⟨rfl, ⟨rfl, h⟩⟩ rfl (Nat.le_refl _) (Nat.le_refl _) dX5_baseNamed_45
      · replace h := h.2 (Int.not_le.mp c)
        refine ww_aload_n dX5_baseNamed_15 0 rfl ?_
        refine tg_18 dX5_baseNamed_16 ?_
        refine ww_iconst dX5_baseNamed_19 ?_
        refine ww_aload_n dX5_baseNamed_20 0 rfl ?_
        refine tg_12 dX5_baseNamed_21 ?_
        refine ww_imul dX5_baseNamed_24 ?_
        refine ww_iload_n dX5_baseNamed_25 1 rfl ?_
        refine ww_iadd dX5_baseNamed_26 ?_
        obtain ⟨r_4, h⟩ := h
        refine ta_18 r_4 dX5_baseNamed_27 ?_
        refine ww_aload_n dX5_baseNamed_28 0 rfl ?_
        refine tg_8 dX5_baseNamed_29 ?_
        obtain ⟨r_5, r_6, h⟩ := h
        refine ww_lcmp dX5_baseNamed_32 r_5 r_6 ?_
        refine ww_if_ne (tgt := 38) dX5_baseNamed_33 (by decide) r_cmp (fun c => ?_) (fun c => ?_)
        · replace h := h.1 (cmp_ne.mp c)
          refine ww_iinc dX5_baseNamed_38 1 rfl (Nat.le_of_ble_eq_true rfl) rfl ?_
          refine ww_goto (tgt := 2) dX5_baseNamed_41 (by decide) ?_
          refine ww_lv [1, 0] rfl ?_
          obtain ⟨m, hm, h⟩ := h
          exact ih2 m hm _ h
        · replace h := h.2 (cmp_nen.mp c)
          refine ww_iload_n dX5_baseNamed_36 1 rfl ?_
          exact ww_iret (v1_2, σ) rfl ⟨rfl, ⟨rfl, h⟩⟩ rfl (Nat.le_refl _) (Nat.le_refl _) dX5_baseNamed_37
  refine ww_lv [1, 0] rfl ?_
  obtain ⟨m, h⟩ := h
  exact kI2 m _ h
theorem tc_baseNamed {S : Type} {G : g_G} {l : Launch} {cc : ByteArray} {nL : Nat} {ret : Option FieldType} {mn : String} {d mc ms : Nat} {R : Option Value → S → Prop} {sh : S → List va_W} {cells slots pc : Nat} {lv : List (Nat × Value)} {st : List Value} {q : Nat → Nat} {fr : va_W} {σ : TS} {P : Int → Prop} (h : w_baseNamed σ P) (hR : 0 + 1 ≤ d ∧ 16 + (2 + 11) + 100 * 0 ≤ 100 * d) (hc : cells ≤ mc ∧ slots ≤ ms) (hst : (st.map fun v => v.category).sum ≤ 16) (hdg : decode cc pc = .ok (.invokevirtual 191, 3)) (k : ∀ r, P r → WW G l cc RX5 nL ret mn d mc ms R sh cells slots [tw G q σ, fr] (pc + 3) lv (vI r :: st)) : WW G l cc RX5 nL ret mn d mc ms R sh cells slots [tw G q σ, fr] pc lv (.ref (q 100) :: st) := by
  refine tw_call1 (n := 0) (t_baseNamed (q := q) h) (lw_V q2368 q2370 qs67 q117 q2371) ⟨rfl, by decide, by decide, by decide +kernel⟩ rfl hR hc rfl hst hdg ?_
  rintro r σ2 ⟨rfl, h2⟩
  exact k r h2
/-! isName -/
def w_isName (σ : TS) (P : Int → Prop) : Prop :=
  rI (tF σ 6) ∧
  ((¬ (tF σ 6) = 1 →
    P 0) ∧
  ((tF σ 6) = 1 →
    w_is σ 1 (fun y_2 =>
      ((¬ y_2 = 0 →
        P 0) ∧
      (y_2 = 0 →
        w_is σ 2 (fun y_4 =>
          ((¬ y_4 = 0 →
            P 0) ∧
          (y_4 = 0 →
            w_is σ 3 (fun y_6 =>
              ((¬ y_6 = 0 →
                P 0) ∧
              (y_6 = 0 →
                w_is σ 4 (fun y_8 =>
                  ((¬ y_8 = 0 →
                    P 0) ∧
                  (y_8 = 0 →
                    w_is σ 5 (fun y_10 =>
                      ((¬ y_10 = 0 →
                        P 0) ∧
                      (y_10 = 0 →
                        w_is σ 6 (fun y_12 =>
                          ((¬ y_12 = 0 →
                            P 0) ∧
                          (y_12 = 0 →
                            P 1))))))))))))))))))))
set_option maxHeartbeats 4000000 in
theorem t_isName {G : g_G} {l : Launch} {q : Nat → Nat} {σ : TS} {P : Int → Prop} (h : w_isName σ P) : CT G l yX5_isName cX5_isName 1 (Option.some Jvm.ClassFile.FieldType.boolean) 9 0 0 [.ref (q 100)] [tw G q σ] (tR2 (fun r s => s = σ ∧ P r)) (fun u => [tw G q u.2]) := by
  unfold w_isName at h
  refine ww_of (by decide) (Nat.le_of_ble_eq_true rfl) (fun fr => ?_)
  show WW G l cX5_isName RX5 1 (Option.some Jvm.ClassFile.FieldType.boolean) "isName" 9 0 0 (tR2 (fun r s => s = σ ∧ P r)) (tS G q fr) 0 0 [tw G q σ, fr] 0 [(0, .ref (q 100))] []
  refine ww_aload_n dX5_isName_0 0 rfl ?_
  refine tg_6 dX5_isName_1 ?_
  refine ww_iconst dX5_isName_4 ?_
  obtain ⟨r_1, h⟩ := h
  refine ww_icmp_ne (tgt := 66) dX5_isName_5 (by decide) r_1 (by decide) (fun c => ?_) (fun c => ?_)
  · replace h := h.1 c
    refine ww_iconst dX5_isName_66 ?_
    exact ww_zret (0, σ) rfl (Or.inl rfl) ⟨rfl, (Or.inl rfl), ⟨rfl, h⟩⟩ rfl (Nat.le_refl _) (Nat.le_refl _) dX5_isName_67
  · replace h := h.2 c
    refine ww_aload_n dX5_isName_8 0 rfl ?_
    refine ww_ldcS 7 rfl dX5_isName_9 ?_
    refine tc_is h ⟨Nat.le_of_ble_eq_true rfl, Nat.le_of_ble_eq_true rfl⟩ ⟨Nat.le_refl _, Nat.le_refl _⟩ (Nat.le_of_ble_eq_true rfl) dX5_isName_11 (fun y_2 z_3 h => ?_)
    refine ww_if_ne (tgt := 66) dX5_isName_14 (by decide) (z01 z_3) (fun c => ?_) (fun c => ?_)
    · replace h := h.1 c
      refine ww_iconst dX5_isName_66 ?_
      exact ww_zret (0, σ) rfl (Or.inl rfl) ⟨rfl, (Or.inl rfl), ⟨rfl, h⟩⟩ rfl (Nat.le_refl _) (Nat.le_refl _) dX5_isName_67
    · replace h := h.2 c
      refine ww_aload_n dX5_isName_17 0 rfl ?_
      refine ww_ldcS 8 rfl dX5_isName_18 ?_
      refine tc_is h ⟨Nat.le_of_ble_eq_true rfl, Nat.le_of_ble_eq_true rfl⟩ ⟨Nat.le_refl _, Nat.le_refl _⟩ (Nat.le_of_ble_eq_true rfl) dX5_isName_20 (fun y_4 z_5 h => ?_)
      refine ww_if_ne (tgt := 66) dX5_isName_23 (by decide) (z01 z_5) (fun c => ?_) (fun c => ?_)
      · replace h := h.1 c
        refine ww_iconst dX5_isName_66 ?_
        exact ww_zret (0, σ) rfl (Or.inl rfl) ⟨rfl, (Or.inl rfl), ⟨rfl, h⟩⟩ rfl (Nat.le_refl _) (Nat.le_refl _) dX5_isName_67
      · replace h := h.2 c
        refine ww_aload_n dX5_isName_26 0 rfl ?_
        refine ww_ldcS 9 rfl dX5_isName_27 ?_
        refine tc_is h ⟨Nat.le_of_ble_eq_true rfl, Nat.le_of_ble_eq_true rfl⟩ ⟨Nat.le_refl _, Nat.le_refl _⟩ (Nat.le_of_ble_eq_true rfl) dX5_isName_29 (fun y_6 z_7 h => ?_)
        refine ww_if_ne (tgt := 66) dX5_isName_32 (by decide) (z01 z_7) (fun c => ?_) (fun c => ?_)
        · replace h := h.1 c
          refine ww_iconst dX5_isName_66 ?_
          exact ww_zret (0, σ) rfl (Or.inl rfl) ⟨rfl, (Or.inl rfl), ⟨rfl, h⟩⟩ rfl (Nat.le_refl _) (Nat.le_refl _) dX5_isName_67
        · replace h := h.2 c
          refine ww_aload_n dX5_isName_35 0 rfl ?_
          refine ww_ldcS 10 rfl dX5_isName_36 ?_
          refine tc_is h ⟨Nat.le_of_ble_eq_true rfl, Nat.le_of_ble_eq_true rfl⟩ ⟨Nat.le_refl _, Nat.le_refl _⟩ (Nat.le_of_ble_eq_true rfl) dX5_isName_38 (fun y_8 z_9 h => ?_)
          refine ww_if_ne (tgt := 66) dX5_isName_41 (by decide) (z01 z_9) (fun c => ?_) (fun c => ?_)
          · replace h := h.1 c
            refine ww_iconst dX5_isName_66 ?_
            exact ww_zret (0, σ) rfl (Or.inl rfl) ⟨rfl, (Or.inl rfl), ⟨rfl, h⟩⟩ rfl (Nat.le_refl _) (Nat.le_refl _) dX5_isName_67
          · replace h := h.2 c
            refine ww_aload_n dX5_isName_44 0 rfl ?_
            refine ww_ldcS 11 rfl dX5_isName_45 ?_
            refine tc_is h ⟨Nat.le_of_ble_eq_true rfl, Nat.le_of_ble_eq_true rfl⟩ ⟨Nat.le_refl _, Nat.le_refl _⟩ (Nat.le_of_ble_eq_true rfl) dX5_isName_47 (fun y_10 z_11 h => ?_)
            refine ww_if_ne (tgt := 66) dX5_isName_50 (by decide) (z01 z_11) (fun c => ?_) (fun c => ?_)
            · replace h := h.1 c
              refine ww_iconst dX5_isName_66 ?_
              exact ww_zret (0, σ) rfl (Or.inl rfl) ⟨rfl, (Or.inl rfl), ⟨rfl, h⟩⟩ rfl (Nat.le_refl _) (Nat.le_refl _) dX5_isName_67
            · replace h := h.2 c
              refine ww_aload_n dX5_isName_53 0 rfl ?_
              refine ww_ldcS 12 rfl dX5_isName_54 ?_
              refine tc_is h ⟨Nat.le_of_ble_eq_true rfl, Nat.le_of_ble_eq_true rfl⟩ ⟨Nat.le_refl _, Nat.le_refl _⟩ (Nat.le_of_ble_eq_true rfl) dX5_isName_56 (fun y_12 z_13 h => ?_)
              refine ww_if_ne (tgt := 66) dX5_isName_59 (by decide) (z01 z_13) (fun c => ?_) (fun c => ?_)
              · replace h := h.1 c
                refine ww_iconst dX5_isName_66 ?_
                exact ww_zret (0, σ) rfl (Or.inl rfl) ⟨rfl, (Or.inl rfl), ⟨rfl, h⟩⟩ rfl (Nat.le_refl _) (Nat.le_refl _) dX5_isName_67
              · replace h := h.2 c
                refine ww_iconst dX5_isName_62 ?_
                refine ww_goto (tgt := 67) dX5_isName_63 (by decide) ?_
                exact ww_zret (1, σ) rfl (Or.inr rfl) ⟨rfl, (Or.inr rfl), ⟨rfl, h⟩⟩ rfl (Nat.le_refl _) (Nat.le_refl _) dX5_isName_67
theorem tc_isName {S : Type} {G : g_G} {l : Launch} {cc : ByteArray} {nL : Nat} {ret : Option FieldType} {mn : String} {d mc ms : Nat} {R : Option Value → S → Prop} {sh : S → List va_W} {cells slots pc : Nat} {lv : List (Nat × Value)} {st : List Value} {q : Nat → Nat} {fr : va_W} {σ : TS} {P : Int → Prop} (h : w_isName σ P) (hR : 9 + 1 ≤ d ∧ 16 + (1 + 11) + 100 * 9 ≤ 100 * d) (hc : cells ≤ mc ∧ slots ≤ ms) (hst : (st.map fun v => v.category).sum ≤ 16) (hdg : decode cc pc = .ok (.invokevirtual 184, 3)) (k : ∀ r, (r = 0 ∨ r = 1) → P r → WW G l cc RX5 nL ret mn d mc ms R sh cells slots [tw G q σ, fr] (pc + 3) lv (vI r :: st)) : WW G l cc RX5 nL ret mn d mc ms R sh cells slots [tw G q σ, fr] pc lv (.ref (q 100) :: st) := by
  refine tw_call2 (n := 0) (t_isName (q := q) h) (lw_V q2360 q2362 qs65 q117 q2363) ⟨rfl, by decide, by decide, by decide +kernel⟩ rfl hR hc rfl hst hdg ?_
  rintro r σ2 z ⟨rfl, h2⟩
  exact k r z h2
/-! nodeNamed -/
def w_nodeNamed (σ : TS) (P : Int → Prop) : Prop :=
  ∃ I2 : Nat → Int → Prop, (∀ (n2 : Nat) (v1_2 : Int), I2 n2 v1_2 →
    (0 ≤ tF σ 12 ∧ tF σ 12 < 2) ∧
    rI v1_2 ∧
    rI (tA σ 16 (tF σ 12)) ∧
    (((tA σ 16 (tF σ 12)) ≤ v1_2 →
      P (-1)) ∧
    (v1_2 < (tA σ 16 (tF σ 12)) →
      (0 ≤ (6 * (tF σ 12)) + v1_2 ∧ (6 * (tF σ 12)) + v1_2 < 12) ∧
      rL (tA σ 19 ((6 * (tF σ 12)) + v1_2)) ∧
      rL (tF σ 8) ∧
      ((¬ (tA σ 19 ((6 * (tF σ 12)) + v1_2)) = (tF σ 8) →
        ∃ m : Nat, m < n2 ∧ I2 m (v1_2 + 1)) ∧
      ((tA σ 19 ((6 * (tF σ 12)) + v1_2)) = (tF σ 8) →
        P v1_2))))) ∧
  ∃ m : Nat, I2 m 0
set_option maxHeartbeats 4000000 in
theorem t_nodeNamed {G : g_G} {l : Launch} {q : Nat → Nat} {σ : TS} {P : Int → Prop} (h : w_nodeNamed σ P) : CT G l yX5_nodeNamed cX5_nodeNamed 2 (Option.some Jvm.ClassFile.FieldType.int) 0 0 0 [.ref (q 100)] [tw G q σ] (tR1 (fun r s => s = σ ∧ P r)) (fun u => [tw G q u.2]) := by
  unfold w_nodeNamed at h
  refine ww_of (by decide) (Nat.le_of_ble_eq_true rfl) (fun fr => ?_)
  show WW G l cX5_nodeNamed RX5 2 (Option.some Jvm.ClassFile.FieldType.int) "nodeNamed" 0 0 0 (tR1 (fun r s => s = σ ∧ P r)) (tS G q fr) 0 0 [tw G q σ, fr] 0 [(0, .ref (q 100))] []
  refine ww_iconst dX5_nodeNamed_0 ?_
  refine ww_istore_n dX5_nodeNamed_1 rfl (Nat.le_of_ble_eq_true rfl) rfl ?_
  obtain ⟨I2, hI2, h⟩ := h
  have kI2 : ∀ (n2 : Nat), ∀ (v1_2 : Int), I2 n2 v1_2 → WW G l cX5_nodeNamed RX5 2 (Option.some Jvm.ClassFile.FieldType.int) "nodeNamed" 0 0 0 (tR1 (fun r s => s = σ ∧ P r)) (tS G q fr) 0 0 [tw G q σ, fr] 2 [(0, .ref (q 100)), (1, vI v1_2)] [] := by
    intro n2
    induction n2 using Nat.strongRecOn with
    | ind n2 ih2 =>
      intro v1_2 hj
      have h := hI2 n2 v1_2 hj
      refine ww_iload_n dX5_nodeNamed_2 1 rfl ?_
      refine ww_aload_n dX5_nodeNamed_3 0 rfl ?_
      refine tg_16 dX5_nodeNamed_4 ?_
      refine ww_aload_n dX5_nodeNamed_7 0 rfl ?_
      refine tg_12 dX5_nodeNamed_8 ?_
      obtain ⟨r_1, h⟩ := h
      refine ta_16 r_1 dX5_nodeNamed_11 ?_
      obtain ⟨r_2, r_3, h⟩ := h
      refine ww_icmp_ge (tgt := 45) dX5_nodeNamed_12 (by decide) r_2 r_3 (fun c => ?_) (fun c => ?_)
      · replace h := h.1 c
        refine ww_iconst dX5_nodeNamed_45 ?_
        exact ww_iret ((-1), σ) rfl ⟨rfl, ⟨rfl, h⟩⟩ rfl (Nat.le_refl _) (Nat.le_refl _) dX5_nodeNamed_46
      · replace h := h.2 (Int.not_le.mp c)
        refine ww_aload_n dX5_nodeNamed_15 0 rfl ?_
        refine tg_19 dX5_nodeNamed_16 ?_
        refine ww_bipush (v := 6) dX5_nodeNamed_19 rfl ?_
        refine ww_aload_n dX5_nodeNamed_21 0 rfl ?_
        refine tg_12 dX5_nodeNamed_22 ?_
        refine ww_imul dX5_nodeNamed_25 ?_
        refine ww_iload_n dX5_nodeNamed_26 1 rfl ?_
        refine ww_iadd dX5_nodeNamed_27 ?_
        obtain ⟨r_4, h⟩ := h
        refine ta_19 r_4 dX5_nodeNamed_28 ?_
        refine ww_aload_n dX5_nodeNamed_29 0 rfl ?_
        refine tg_8 dX5_nodeNamed_30 ?_
        obtain ⟨r_5, r_6, h⟩ := h
        refine ww_lcmp dX5_nodeNamed_33 r_5 r_6 ?_
        refine ww_if_ne (tgt := 39) dX5_nodeNamed_34 (by decide) r_cmp (fun c => ?_) (fun c => ?_)
        · replace h := h.1 (cmp_ne.mp c)
          refine ww_iinc dX5_nodeNamed_39 1 rfl (Nat.le_of_ble_eq_true rfl) rfl ?_
          refine ww_goto (tgt := 2) dX5_nodeNamed_42 (by decide) ?_
          refine ww_lv [1, 0] rfl ?_
          obtain ⟨m, hm, h⟩ := h
          exact ih2 m hm _ h
        · replace h := h.2 (cmp_nen.mp c)
          refine ww_iload_n dX5_nodeNamed_37 1 rfl ?_
          exact ww_iret (v1_2, σ) rfl ⟨rfl, ⟨rfl, h⟩⟩ rfl (Nat.le_refl _) (Nat.le_refl _) dX5_nodeNamed_38
  refine ww_lv [1, 0] rfl ?_
  obtain ⟨m, h⟩ := h
  exact kI2 m _ h
theorem tc_nodeNamed {S : Type} {G : g_G} {l : Launch} {cc : ByteArray} {nL : Nat} {ret : Option FieldType} {mn : String} {d mc ms : Nat} {R : Option Value → S → Prop} {sh : S → List va_W} {cells slots pc : Nat} {lv : List (Nat × Value)} {st : List Value} {q : Nat → Nat} {fr : va_W} {σ : TS} {P : Int → Prop} (h : w_nodeNamed σ P) (hR : 0 + 1 ≤ d ∧ 16 + (2 + 11) + 100 * 0 ≤ 100 * d) (hc : cells ≤ mc ∧ slots ≤ ms) (hst : (st.map fun v => v.category).sum ≤ 16) (hdg : decode cc pc = .ok (.invokevirtual 194, 3)) (k : ∀ r, P r → WW G l cc RX5 nL ret mn d mc ms R sh cells slots [tw G q σ, fr] (pc + 3) lv (vI r :: st)) : WW G l cc RX5 nL ret mn d mc ms R sh cells slots [tw G q σ, fr] pc lv (.ref (q 100) :: st) := by
  refine tw_call1 (n := 0) (t_nodeNamed (q := q) h) (lw_V q2372 q2374 qs68 q117 q2375) ⟨rfl, by decide, by decide, by decide +kernel⟩ rfl hR hc rfl hst hdg ?_
  rintro r σ2 ⟨rfl, h2⟩
  exact k r h2
/-! tableNamed -/
def w_tableNamed (σ : TS) (P : Int → Prop) : Prop :=
  ∃ I2 : Nat → Int → Prop, (∀ (n2 : Nat) (v1_2 : Int), I2 n2 v1_2 →
    (0 ≤ tF σ 12 ∧ tF σ 12 < 2) ∧
    rI v1_2 ∧
    rI (tA σ 14 (tF σ 12)) ∧
    (((tA σ 14 (tF σ 12)) ≤ v1_2 →
      P (-1)) ∧
    (v1_2 < (tA σ 14 (tF σ 12)) →
      (0 ≤ (8 * (tF σ 12)) + v1_2 ∧ (8 * (tF σ 12)) + v1_2 < 16) ∧
      rL (tA σ 17 ((8 * (tF σ 12)) + v1_2)) ∧
      rL (tF σ 8) ∧
      ((¬ (tA σ 17 ((8 * (tF σ 12)) + v1_2)) = (tF σ 8) →
        ∃ m : Nat, m < n2 ∧ I2 m (v1_2 + 1)) ∧
      ((tA σ 17 ((8 * (tF σ 12)) + v1_2)) = (tF σ 8) →
        P v1_2))))) ∧
  ∃ m : Nat, I2 m 0
set_option maxHeartbeats 4000000 in
theorem t_tableNamed {G : g_G} {l : Launch} {q : Nat → Nat} {σ : TS} {P : Int → Prop} (h : w_tableNamed σ P) : CT G l yX5_tableNamed cX5_tableNamed 2 (Option.some Jvm.ClassFile.FieldType.int) 0 0 0 [.ref (q 100)] [tw G q σ] (tR1 (fun r s => s = σ ∧ P r)) (fun u => [tw G q u.2]) := by
  unfold w_tableNamed at h
  refine ww_of (by decide) (Nat.le_of_ble_eq_true rfl) (fun fr => ?_)
  show WW G l cX5_tableNamed RX5 2 (Option.some Jvm.ClassFile.FieldType.int) "tableNamed" 0 0 0 (tR1 (fun r s => s = σ ∧ P r)) (tS G q fr) 0 0 [tw G q σ, fr] 0 [(0, .ref (q 100))] []
  refine ww_iconst dX5_tableNamed_0 ?_
  refine ww_istore_n dX5_tableNamed_1 rfl (Nat.le_of_ble_eq_true rfl) rfl ?_
  obtain ⟨I2, hI2, h⟩ := h
  have kI2 : ∀ (n2 : Nat), ∀ (v1_2 : Int), I2 n2 v1_2 → WW G l cX5_tableNamed RX5 2 (Option.some Jvm.ClassFile.FieldType.int) "tableNamed" 0 0 0 (tR1 (fun r s => s = σ ∧ P r)) (tS G q fr) 0 0 [tw G q σ, fr] 2 [(0, .ref (q 100)), (1, vI v1_2)] [] := by
    intro n2
    induction n2 using Nat.strongRecOn with
    | ind n2 ih2 =>
      intro v1_2 hj
      have h := hI2 n2 v1_2 hj
      refine ww_iload_n dX5_tableNamed_2 1 rfl ?_
      refine ww_aload_n dX5_tableNamed_3 0 rfl ?_
      refine tg_14 dX5_tableNamed_4 ?_
      refine ww_aload_n dX5_tableNamed_7 0 rfl ?_
      refine tg_12 dX5_tableNamed_8 ?_
      obtain ⟨r_1, h⟩ := h
      refine ta_14 r_1 dX5_tableNamed_11 ?_
      obtain ⟨r_2, r_3, h⟩ := h
      refine ww_icmp_ge (tgt := 45) dX5_tableNamed_12 (by decide) r_2 r_3 (fun c => ?_) (fun c => ?_)
      · replace h := h.1 c
        refine ww_iconst dX5_tableNamed_45 ?_
        exact ww_iret ((-1), σ) rfl ⟨rfl, ⟨rfl, h⟩⟩ rfl (Nat.le_refl _) (Nat.le_refl _) dX5_tableNamed_46
      · replace h := h.2 (Int.not_le.mp c)
        refine ww_aload_n dX5_tableNamed_15 0 rfl ?_
        refine tg_17 dX5_tableNamed_16 ?_
        refine ww_bipush (v := 8) dX5_tableNamed_19 rfl ?_
        refine ww_aload_n dX5_tableNamed_21 0 rfl ?_
        refine tg_12 dX5_tableNamed_22 ?_
        refine ww_imul dX5_tableNamed_25 ?_
        refine ww_iload_n dX5_tableNamed_26 1 rfl ?_
        refine ww_iadd dX5_tableNamed_27 ?_
        obtain ⟨r_4, h⟩ := h
        refine ta_17 r_4 dX5_tableNamed_28 ?_
        refine ww_aload_n dX5_tableNamed_29 0 rfl ?_
        refine tg_8 dX5_tableNamed_30 ?_
        obtain ⟨r_5, r_6, h⟩ := h
        refine ww_lcmp dX5_tableNamed_33 r_5 r_6 ?_
        refine ww_if_ne (tgt := 39) dX5_tableNamed_34 (by decide) r_cmp (fun c => ?_) (fun c => ?_)
        · replace h := h.1 (cmp_ne.mp c)
          refine ww_iinc dX5_tableNamed_39 1 rfl (Nat.le_of_ble_eq_true rfl) rfl ?_
          refine ww_goto (tgt := 2) dX5_tableNamed_42 (by decide) ?_
          refine ww_lv [1, 0] rfl ?_
          obtain ⟨m, hm, h⟩ := h
          exact ih2 m hm _ h
        · replace h := h.2 (cmp_nen.mp c)
          refine ww_iload_n dX5_tableNamed_37 1 rfl ?_
          exact ww_iret (v1_2, σ) rfl ⟨rfl, ⟨rfl, h⟩⟩ rfl (Nat.le_refl _) (Nat.le_refl _) dX5_tableNamed_38
  refine ww_lv [1, 0] rfl ?_
  obtain ⟨m, h⟩ := h
  exact kI2 m _ h
theorem tc_tableNamed {S : Type} {G : g_G} {l : Launch} {cc : ByteArray} {nL : Nat} {ret : Option FieldType} {mn : String} {d mc ms : Nat} {R : Option Value → S → Prop} {sh : S → List va_W} {cells slots pc : Nat} {lv : List (Nat × Value)} {st : List Value} {q : Nat → Nat} {fr : va_W} {σ : TS} {P : Int → Prop} (h : w_tableNamed σ P) (hR : 0 + 1 ≤ d ∧ 16 + (2 + 11) + 100 * 0 ≤ 100 * d) (hc : cells ≤ mc ∧ slots ≤ ms) (hst : (st.map fun v => v.category).sum ≤ 16) (hdg : decode cc pc = .ok (.invokevirtual 188, 3)) (k : ∀ r, P r → WW G l cc RX5 nL ret mn d mc ms R sh cells slots [tw G q σ, fr] (pc + 3) lv (vI r :: st)) : WW G l cc RX5 nL ret mn d mc ms R sh cells slots [tw G q σ, fr] pc lv (.ref (q 100) :: st) := by
  refine tw_call1 (n := 0) (t_tableNamed (q := q) h) (lw_V q2364 q2366 qs66 q117 q2367) ⟨rfl, by decide, by decide, by decide +kernel⟩ rfl hR hc rfl hst hdg ?_
  rintro r σ2 ⟨rfl, h2⟩
  exact k r h2
/-! newName -/
def w_newName (σ : TS) (P : Int → TS → Prop) : Prop :=
  w_isName σ (fun y_1 =>
    w_must σ y_1 1 (fun y_3 σ_4 =>
      ((y_3 = 0 →
        P 0 σ_4) ∧
      (¬ y_3 = 0 →
        w_tableNamed σ_4 (fun y_6 =>
          rI y_6 ∧
          ∃ J39 : Int → Prop, (∀ (s1_39 : Int), J39 s1_39 →
            w_must σ_4 s1_39 2 (fun y_8 σ_9 =>
              ((¬ y_8 = 0 →
                w_steps (sF σ_9 26 (tF σ_9 8)) (fun σ_11 =>
                  P 1 σ_11)) ∧
              (y_8 = 0 →
                P 0 σ_9)))) ∧
          ∃ J38 : Prop, (J38 →
            J39 0) ∧
          ((0 ≤ y_6 →
            J38) ∧
          (y_6 < 0 →
            w_baseNamed σ_4 (fun y_12 =>
              rI y_12 ∧
              ((0 ≤ y_12 →
                J38) ∧
              (y_12 < 0 →
                w_nodeNamed σ_4 (fun y_14 =>
                  rI y_14 ∧
                  ((0 ≤ y_14 →
                    J38) ∧
                  (y_14 < 0 →
                    J39 1)))))))))))))
set_option maxHeartbeats 4000000 in
theorem t_newName {G : g_G} {l : Launch} {q : Nat → Nat} {σ : TS} {P : Int → TS → Prop} (h : w_newName σ P) : CT G l yX5_newName cX5_newName 1 (Option.some Jvm.ClassFile.FieldType.boolean) 10 0 0 [.ref (q 100)] [tw G q σ] (tR2 (P)) (fun u => [tw G q u.2]) := by
  unfold w_newName at h
  refine ww_of (by decide) (Nat.le_of_ble_eq_true rfl) (fun fr => ?_)
  show WW G l cX5_newName RX5 1 (Option.some Jvm.ClassFile.FieldType.boolean) "newName" 10 0 0 (tR2 (P)) (tS G q fr) 0 0 [tw G q σ, fr] 0 [(0, .ref (q 100))] []
  refine ww_aload_n dX5_newName_0 0 rfl ?_
  refine ww_aload_n dX5_newName_1 0 rfl ?_
  refine tc_isName h ⟨Nat.le_of_ble_eq_true rfl, Nat.le_of_ble_eq_true rfl⟩ ⟨Nat.le_refl _, Nat.le_refl _⟩ (Nat.le_of_ble_eq_true rfl) dX5_newName_2 (fun y_1 z_2 h => ?_)
  refine ww_iconst dX5_newName_5 ?_
  refine tc_must h ⟨Nat.le_of_ble_eq_true rfl, Nat.le_of_ble_eq_true rfl⟩ ⟨Nat.le_refl _, Nat.le_refl _⟩ (Nat.le_of_ble_eq_true rfl) dX5_newName_6 (fun y_3 σ_4 z_5 h => ?_)
  refine ww_if_eq (tgt := 46) dX5_newName_9 (by decide) (z01 z_5) (fun c => ?_) (fun c => ?_)
  · replace h := h.1 c
    refine ww_iconst dX5_newName_46 ?_
    exact ww_zret (0, σ_4) rfl (Or.inl rfl) ⟨rfl, (Or.inl rfl), h⟩ rfl (Nat.le_refl _) (Nat.le_refl _) dX5_newName_47
  · replace h := h.2 c
    refine ww_aload_n dX5_newName_12 0 rfl ?_
    refine ww_aload_n dX5_newName_13 0 rfl ?_
    refine tc_tableNamed h ⟨Nat.le_of_ble_eq_true rfl, Nat.le_of_ble_eq_true rfl⟩ ⟨Nat.le_refl _, Nat.le_refl _⟩ (Nat.le_of_ble_eq_true rfl) dX5_newName_14 (fun y_6 h => ?_)
    obtain ⟨r_7, h⟩ := h
    obtain ⟨J39, hJ39, h⟩ := h
    have kJ39 : ∀ (s1_39 : Int), J39 s1_39 → WW G l cX5_newName RX5 1 (Option.some Jvm.ClassFile.FieldType.boolean) "newName" 10 0 0 (tR2 (P)) (tS G q fr) 0 0 [tw G q σ_4, fr] 39 [(0, .ref (q 100))] [vI s1_39, .ref (q 100)] := by
      intro s1_39 hj
      have h := hJ39 s1_39 hj
      refine ww_iconst dX5_newName_39 ?_
      refine tc_must h ⟨Nat.le_of_ble_eq_true rfl, Nat.le_of_ble_eq_true rfl⟩ ⟨Nat.le_refl _, Nat.le_refl _⟩ (Nat.le_of_ble_eq_true rfl) dX5_newName_40 (fun y_8 σ_9 z_10 h => ?_)
      refine ww_if_ne (tgt := 48) dX5_newName_43 (by decide) (z01 z_10) (fun c => ?_) (fun c => ?_)
      · replace h := h.1 c
        refine ww_aload_n dX5_newName_48 0 rfl ?_
        refine ww_aload_n dX5_newName_49 0 rfl ?_
        refine tg_8 dX5_newName_50 ?_
        refine tp_26 dX5_newName_53 ?_
        refine ww_aload_n dX5_newName_56 0 rfl ?_
        refine tc_steps h ⟨Nat.le_of_ble_eq_true rfl, Nat.le_of_ble_eq_true rfl⟩ ⟨Nat.le_refl _, Nat.le_refl _⟩ (Nat.le_of_ble_eq_true rfl) dX5_newName_57 (fun σ_11 h => ?_)
        refine ww_iconst dX5_newName_60 ?_
        exact ww_zret (1, σ_11) rfl (Or.inr rfl) ⟨rfl, (Or.inr rfl), h⟩ rfl (Nat.le_refl _) (Nat.le_refl _) dX5_newName_61
      · replace h := h.2 c
        refine ww_iconst dX5_newName_46 ?_
        exact ww_zret (0, σ_9) rfl (Or.inl rfl) ⟨rfl, (Or.inl rfl), h⟩ rfl (Nat.le_refl _) (Nat.le_refl _) dX5_newName_47
    obtain ⟨J38, hJ38, h⟩ := h
    have kJ38 : J38 → WW G l cX5_newName RX5 1 (Option.some Jvm.ClassFile.FieldType.boolean) "newName" 10 0 0 (tR2 (P)) (tS G q fr) 0 0 [tw G q σ_4, fr] 38 [(0, .ref (q 100))] [.ref (q 100)] := by
      intro hj
      have h := hJ38 hj
      refine ww_iconst dX5_newName_38 ?_
      exact kJ39 _ h
    refine ww_if_ge (tgt := 38) dX5_newName_17 (by decide) r_7 (fun c => ?_) (fun c => ?_)
    · replace h := h.1 c
      exact kJ38 h
    · replace h := h.2 (Int.not_le.mp c)
      refine ww_aload_n dX5_newName_20 0 rfl ?_
      refine tc_baseNamed h ⟨Nat.le_of_ble_eq_true rfl, Nat.le_of_ble_eq_true rfl⟩ ⟨Nat.le_refl _, Nat.le_refl _⟩ (Nat.le_of_ble_eq_true rfl) dX5_newName_21 (fun y_12 h => ?_)
      obtain ⟨r_13, h⟩ := h
      refine ww_if_ge (tgt := 38) dX5_newName_24 (by decide) r_13 (fun c => ?_) (fun c => ?_)
      · replace h := h.1 c
        exact kJ38 h
      · replace h := h.2 (Int.not_le.mp c)
        refine ww_aload_n dX5_newName_27 0 rfl ?_
        refine tc_nodeNamed h ⟨Nat.le_of_ble_eq_true rfl, Nat.le_of_ble_eq_true rfl⟩ ⟨Nat.le_refl _, Nat.le_refl _⟩ (Nat.le_of_ble_eq_true rfl) dX5_newName_28 (fun y_14 h => ?_)
        obtain ⟨r_15, h⟩ := h
        refine ww_if_ge (tgt := 38) dX5_newName_31 (by decide) r_15 (fun c => ?_) (fun c => ?_)
        · replace h := h.1 c
          exact kJ38 h
        · replace h := h.2 (Int.not_le.mp c)
          refine ww_iconst dX5_newName_34 ?_
          refine ww_goto (tgt := 39) dX5_newName_35 (by decide) ?_
          exact kJ39 _ h
theorem tc_newName {S : Type} {G : g_G} {l : Launch} {cc : ByteArray} {nL : Nat} {ret : Option FieldType} {mn : String} {d mc ms : Nat} {R : Option Value → S → Prop} {sh : S → List va_W} {cells slots pc : Nat} {lv : List (Nat × Value)} {st : List Value} {q : Nat → Nat} {fr : va_W} {σ : TS} {P : Int → TS → Prop} (h : w_newName σ P) (hR : 10 + 1 ≤ d ∧ 16 + (1 + 11) + 100 * 10 ≤ 100 * d) (hc : cells ≤ mc ∧ slots ≤ ms) (hst : (st.map fun v => v.category).sum ≤ 16) (hdg : decode cc pc = .ok (.invokevirtual 200, 3)) (k : ∀ r, ∀ σ2, (r = 0 ∨ r = 1) → P r σ2 → WW G l cc RX5 nL ret mn d mc ms R sh cells slots [tw G q σ2, fr] (pc + 3) lv (vI r :: st)) : WW G l cc RX5 nL ret mn d mc ms R sh cells slots [tw G q σ, fr] pc lv (.ref (q 100) :: st) := by
  refine tw_call2 (n := 0) (t_newName (q := q) h) (lw_V q2356 q2358 qs64 q117 q2359) ⟨rfl, by decide, by decide, by decide +kernel⟩ rfl hR hc rfl hst hdg ?_
  exact fun r σ2 z h => k r σ2 z h
/-! takesNumber -/
def w_takesNumber (σ : TS) (a1 : Int) (a2 : Int) (P : Int → TS → Prop) : Prop :=
  rI (tF σ 6) ∧
  ∃ J14 : Int → Prop, (∀ (s1_14 : Int), J14 s1_14 →
    w_must σ s1_14 1 (fun y_2 σ_3 =>
      ((y_2 = 0 →
        P 0 σ_3) ∧
      (¬ y_2 = 0 →
        rI (tF σ_3 7) ∧
        rI a1 ∧
        rI a2 ∧
        w_within (tF σ_3 7) a1 a2 (fun y_8 =>
          w_must σ_3 y_8 4 (fun y_10 σ_11 =>
            ((¬ y_10 = 0 →
              w_steps (sF σ_11 11 (tF σ_11 7)) (fun σ_13 =>
                P 1 σ_13)) ∧
            (y_10 = 0 →
              P 0 σ_11)))))))) ∧
  ((¬ (tF σ 6) = 2 →
    J14 0) ∧
  ((tF σ 6) = 2 →
    J14 1))
set_option maxHeartbeats 4000000 in
theorem t_takesNumber {G : g_G} {l : Launch} {q : Nat → Nat} {σ : TS} {a1 : Int} {a2 : Int} {P : Int → TS → Prop} (h : w_takesNumber σ a1 a2 P) : CT G l yX5_takesNumber cX5_takesNumber 3 (Option.some Jvm.ClassFile.FieldType.boolean) 2 0 0 [.ref (q 100), vI a1, vI a2] [tw G q σ] (tR2 (P)) (fun u => [tw G q u.2]) := by
  unfold w_takesNumber at h
  refine ww_of (by decide) (Nat.le_of_ble_eq_true rfl) (fun fr => ?_)
  show WW G l cX5_takesNumber RX5 3 (Option.some Jvm.ClassFile.FieldType.boolean) "takesNumber" 2 0 0 (tR2 (P)) (tS G q fr) 0 0 [tw G q σ, fr] 0 [(0, .ref (q 100)), (1, vI a1), (2, vI a2)] []
  refine ww_aload_n dX5_takesNumber_0 0 rfl ?_
  refine ww_aload_n dX5_takesNumber_1 0 rfl ?_
  refine tg_6 dX5_takesNumber_2 ?_
  refine ww_iconst dX5_takesNumber_5 ?_
  obtain ⟨r_1, h⟩ := h
  obtain ⟨J14, hJ14, h⟩ := h
  have kJ14 : ∀ (s1_14 : Int), J14 s1_14 → WW G l cX5_takesNumber RX5 3 (Option.some Jvm.ClassFile.FieldType.boolean) "takesNumber" 2 0 0 (tR2 (P)) (tS G q fr) 0 0 [tw G q σ, fr] 14 [(0, .ref (q 100)), (1, vI a1), (2, vI a2)] [vI s1_14, .ref (q 100)] := by
    intro s1_14 hj
    have h := hJ14 s1_14 hj
    refine ww_iconst dX5_takesNumber_14 ?_
    refine tc_must h ⟨Nat.le_of_ble_eq_true rfl, Nat.le_of_ble_eq_true rfl⟩ ⟨Nat.le_refl _, Nat.le_refl _⟩ (Nat.le_of_ble_eq_true rfl) dX5_takesNumber_15 (fun y_2 σ_3 z_4 h => ?_)
    refine ww_if_eq (tgt := 41) dX5_takesNumber_18 (by decide) (z01 z_4) (fun c => ?_) (fun c => ?_)
    · replace h := h.1 c
      refine ww_iconst dX5_takesNumber_41 ?_
      exact ww_zret (0, σ_3) rfl (Or.inl rfl) ⟨rfl, (Or.inl rfl), h⟩ rfl (Nat.le_refl _) (Nat.le_refl _) dX5_takesNumber_42
    · replace h := h.2 c
      refine ww_aload_n dX5_takesNumber_21 0 rfl ?_
      refine ww_aload_n dX5_takesNumber_22 0 rfl ?_
      refine tg_7 dX5_takesNumber_23 ?_
      obtain ⟨r_5, h⟩ := h
      refine ww_i2l dX5_takesNumber_26 r_5 ?_
      refine ww_iload_n dX5_takesNumber_27 1 rfl ?_
      obtain ⟨r_6, h⟩ := h
      refine ww_i2l dX5_takesNumber_28 r_6 ?_
      refine ww_iload_n dX5_takesNumber_29 2 rfl ?_
      obtain ⟨r_7, h⟩ := h
      refine ww_i2l dX5_takesNumber_30 r_7 ?_
      refine tc_within h ⟨Nat.le_of_ble_eq_true rfl, Nat.le_of_ble_eq_true rfl⟩ ⟨Nat.le_refl _, Nat.le_refl _⟩ (Nat.le_of_ble_eq_true rfl) dX5_takesNumber_31 (fun y_8 z_9 h => ?_)
      refine ww_iconst dX5_takesNumber_34 ?_
      refine tc_must h ⟨Nat.le_of_ble_eq_true rfl, Nat.le_of_ble_eq_true rfl⟩ ⟨Nat.le_refl _, Nat.le_refl _⟩ (Nat.le_of_ble_eq_true rfl) dX5_takesNumber_35 (fun y_10 σ_11 z_12 h => ?_)
      refine ww_if_ne (tgt := 43) dX5_takesNumber_38 (by decide) (z01 z_12) (fun c => ?_) (fun c => ?_)
      · replace h := h.1 c
        refine ww_aload_n dX5_takesNumber_43 0 rfl ?_
        refine ww_aload_n dX5_takesNumber_44 0 rfl ?_
        refine tg_7 dX5_takesNumber_45 ?_
        refine tp_11 dX5_takesNumber_48 ?_
        refine ww_aload_n dX5_takesNumber_51 0 rfl ?_
        refine tc_steps h ⟨Nat.le_of_ble_eq_true rfl, Nat.le_of_ble_eq_true rfl⟩ ⟨Nat.le_refl _, Nat.le_refl _⟩ (Nat.le_of_ble_eq_true rfl) dX5_takesNumber_52 (fun σ_13 h => ?_)
        refine ww_iconst dX5_takesNumber_55 ?_
        exact ww_zret (1, σ_13) rfl (Or.inr rfl) ⟨rfl, (Or.inr rfl), h⟩ rfl (Nat.le_refl _) (Nat.le_refl _) dX5_takesNumber_56
      · replace h := h.2 c
        refine ww_iconst dX5_takesNumber_41 ?_
        exact ww_zret (0, σ_11) rfl (Or.inl rfl) ⟨rfl, (Or.inl rfl), h⟩ rfl (Nat.le_refl _) (Nat.le_refl _) dX5_takesNumber_42
  refine ww_icmp_ne (tgt := 13) dX5_takesNumber_6 (by decide) r_1 (by decide) (fun c => ?_) (fun c => ?_)
  · replace h := h.1 c
    refine ww_iconst dX5_takesNumber_13 ?_
    exact kJ14 _ h
  · replace h := h.2 c
    refine ww_iconst dX5_takesNumber_9 ?_
    refine ww_goto (tgt := 14) dX5_takesNumber_10 (by decide) ?_
    exact kJ14 _ h
theorem tc_takesNumber {S : Type} {G : g_G} {l : Launch} {cc : ByteArray} {nL : Nat} {ret : Option FieldType} {mn : String} {d mc ms : Nat} {R : Option Value → S → Prop} {sh : S → List va_W} {cells slots pc : Nat} {lv : List (Nat × Value)} {st : List Value} {q : Nat → Nat} {fr : va_W} {σ : TS} {a1 : Int} {a2 : Int} {P : Int → TS → Prop} (h : w_takesNumber σ a1 a2 P) (hR : 2 + 1 ≤ d ∧ 16 + (3 + 11) + 100 * 2 ≤ 100 * d) (hc : cells ≤ mc ∧ slots ≤ ms) (hst : (st.map fun v => v.category).sum ≤ 16) (hdg : decode cc pc = .ok (.invokevirtual 203, 3)) (k : ∀ r, ∀ σ2, (r = 0 ∨ r = 1) → P r σ2 → WW G l cc RX5 nL ret mn d mc ms R sh cells slots [tw G q σ2, fr] (pc + 3) lv (vI r :: st)) : WW G l cc RX5 nL ret mn d mc ms R sh cells slots [tw G q σ, fr] pc lv (vI a2 :: vI a1 :: .ref (q 100) :: st) := by
  refine tw_call2 (n := 2) (t_takesNumber (q := q) h) (lw_V q2376 q2378 qs69 q117 q2379) ⟨rfl, by decide, by decide, by decide +kernel⟩ rfl hR hc rfl hst hdg ?_
  exact fun r σ2 z h => k r σ2 z h
/-! baseLine -/
def w_baseLine (σ : TS) (P : Int → TS → Prop) : Prop :=
  w_newName σ (fun y_1 σ_2 =>
    ((¬ y_1 = 0 →
      (0 ≤ tF σ_2 12 ∧ tF σ_2 12 < 2) ∧
      ∀ x_5 : Int, x_5 = (5 * (tF σ_2 12)) + (tA σ_2 15 (tF σ_2 12)) →
      (0 ≤ tF σ_2 12 ∧ tF σ_2 12 < 2) ∧
      ∀ x_7 : Int, x_7 = tA σ_2 13 (tF σ_2 12) →
      ∃ I45 : Nat → Int → TS → Prop, (∀ (n45 : Nat) (v5_45 : Int) (σ45 : TS), I45 n45 v5_45 σ45 →
        rI v5_45 ∧
        ((3 ≤ v5_45 →
          rI (tF σ45 6) ∧
          ∃ J100 : Int → Prop, (∀ (s1_100 : Int), J100 s1_100 →
            w_must σ45 s1_100 1 (fun y_10 σ_11 =>
              ((y_10 = 0 →
                P 0 σ_11) ∧
              (¬ y_10 = 0 →
                rI (tF σ_11 7) ∧
                rI x_7 ∧
                ∃ J166 : Int → Prop, (∀ (s1_166 : Int), J166 s1_166 →
                  w_must σ_11 s1_166 4 (fun y_15 σ_16 =>
                    ((¬ y_15 = 0 →
                      (0 ≤ (4 * x_5) + 3 ∧ (4 * x_5) + 3 < 40) ∧
                      w_steps (sA σ_16 22 ((4 * x_5) + 3) (tF σ_16 7)) (fun σ_19 =>
                        (0 ≤ x_5 ∧ x_5 < 10) ∧
                        (0 ≤ tF σ_19 12 ∧ tF σ_19 12 < 2) ∧
                        (0 ≤ tF σ_19 12 ∧ tF σ_19 12 < 2) ∧
                        P 1 (sA (sA σ_19 18 x_5 (tF σ_2 26)) 15 (tF σ_19 12) ((tA σ_19 15 (tF σ_19 12)) + 1)))) ∧
                    (y_15 = 0 →
                      P 0 σ_16)))) ∧
                ∃ J165 : Prop, (J165 →
                  J166 0) ∧
                ((x_7 ≤ (tF σ_11 7) →
                  J165) ∧
                ((tF σ_11 7) < x_7 →
                  (0 ≤ 4 * x_5 ∧ 4 * x_5 < 40) ∧
                  (0 ≤ (4 * x_5) + 1 ∧ (4 * x_5) + 1 < 40) ∧
                  (0 ≤ (4 * x_5) + 2 ∧ (4 * x_5) + 2 < 40) ∧
                  rI (((tA σ_11 22 (4 * x_5)) * (tF σ_11 7)) - ((tA σ_11 22 ((4 * x_5) + 1)) * (tA σ_11 22 ((4 * x_5) + 2)))) ∧
                  w_modulo (((tA σ_11 22 (4 * x_5)) * (tF σ_11 7)) - ((tA σ_11 22 ((4 * x_5) + 1)) * (tA σ_11 22 ((4 * x_5) + 2)))) x_7 (fun y_27 =>
                    rI y_27 ∧
                    ((y_27 = 0 →
                      J165) ∧
                    (¬ y_27 = 0 →
                      J166 1))))))))) ∧
          ((¬ (tF σ45 6) = 2 →
            J100 0) ∧
          ((tF σ45 6) = 2 →
            J100 1))) ∧
        (v5_45 < 3 →
          w_takesNumber σ45 0 (x_7 - 1) (fun y_29 σ_30 =>
            ((¬ y_29 = 0 →
              (0 ≤ (4 * x_5) + v5_45 ∧ (4 * x_5) + v5_45 < 40) ∧
              ∃ m : Nat, m < n45 ∧ I45 m (v5_45 + 1) (sA σ_30 22 ((4 * x_5) + v5_45) (tF σ_30 11))) ∧
            (y_29 = 0 →
              P 0 σ_30)))))) ∧
      ∃ m : Nat, I45 m 0 σ_2) ∧
    (y_1 = 0 →
      P 0 σ_2)))
set_option maxHeartbeats 4000000 in
theorem t_baseLine {G : g_G} {l : Launch} {q : Nat → Nat} {σ : TS} {P : Int → TS → Prop} (h : w_baseLine σ P) : CT G l yX5_baseLine cX5_baseLine 6 (Option.some Jvm.ClassFile.FieldType.boolean) 11 0 0 [.ref (q 100)] [tw G q σ] (tR2 (P)) (fun u => [tw G q u.2]) := by
  unfold w_baseLine at h
  refine ww_of (by decide) (Nat.le_of_ble_eq_true rfl) (fun fr => ?_)
  show WW G l cX5_baseLine RX5 6 (Option.some Jvm.ClassFile.FieldType.boolean) "baseLine" 11 0 0 (tR2 (P)) (tS G q fr) 0 0 [tw G q σ, fr] 0 [(0, .ref (q 100))] []
  refine ww_aload_n dX5_baseLine_0 0 rfl ?_
  refine tc_newName h ⟨Nat.le_of_ble_eq_true rfl, Nat.le_of_ble_eq_true rfl⟩ ⟨Nat.le_refl _, Nat.le_refl _⟩ (Nat.le_of_ble_eq_true rfl) dX5_baseLine_1 (fun y_1 σ_2 z_3 h => ?_)
  refine ww_if_ne (tgt := 9) dX5_baseLine_4 (by decide) (z01 z_3) (fun c => ?_) (fun c => ?_)
  · replace h := h.1 c
    refine ww_iconst dX5_baseLine_9 ?_
    refine ww_aload_n dX5_baseLine_10 0 rfl ?_
    refine tg_12 dX5_baseLine_11 ?_
    refine ww_imul dX5_baseLine_14 ?_
    refine ww_aload_n dX5_baseLine_15 0 rfl ?_
    refine tg_15 dX5_baseLine_16 ?_
    refine ww_aload_n dX5_baseLine_19 0 rfl ?_
    refine tg_12 dX5_baseLine_20 ?_
    obtain ⟨r_4, h⟩ := h
    refine ta_15 r_4 dX5_baseLine_23 ?_
    refine ww_iadd dX5_baseLine_24 ?_
    refine ww_nmI (fun x_5 ex_5 => ?_)
    replace h := h x_5 ex_5
    refine ww_istore_n dX5_baseLine_25 rfl (Nat.le_of_ble_eq_true rfl) rfl ?_
    refine ww_aload_n dX5_baseLine_26 1 rfl ?_
    refine tg_26 dX5_baseLine_27 ?_
    refine ww_lstore_n dX5_baseLine_30 rfl (Nat.le_of_ble_eq_true rfl) rfl ?_
    refine ww_aload_n dX5_baseLine_31 2 rfl ?_
    refine tg_13 dX5_baseLine_32 ?_
    refine ww_aload_n dX5_baseLine_35 2 rfl ?_
    refine tg_12 dX5_baseLine_36 ?_
    obtain ⟨r_6, h⟩ := h
    refine ta_13 r_6 dX5_baseLine_39 ?_
    refine ww_nmI (fun x_7 ex_7 => ?_)
    replace h := h x_7 ex_7
    refine ww_istore dX5_baseLine_40 (Nat.le_of_ble_eq_true rfl) rfl ?_
    refine ww_iconst dX5_baseLine_42 ?_
    refine ww_istore dX5_baseLine_43 (Nat.le_of_ble_eq_true rfl) rfl ?_
    obtain ⟨I45, hI45, h⟩ := h
    have kI45 : ∀ (n45 : Nat), ∀ (v5_45 : Int), ∀ (σ45 : TS), I45 n45 v5_45 σ45 → WW G l cX5_baseLine RX5 6 (Option.some Jvm.ClassFile.FieldType.boolean) "baseLine" 11 0 0 (tR2 (P)) (tS G q fr) 0 0 [tw G q σ45, fr] 45 [(0, .ref (q 100)), (1, vI x_5), (2, vL (tF σ_2 26)), (4, vI x_7), (5, vI v5_45)] [] := by
      intro n45
      induction n45 using Nat.strongRecOn with
      | ind n45 ih45 =>
        intro v5_45 σ45 hj
        have h := hI45 n45 v5_45 σ45 hj
        refine ww_iload dX5_baseLine_45 4 rfl ?_
        refine ww_iconst dX5_baseLine_47 ?_
        obtain ⟨r_8, h⟩ := h
        refine ww_icmp_ge (tgt := 86) dX5_baseLine_48 (by decide) r_8 (by decide) (fun c => ?_) (fun c => ?_)
        · replace h := h.1 c
          refine ww_aload_n dX5_baseLine_86 0 rfl ?_
          refine ww_aload_n dX5_baseLine_87 0 rfl ?_
          refine tg_6 dX5_baseLine_88 ?_
          refine ww_iconst dX5_baseLine_91 ?_
          obtain ⟨r_9, h⟩ := h
          obtain ⟨J100, hJ100, h⟩ := h
          have kJ100 : ∀ (s1_100 : Int), J100 s1_100 → WW G l cX5_baseLine RX5 6 (Option.some Jvm.ClassFile.FieldType.boolean) "baseLine" 11 0 0 (tR2 (P)) (tS G q fr) 0 0 [tw G q σ45, fr] 100 [(0, .ref (q 100)), (1, vI x_5), (2, vL (tF σ_2 26)), (4, vI x_7)] [vI s1_100, .ref (q 100)] := by
            intro s1_100 hj
            have h := hJ100 s1_100 hj
            refine ww_iconst dX5_baseLine_100 ?_
            refine tc_must h ⟨Nat.le_of_ble_eq_true rfl, Nat.le_of_ble_eq_true rfl⟩ ⟨Nat.le_refl _, Nat.le_refl _⟩ (Nat.le_of_ble_eq_true rfl) dX5_baseLine_101 (fun y_10 σ_11 z_12 h => ?_)
            refine ww_if_eq (tgt := 173) dX5_baseLine_104 (by decide) (z01 z_12) (fun c => ?_) (fun c => ?_)
            · replace h := h.1 c
              refine ww_iconst dX5_baseLine_173 ?_
              exact ww_zret (0, σ_11) rfl (Or.inl rfl) ⟨rfl, (Or.inl rfl), h⟩ rfl (Nat.le_refl _) (Nat.le_refl _) dX5_baseLine_174
            · replace h := h.2 c
              refine ww_aload_n dX5_baseLine_107 0 rfl ?_
              refine ww_aload_n dX5_baseLine_108 0 rfl ?_
              refine tg_7 dX5_baseLine_109 ?_
              refine ww_iload dX5_baseLine_112 3 rfl ?_
              obtain ⟨r_13, r_14, h⟩ := h
              obtain ⟨J166, hJ166, h⟩ := h
              have kJ166 : ∀ (s1_166 : Int), J166 s1_166 → WW G l cX5_baseLine RX5 6 (Option.some Jvm.ClassFile.FieldType.boolean) "baseLine" 11 0 0 (tR2 (P)) (tS G q fr) 0 0 [tw G q σ_11, fr] 166 [(0, .ref (q 100)), (1, vI x_5), (2, vL (tF σ_2 26))] [vI s1_166, .ref (q 100)] := by
                intro s1_166 hj
                have h := hJ166 s1_166 hj
                refine ww_iconst dX5_baseLine_166 ?_
                refine tc_must h ⟨Nat.le_of_ble_eq_true rfl, Nat.le_of_ble_eq_true rfl⟩ ⟨Nat.le_refl _, Nat.le_refl _⟩ (Nat.le_of_ble_eq_true rfl) dX5_baseLine_167 (fun y_15 σ_16 z_17 h => ?_)
                refine ww_if_ne (tgt := 175) dX5_baseLine_170 (by decide) (z01 z_17) (fun c => ?_) (fun c => ?_)
                · replace h := h.1 c
                  refine ww_aload_n dX5_baseLine_175 0 rfl ?_
                  refine tg_22 dX5_baseLine_176 ?_
                  refine ww_iconst dX5_baseLine_179 ?_
                  refine ww_iload_n dX5_baseLine_180 1 rfl ?_
                  refine ww_imul dX5_baseLine_181 ?_
                  refine ww_iconst dX5_baseLine_182 ?_
                  refine ww_iadd dX5_baseLine_183 ?_
                  refine ww_aload_n dX5_baseLine_184 0 rfl ?_
                  refine tg_7 dX5_baseLine_185 ?_
                  obtain ⟨r_18, h⟩ := h
                  refine ts_22 r_18 dX5_baseLine_188 ?_
                  refine ww_aload_n dX5_baseLine_189 0 rfl ?_
                  refine tc_steps h ⟨Nat.le_of_ble_eq_true rfl, Nat.le_of_ble_eq_true rfl⟩ ⟨Nat.le_refl _, Nat.le_refl _⟩ (Nat.le_of_ble_eq_true rfl) dX5_baseLine_190 (fun σ_19 h => ?_)
                  refine ww_aload_n dX5_baseLine_193 0 rfl ?_
                  refine tg_18 dX5_baseLine_194 ?_
                  refine ww_iload_n dX5_baseLine_197 1 rfl ?_
                  refine ww_lload_n dX5_baseLine_198 2 rfl ?_
                  obtain ⟨r_20, h⟩ := h
                  refine ts_18 r_20 dX5_baseLine_199 ?_
                  refine ww_aload_n dX5_baseLine_200 0 rfl ?_
                  refine tg_15 dX5_baseLine_201 ?_
                  refine ww_aload_n dX5_baseLine_204 0 rfl ?_
                  refine tg_12 dX5_baseLine_205 ?_
                  refine ww_dup2 dX5_baseLine_208 rfl rfl ?_
                  obtain ⟨r_21, h⟩ := h
                  refine ta_15 r_21 dX5_baseLine_209 ?_
                  refine ww_iconst dX5_baseLine_210 ?_
                  refine ww_iadd dX5_baseLine_211 ?_
                  obtain ⟨r_22, h⟩ := h
                  refine ts_15 r_22 dX5_baseLine_212 ?_
                  refine ww_iconst dX5_baseLine_213 ?_
                  exact ww_zret (1, sA (sA σ_19 18 x_5 (tF σ_2 26)) 15 (tF σ_19 12) ((tA σ_19 15 (tF σ_19 12)) + 1)) rfl (Or.inr rfl) ⟨rfl, (Or.inr rfl), h⟩ rfl (Nat.le_refl _) (Nat.le_refl _) dX5_baseLine_214
                · replace h := h.2 c
                  refine ww_iconst dX5_baseLine_173 ?_
                  exact ww_zret (0, σ_16) rfl (Or.inl rfl) ⟨rfl, (Or.inl rfl), h⟩ rfl (Nat.le_refl _) (Nat.le_refl _) dX5_baseLine_174
              obtain ⟨J165, hJ165, h⟩ := h
              have kJ165 : J165 → WW G l cX5_baseLine RX5 6 (Option.some Jvm.ClassFile.FieldType.boolean) "baseLine" 11 0 0 (tR2 (P)) (tS G q fr) 0 0 [tw G q σ_11, fr] 165 [(0, .ref (q 100)), (1, vI x_5), (2, vL (tF σ_2 26))] [.ref (q 100)] := by
                intro hj
                have h := hJ165 hj
                refine ww_iconst dX5_baseLine_165 ?_
                exact kJ166 _ h
              refine ww_icmp_ge (tgt := 165) dX5_baseLine_114 (by decide) r_13 r_14 (fun c => ?_) (fun c => ?_)
              · replace h := h.1 c
                refine ww_lv [0, 1, 2] rfl ?_
                exact kJ165 h
              · replace h := h.2 (Int.not_le.mp c)
                refine ww_aload_n dX5_baseLine_117 0 rfl ?_
                refine tg_22 dX5_baseLine_118 ?_
                refine ww_iconst dX5_baseLine_121 ?_
                refine ww_iload_n dX5_baseLine_122 1 rfl ?_
                refine ww_imul dX5_baseLine_123 ?_
                obtain ⟨r_23, h⟩ := h
                refine ta_22 r_23 dX5_baseLine_124 ?_
                refine ww_aload_n dX5_baseLine_125 0 rfl ?_
                refine tg_7 dX5_baseLine_126 ?_
                refine ww_imul dX5_baseLine_129 ?_
                refine ww_aload_n dX5_baseLine_130 0 rfl ?_
                refine tg_22 dX5_baseLine_131 ?_
                refine ww_iconst dX5_baseLine_134 ?_
                refine ww_iload_n dX5_baseLine_135 1 rfl ?_
                refine ww_imul dX5_baseLine_136 ?_
                refine ww_iconst dX5_baseLine_137 ?_
                refine ww_iadd dX5_baseLine_138 ?_
                obtain ⟨r_24, h⟩ := h
                refine ta_22 r_24 dX5_baseLine_139 ?_
                refine ww_aload_n dX5_baseLine_140 0 rfl ?_
                refine tg_22 dX5_baseLine_141 ?_
                refine ww_iconst dX5_baseLine_144 ?_
                refine ww_iload_n dX5_baseLine_145 1 rfl ?_
                refine ww_imul dX5_baseLine_146 ?_
                refine ww_iconst dX5_baseLine_147 ?_
                refine ww_iadd dX5_baseLine_148 ?_
                obtain ⟨r_25, h⟩ := h
                refine ta_22 r_25 dX5_baseLine_149 ?_
                refine ww_imul dX5_baseLine_150 ?_
                refine ww_isub dX5_baseLine_151 ?_
                obtain ⟨r_26, h⟩ := h
                refine ww_i2l dX5_baseLine_152 r_26 ?_
                refine ww_iload dX5_baseLine_153 3 rfl ?_
                refine tc_modulo h ⟨Nat.le_of_ble_eq_true rfl, Nat.le_of_ble_eq_true rfl⟩ ⟨Nat.le_refl _, Nat.le_refl _⟩ (Nat.le_of_ble_eq_true rfl) dX5_baseLine_155 (fun y_27 h => ?_)
                obtain ⟨r_28, h⟩ := h
                refine ww_if_eq (tgt := 165) dX5_baseLine_158 (by decide) r_28 (fun c => ?_) (fun c => ?_)
                · replace h := h.1 c
                  refine ww_lv [0, 1, 2] rfl ?_
                  exact kJ165 h
                · replace h := h.2 c
                  refine ww_iconst dX5_baseLine_161 ?_
                  refine ww_goto (tgt := 166) dX5_baseLine_162 (by decide) ?_
                  refine ww_lv [0, 1, 2] rfl ?_
                  exact kJ166 _ h
          refine ww_icmp_ne (tgt := 99) dX5_baseLine_92 (by decide) r_9 (by decide) (fun c => ?_) (fun c => ?_)
          · replace h := h.1 c
            refine ww_iconst dX5_baseLine_99 ?_
            refine ww_lv [0, 1, 2, 3] rfl ?_
            exact kJ100 _ h
          · replace h := h.2 c
            refine ww_iconst dX5_baseLine_95 ?_
            refine ww_goto (tgt := 100) dX5_baseLine_96 (by decide) ?_
            refine ww_lv [0, 1, 2, 3] rfl ?_
            exact kJ100 _ h
        · replace h := h.2 (Int.not_le.mp c)
          refine ww_aload_n dX5_baseLine_51 0 rfl ?_
          refine ww_iconst dX5_baseLine_52 ?_
          refine ww_iload dX5_baseLine_53 3 rfl ?_
          refine ww_iconst dX5_baseLine_55 ?_
          refine ww_isub dX5_baseLine_56 ?_
          refine tc_takesNumber h ⟨Nat.le_of_ble_eq_true rfl, Nat.le_of_ble_eq_true rfl⟩ ⟨Nat.le_refl _, Nat.le_refl _⟩ (Nat.le_of_ble_eq_true rfl) dX5_baseLine_57 (fun y_29 σ_30 z_31 h => ?_)
          refine ww_if_ne (tgt := 65) dX5_baseLine_60 (by decide) (z01 z_31) (fun c => ?_) (fun c => ?_)
          · replace h := h.1 c
            refine ww_aload_n dX5_baseLine_65 0 rfl ?_
            refine tg_22 dX5_baseLine_66 ?_
            refine ww_iconst dX5_baseLine_69 ?_
            refine ww_iload_n dX5_baseLine_70 1 rfl ?_
            refine ww_imul dX5_baseLine_71 ?_
            refine ww_iload dX5_baseLine_72 4 rfl ?_
            refine ww_iadd dX5_baseLine_74 ?_
            refine ww_aload_n dX5_baseLine_75 0 rfl ?_
            refine tg_11 dX5_baseLine_76 ?_
            obtain ⟨r_32, h⟩ := h
            refine ts_22 r_32 dX5_baseLine_79 ?_
            refine ww_iinc dX5_baseLine_80 4 rfl (Nat.le_of_ble_eq_true rfl) rfl ?_
            refine ww_goto (tgt := 45) dX5_baseLine_83 (by decide) ?_
            refine ww_lv [1, 2, 3, 4, 0] rfl ?_
            obtain ⟨m, hm, h⟩ := h
            exact ih45 m hm _ _ h
          · replace h := h.2 c
            refine ww_iconst dX5_baseLine_63 ?_
            exact ww_zret (0, σ_30) rfl (Or.inl rfl) ⟨rfl, (Or.inl rfl), h⟩ rfl (Nat.le_refl _) (Nat.le_refl _) dX5_baseLine_64
    refine ww_lv [4, 3, 2, 1, 0] rfl ?_
    obtain ⟨m, h⟩ := h
    exact kI45 m _ _ h
  · replace h := h.2 c
    refine ww_iconst dX5_baseLine_7 ?_
    exact ww_zret (0, σ_2) rfl (Or.inl rfl) ⟨rfl, (Or.inl rfl), h⟩ rfl (Nat.le_refl _) (Nat.le_refl _) dX5_baseLine_8
theorem tc_baseLine {S : Type} {G : g_G} {l : Launch} {cc : ByteArray} {nL : Nat} {ret : Option FieldType} {mn : String} {d mc ms : Nat} {R : Option Value → S → Prop} {sh : S → List va_W} {cells slots pc : Nat} {lv : List (Nat × Value)} {st : List Value} {q : Nat → Nat} {fr : va_W} {σ : TS} {P : Int → TS → Prop} (h : w_baseLine σ P) (hR : 11 + 1 ≤ d ∧ 16 + (6 + 11) + 100 * 11 ≤ 100 * d) (hc : cells ≤ mc ∧ slots ≤ ms) (hst : (st.map fun v => v.category).sum ≤ 16) (hdg : decode cc pc = .ok (.invokevirtual 231, 3)) (k : ∀ r, ∀ σ2, (r = 0 ∨ r = 1) → P r σ2 → WW G l cc RX5 nL ret mn d mc ms R sh cells slots [tw G q σ2, fr] (pc + 3) lv (vI r :: st)) : WW G l cc RX5 nL ret mn d mc ms R sh cells slots [tw G q σ, fr] pc lv (.ref (q 100) :: st) := by
  refine tw_call2 (n := 0) (t_baseLine (q := q) h) (lw_V q2388 q2390 qs72 q117 q2391) ⟨rfl, by decide, by decide, by decide +kernel⟩ rfl hR hc rfl hst hdg ?_
  exact fun r σ2 z h => k r σ2 z h
