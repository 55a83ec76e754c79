/-! THE TWIN: weakest preconditions and walks (printed by tools/twin.py) -/
set_option maxRecDepth 100000
/-! clears -/
def w_clears (σ : TS) (a1 : Int) (a2 : Int) (a3 : Int) (P : TS → Prop) : Prop :=
  (0 ≤ (16 * a2) + a3 ∧ (16 * a2) + a3 < 256) ∧
  ∀ x_2 : Int, x_2 = tA σ 37 ((16 * a2) + a3) →
  ∃ I16 : Nat → Int → TS → Prop, (∀ (n16 : Nat) (v5_16 : Int) (σ16 : TS), I16 n16 v5_16 σ16 →
    rI v5_16 ∧
    ((16 ≤ v5_16 →
      P σ16) ∧
    (v5_16 < 16 →
      (0 ≤ (16 * a2) + v5_16 ∧ (16 * a2) + v5_16 < 256) ∧
      (0 ≤ (16 * a1) + v5_16 ∧ (16 * a1) + v5_16 < 256) ∧
      rI ((tA σ16 37 ((16 * a2) + v5_16)) - (x_2 * (tA σ16 37 ((16 * a1) + v5_16)))) ∧
      w_p σ16 (fun y_7 =>
        w_modulo ((tA σ16 37 ((16 * a2) + v5_16)) - (x_2 * (tA σ16 37 ((16 * a1) + v5_16)))) y_7 (fun y_8 =>
          (0 ≤ (16 * a2) + v5_16 ∧ (16 * a2) + v5_16 < 256) ∧
          ∃ m : Nat, m < n16 ∧ I16 m (v5_16 + 1) (sA σ16 37 ((16 * a2) + v5_16) y_8)))))) ∧
  ∃ m : Nat, I16 m 0 σ
set_option maxHeartbeats 4000000 in
theorem t_clears {G : g_G} {l : Launch} {q : Nat → Nat} {σ : TS} {a1 : Int} {a2 : Int} {a3 : Int} {P : TS → Prop} (h : w_clears σ a1 a2 a3 P) : CT G l yX5_clears cX5_clears 6 (Option.none : Option Jvm.ClassFile.FieldType) 1 0 0 [.ref (q 100), vI a1, vI a2, vI a3] [tw G q σ] (tR0 (fun _ s => P s)) (fun u => [tw G q u.2]) := by
  unfold w_clears at h
  refine ww_of (by decide) (Nat.le_of_ble_eq_true rfl) (fun fr => ?_)
  show WW G l cX5_clears RX5 6 (Option.none : Option Jvm.ClassFile.FieldType) "clears" 1 0 0 (tR0 (fun _ s => P s)) (tS G q fr) 0 0 [tw G q σ, fr] 0 [(0, .ref (q 100)), (1, vI a1), (2, vI a2), (3, vI a3)] []
  refine ww_aload_n dX5_clears_0 0 rfl ?_
  refine tg_37 dX5_clears_1 ?_
  refine ww_bipush (v := 16) dX5_clears_4 rfl ?_
  refine ww_iload_n dX5_clears_6 2 rfl ?_
  refine ww_imul dX5_clears_7 ?_
  refine ww_iload_n dX5_clears_8 3 rfl ?_
  refine ww_iadd dX5_clears_9 ?_
  obtain ⟨r_1, h⟩ := h
  refine ta_37 r_1 dX5_clears_10 ?_
  refine ww_nmI (fun x_2 ex_2 => ?_)
  replace h := h x_2 ex_2
  refine ww_istore dX5_clears_11 (Nat.le_of_ble_eq_true rfl) rfl ?_
  refine ww_iconst dX5_clears_13 ?_
  refine ww_istore dX5_clears_14 (Nat.le_of_ble_eq_true rfl) rfl ?_
  obtain ⟨I16, hI16, h⟩ := h
  have kI16 : ∀ (n16 : Nat), ∀ (v5_16 : Int), ∀ (σ16 : TS), I16 n16 v5_16 σ16 → WW G l cX5_clears RX5 6 (Option.none : Option Jvm.ClassFile.FieldType) "clears" 1 0 0 (tR0 (fun _ s => P s)) (tS G q fr) 0 0 [tw G q σ16, fr] 16 [(0, .ref (q 100)), (1, vI a1), (2, vI a2), (4, vI x_2), (5, vI v5_16)] [] := by
    intro n16
    induction n16 using Nat.strongRecOn with
    | ind n16 ih16 =>
      intro v5_16 σ16 hj
      have h := hI16 n16 v5_16 σ16 hj
      refine ww_iload dX5_clears_16 4 rfl ?_
      refine ww_bipush (v := 16) dX5_clears_18 rfl ?_
      obtain ⟨r_3, h⟩ := h
      refine ww_icmp_ge (tgt := 77) dX5_clears_20 (by decide) r_3 (by decide) (fun c => ?_) (fun c => ?_)
      · replace h := h.1 c
        exact ww_vret (0, σ16) rfl ⟨rfl, h⟩ rfl (Nat.le_refl _) (Nat.le_refl _) dX5_clears_77
      · replace h := h.2 (Int.not_le.mp c)
        refine ww_aload_n dX5_clears_23 0 rfl ?_
        refine tg_37 dX5_clears_24 ?_
        refine ww_bipush (v := 16) dX5_clears_27 rfl ?_
        refine ww_iload_n dX5_clears_29 2 rfl ?_
        refine ww_imul dX5_clears_30 ?_
        refine ww_iload dX5_clears_31 4 rfl ?_
        refine ww_iadd dX5_clears_33 ?_
        refine ww_aload_n dX5_clears_34 0 rfl ?_
        refine tg_37 dX5_clears_35 ?_
        refine ww_bipush (v := 16) dX5_clears_38 rfl ?_
        refine ww_iload_n dX5_clears_40 2 rfl ?_
        refine ww_imul dX5_clears_41 ?_
        refine ww_iload dX5_clears_42 4 rfl ?_
        refine ww_iadd dX5_clears_44 ?_
        obtain ⟨r_4, h⟩ := h
        refine ta_37 r_4 dX5_clears_45 ?_
        refine ww_iload dX5_clears_46 3 rfl ?_
        refine ww_aload_n dX5_clears_48 0 rfl ?_
        refine tg_37 dX5_clears_49 ?_
        refine ww_bipush (v := 16) dX5_clears_52 rfl ?_
        refine ww_iload_n dX5_clears_54 1 rfl ?_
        refine ww_imul dX5_clears_55 ?_
        refine ww_iload dX5_clears_56 4 rfl ?_
        refine ww_iadd dX5_clears_58 ?_
        obtain ⟨r_5, h⟩ := h
        refine ta_37 r_5 dX5_clears_59 ?_
        refine ww_imul dX5_clears_60 ?_
        refine ww_isub dX5_clears_61 ?_
        obtain ⟨r_6, h⟩ := h
        refine ww_i2l dX5_clears_62 r_6 ?_
        refine ww_aload_n dX5_clears_63 0 rfl ?_
        refine tc_p h ⟨Nat.le_of_ble_eq_true rfl, Nat.le_of_ble_eq_true rfl⟩ ⟨Nat.le_refl _, Nat.le_refl _⟩ (Nat.le_of_ble_eq_true rfl) dX5_clears_64 (fun y_7 h => ?_)
        refine tc_modulo h ⟨Nat.le_of_ble_eq_true rfl, Nat.le_of_ble_eq_true rfl⟩ ⟨Nat.le_refl _, Nat.le_refl _⟩ (Nat.le_of_ble_eq_true rfl) dX5_clears_67 (fun y_8 h => ?_)
        obtain ⟨r_9, h⟩ := h
        refine ts_37 r_9 dX5_clears_70 ?_
        refine ww_iinc dX5_clears_71 4 rfl (Nat.le_of_ble_eq_true rfl) rfl ?_
        refine ww_goto (tgt := 16) dX5_clears_74 (by decide) ?_
        refine ww_lv [1, 2, 3, 4, 0] rfl ?_
        obtain ⟨m, hm, h⟩ := h
        exact ih16 m hm _ _ h
  refine ww_lv [2, 3, 4, 1, 0] rfl ?_
  obtain ⟨m, h⟩ := h
  exact kI16 m _ _ h
theorem tc_clears {S : Type} {G : g_G} {l : Launch} {cc : ByteArray} {nL : Nat} {ret : Option FieldType} {mn : String} {d mc ms : Nat} {R : Option Value → S → Prop} {sh : S → List va_W} {cells slots pc : Nat} {lv : List (Nat × Value)} {st : List Value} {q : Nat → Nat} {fr : va_W} {σ : TS} {a1 : Int} {a2 : Int} {a3 : Int} {P : TS → Prop} (h : w_clears σ a1 a2 a3 P) (hR : 1 + 1 ≤ d ∧ 16 + (6 + 11) + 100 * 1 ≤ 100 * d) (hc : cells ≤ mc ∧ slots ≤ ms) (hst : (st.map fun v => v.category).sum ≤ 16) (hdg : decode cc pc = .ok (.invokevirtual 285, 3)) (k : ∀ σ2, P σ2 → WW G l cc RX5 nL ret mn d mc ms R sh cells slots [tw G q σ2, fr] (pc + 3) lv (st)) : WW G l cc RX5 nL ret mn d mc ms R sh cells slots [tw G q σ, fr] pc lv (vI a3 :: vI a2 :: vI a1 :: .ref (q 100) :: st) := by
  refine tw_call0 (n := 3) (t_clears (q := q) h) (lw_V q2477 q2479 qs85 q117 q2480) ⟨rfl, by decide, by decide, by decide +kernel⟩ rfl hR hc rfl hst hdg ?_
  exact k
/-! inverse -/
def w_inverse (σ : TS) (a1 : Int) (P : Int → Prop) : Prop :=
  ∃ I2 : Nat → Int → Prop, (∀ (n2 : Nat) (v2_2 : Int), I2 n2 v2_2 →
    w_p σ (fun y_1 =>
      (0 ≤ a1 * v2_2 ∧ (a1 * v2_2) < 2147483648 ∧ (0 : Int) < y_1 ∧ (y_1 : Int) < 2147483648) ∧
      rI ((a1 * v2_2) % y_1) ∧
      ((((a1 * v2_2) % y_1) = 1 →
        P v2_2) ∧
      (¬ ((a1 * v2_2) % y_1) = 1 →
        ∃ m : Nat, m < n2 ∧ I2 m (v2_2 + 1))))) ∧
  ∃ m : Nat, I2 m 1
set_option maxHeartbeats 4000000 in
theorem t_inverse {G : g_G} {l : Launch} {q : Nat → Nat} {σ : TS} {a1 : Int} {P : Int → Prop} (h : w_inverse σ a1 P) : CT G l yX5_inverse cX5_inverse 3 (Option.some Jvm.ClassFile.FieldType.int) 1 0 0 [.ref (q 100), vI a1] [tw G q σ] (tR1 (fun r s => s = σ ∧ P r)) (fun u => [tw G q u.2]) := by
  unfold w_inverse at h
  refine ww_of (by decide) (Nat.le_of_ble_eq_true rfl) (fun fr => ?_)
  show WW G l cX5_inverse RX5 3 (Option.some Jvm.ClassFile.FieldType.int) "inverse" 1 0 0 (tR1 (fun r s => s = σ ∧ P r)) (tS G q fr) 0 0 [tw G q σ, fr] 0 [(0, .ref (q 100)), (1, vI a1)] []
  refine ww_iconst dX5_inverse_0 ?_
  refine ww_istore_n dX5_inverse_1 rfl (Nat.le_of_ble_eq_true rfl) rfl ?_
  obtain ⟨I2, hI2, h⟩ := h
  have kI2 : ∀ (n2 : Nat), ∀ (v2_2 : Int), I2 n2 v2_2 → WW G l cX5_inverse RX5 3 (Option.some Jvm.ClassFile.FieldType.int) "inverse" 1 0 0 (tR1 (fun r s => s = σ ∧ P r)) (tS G q fr) 0 0 [tw G q σ, fr] 2 [(0, .ref (q 100)), (1, vI a1), (2, vI v2_2)] [] := by
    intro n2
    induction n2 using Nat.strongRecOn with
    | ind n2 ih2 =>
      intro v2_2 hj
      have h := hI2 n2 v2_2 hj
      refine ww_iload_n dX5_inverse_2 1 rfl ?_
      refine ww_iload_n dX5_inverse_3 2 rfl ?_
      refine ww_imul dX5_inverse_4 ?_
      refine ww_aload_n dX5_inverse_5 0 rfl ?_
      refine tc_p h ⟨Nat.le_of_ble_eq_true rfl, Nat.le_of_ble_eq_true rfl⟩ ⟨Nat.le_refl _, Nat.le_refl _⟩ (Nat.le_of_ble_eq_true rfl) dX5_inverse_6 (fun y_1 h => ?_)
      obtain ⟨r_2, h⟩ := h
      refine ww_irem dX5_inverse_9 r_2 ?_
      refine ww_iconst dX5_inverse_10 ?_
      obtain ⟨r_3, h⟩ := h
      refine ww_icmp_eq (tgt := 20) dX5_inverse_11 (by decide) r_3 (by decide) (fun c => ?_) (fun c => ?_)
      · replace h := h.1 c
        refine ww_iload_n dX5_inverse_20 2 rfl ?_
        exact ww_iret (v2_2, σ) rfl ⟨rfl, ⟨rfl, h⟩⟩ rfl (Nat.le_refl _) (Nat.le_refl _) dX5_inverse_21
      · replace h := h.2 c
        refine ww_iinc dX5_inverse_14 2 rfl (Nat.le_of_ble_eq_true rfl) rfl ?_
        refine ww_goto (tgt := 2) dX5_inverse_17 (by decide) ?_
        refine ww_lv [1, 2, 0] rfl ?_
        obtain ⟨m, hm, h⟩ := h
        exact ih2 m hm _ h
  refine ww_lv [1, 2, 0] rfl ?_
  obtain ⟨m, h⟩ := h
  exact kI2 m _ h
theorem tc_inverse {S : Type} {G : g_G} {l : Launch} {cc : ByteArray} {nL : Nat} {ret : Option FieldType} {mn : String} {d mc ms : Nat} {R : Option Value → S → Prop} {sh : S → List va_W} {cells slots pc : Nat} {lv : List (Nat × Value)} {st : List Value} {q : Nat → Nat} {fr : va_W} {σ : TS} {a1 : Int} {P : Int → Prop} (h : w_inverse σ a1 P) (hR : 1 + 1 ≤ d ∧ 16 + (3 + 11) + 100 * 1 ≤ 100 * d) (hc : cells ≤ mc ∧ slots ≤ ms) (hst : (st.map fun v => v.category).sum ≤ 16) (hdg : decode cc pc = .ok (.invokevirtual 282, 3)) (k : ∀ r, P r → WW G l cc RX5 nL ret mn d mc ms R sh cells slots [tw G q σ, fr] (pc + 3) lv (vI r :: st)) : WW G l cc RX5 nL ret mn d mc ms R sh cells slots [tw G q σ, fr] pc lv (vI a1 :: .ref (q 100) :: st) := by
  refine tw_call1 (n := 1) (t_inverse (q := q) h) (lw_V q2473 q2475 qs84 q117 q2476) ⟨rfl, by decide, by decide, by decide +kernel⟩ rfl hR hc rfl hst hdg ?_
  rintro r σ2 ⟨rfl, h2⟩
  exact k r h2
/-! ranked -/
def w_ranked (σ : TS) (a1 : Int) (a2 : Int) (P : Int → TS → Prop) : Prop :=
  ∃ I5 : Nat → Int → Int → TS → Prop, (∀ (n5 : Nat) (v3_5 : Int) (v4_5 : Int) (σ5 : TS), I5 n5 v3_5 v4_5 σ5 →
    rI v4_5 ∧
    rI a2 ∧
    ((a2 ≤ v4_5 →
      P v3_5 σ5) ∧
    (v4_5 < a2 →
      rI v3_5 ∧
      rI a1 ∧
      ((a1 ≤ v3_5 →
        P v3_5 σ5) ∧
      (v3_5 < a1 →
        ∃ I19 : Nat → Int → Prop, (∀ (n19 : Nat) (v5_19 : Int), I19 n19 v5_19 →
          rI v5_19 ∧
          rI a1 ∧
          ∃ J47 : Prop, (J47 →
            rI v5_19 ∧
            rI a1 ∧
            ∃ J221 : Int → TS → Prop, (∀ (v3_221 : Int) (σ221 : TS), J221 v3_221 σ221 →
              ∃ m : Nat, m < n5 ∧ I5 m v3_221 (v4_5 + 1) σ221) ∧
            ((¬ v5_19 = a1 →
              ∃ I59 : Nat → Int → TS → Prop, (∀ (n59 : Nat) (v6_59 : Int) (σ59 : TS), I59 n59 v6_59 σ59 →
                rI v6_59 ∧
                ((16 ≤ v6_59 →
                  (0 ≤ (16 * v3_5) + v4_5 ∧ (16 * v3_5) + v4_5 < 256) ∧
                  w_inverse σ59 (tA σ59 37 ((16 * v3_5) + v4_5)) (fun y_11 =>
                    ∃ I147 : Nat → Int → TS → Prop, (∀ (n147 : Nat) (v7_147 : Int) (σ147 : TS), I147 n147 v7_147 σ147 →
                      rI v7_147 ∧
                      ((16 ≤ v7_147 →
                        ∃ I197 : Nat → Int → TS → Prop, (∀ (n197 : Nat) (v7_197 : Int) (σ197 : TS), I197 n197 v7_197 σ197 →
                          rI v7_197 ∧
                          rI a1 ∧
                          ((a1 ≤ v7_197 →
                            J221 (v3_5 + 1) σ197) ∧
                          (v7_197 < a1 →
                            w_clears σ197 v3_5 v7_197 v4_5 (fun σ_15 =>
                              ∃ m : Nat, m < n197 ∧ I197 m (v7_197 + 1) σ_15)))) ∧
                        ∃ m : Nat, I197 m (v3_5 + 1) σ147) ∧
                      (v7_147 < 16 →
                        (0 ≤ (16 * v3_5) + v7_147 ∧ (16 * v3_5) + v7_147 < 256) ∧
                        w_p σ147 (fun y_17 =>
                          (0 ≤ (tA σ147 37 ((16 * v3_5) + v7_147)) * y_11 ∧ ((tA σ147 37 ((16 * v3_5) + v7_147)) * y_11) < 2147483648 ∧ (0 : Int) < y_17 ∧ (y_17 : Int) < 2147483648) ∧
                          (0 ≤ (16 * v3_5) + v7_147 ∧ (16 * v3_5) + v7_147 < 256) ∧
                          ∃ m : Nat, m < n147 ∧ I147 m (v7_147 + 1) (sA σ147 37 ((16 * v3_5) + v7_147) (((tA σ147 37 ((16 * v3_5) + v7_147)) * y_11) % y_17)))))) ∧
                    ∃ m : Nat, I147 m 0 σ59)) ∧
                (v6_59 < 16 →
                  (0 ≤ (16 * v5_19) + v6_59 ∧ (16 * v5_19) + v6_59 < 256) ∧
                  ∀ x_21 : Int, x_21 = tA σ59 37 ((16 * v5_19) + v6_59) →
                  (0 ≤ (16 * v3_5) + v6_59 ∧ (16 * v3_5) + v6_59 < 256) ∧
                  (0 ≤ (16 * v5_19) + v6_59 ∧ (16 * v5_19) + v6_59 < 256) ∧
                  (0 ≤ (16 * v3_5) + v6_59 ∧ (16 * v3_5) + v6_59 < 256) ∧
                  ∃ m : Nat, m < n59 ∧ I59 m (v6_59 + 1) (sA (sA σ59 37 ((16 * v5_19) + v6_59) (tA σ59 37 ((16 * v3_5) + v6_59))) 37 ((16 * v3_5) + v6_59) x_21)))) ∧
              ∃ m : Nat, I59 m 0 σ5) ∧
            (v5_19 = a1 →
              J221 v3_5 σ5))) ∧
          ((a1 ≤ v5_19 →
            J47) ∧
          (v5_19 < a1 →
            (0 ≤ (16 * v5_19) + v4_5 ∧ (16 * v5_19) + v4_5 < 256) ∧
            rI (tA σ5 37 ((16 * v5_19) + v4_5)) ∧
            ((¬ (tA σ5 37 ((16 * v5_19) + v4_5)) = 0 →
              J47) ∧
            ((tA σ5 37 ((16 * v5_19) + v4_5)) = 0 →
              ∃ m : Nat, m < n19 ∧ I19 m (v5_19 + 1)))))) ∧
        ∃ m : Nat, I19 m v3_5))))) ∧
  ∃ m : Nat, I5 m 0 0 σ
set_option maxHeartbeats 4000000 in
theorem t_ranked {G : g_G} {l : Launch} {q : Nat → Nat} {σ : TS} {a1 : Int} {a2 : Int} {P : Int → TS → Prop} (h : w_ranked σ a1 a2 P) : CT G l yX5_ranked cX5_ranked 8 (Option.some Jvm.ClassFile.FieldType.int) 2 0 0 [.ref (q 100), vI a1, vI a2] [tw G q σ] (tR1 (P)) (fun u => [tw G q u.2]) := by
  unfold w_ranked at h
  refine ww_of (by decide) (Nat.le_of_ble_eq_true rfl) (fun fr => ?_)
  show WW G l cX5_ranked RX5 8 (Option.some Jvm.ClassFile.FieldType.int) "ranked" 2 0 0 (tR1 (P)) (tS G q fr) 0 0 [tw G q σ, fr] 0 [(0, .ref (q 100)), (1, vI a1), (2, vI a2)] []
  refine ww_iconst dX5_ranked_0 ?_
  refine ww_istore_n dX5_ranked_1 rfl (Nat.le_of_ble_eq_true rfl) rfl ?_
  refine ww_iconst dX5_ranked_2 ?_
  refine ww_istore dX5_ranked_3 (Nat.le_of_ble_eq_true rfl) rfl ?_
  obtain ⟨I5, hI5, h⟩ := h
  have kI5 : ∀ (n5 : Nat), ∀ (v3_5 : Int), ∀ (v4_5 : Int), ∀ (σ5 : TS), I5 n5 v3_5 v4_5 σ5 → WW G l cX5_ranked RX5 8 (Option.some Jvm.ClassFile.FieldType.int) "ranked" 2 0 0 (tR1 (P)) (tS G q fr) 0 0 [tw G q σ5, fr] 5 [(0, .ref (q 100)), (1, vI a1), (2, vI a2), (3, vI v3_5), (4, vI v4_5)] [] := by
    intro n5
    induction n5 using Nat.strongRecOn with
    | ind n5 ih5 =>
      intro v3_5 v4_5 σ5 hj
      have h := hI5 n5 v3_5 v4_5 σ5 hj
      refine ww_iload dX5_ranked_5 4 rfl ?_
      refine ww_iload_n dX5_ranked_7 2 rfl ?_
      obtain ⟨r_1, r_2, h⟩ := h
      refine ww_icmp_ge (tgt := 227) dX5_ranked_8 (by decide) r_1 r_2 (fun c => ?_) (fun c => ?_)
      · replace h := h.1 c
        refine ww_iload_n dX5_ranked_227 3 rfl ?_
        exact ww_iret (v3_5, σ5) rfl ⟨rfl, h⟩ rfl (Nat.le_refl _) (Nat.le_refl _) dX5_ranked_228
      · replace h := h.2 (Int.not_le.mp c)
        refine ww_iload_n dX5_ranked_11 3 rfl ?_
        refine ww_iload_n dX5_ranked_12 1 rfl ?_
        obtain ⟨r_3, r_4, h⟩ := h
        refine ww_icmp_ge (tgt := 227) dX5_ranked_13 (by decide) r_3 r_4 (fun c => ?_) (fun c => ?_)
        · replace h := h.1 c
          refine ww_iload_n dX5_ranked_227 3 rfl ?_
          exact ww_iret (v3_5, σ5) rfl ⟨rfl, h⟩ rfl (Nat.le_refl _) (Nat.le_refl _) dX5_ranked_228
        · replace h := h.2 (Int.not_le.mp c)
          refine ww_iload_n dX5_ranked_16 3 rfl ?_
          refine ww_istore dX5_ranked_17 (Nat.le_of_ble_eq_true rfl) rfl ?_
          obtain ⟨I19, hI19, h⟩ := h
          have kI19 : ∀ (n19 : Nat), ∀ (v5_19 : Int), I19 n19 v5_19 → WW G l cX5_ranked RX5 8 (Option.some Jvm.ClassFile.FieldType.int) "ranked" 2 0 0 (tR1 (P)) (tS G q fr) 0 0 [tw G q σ5, fr] 19 [(0, .ref (q 100)), (1, vI a1), (2, vI a2), (3, vI v3_5), (4, vI v4_5), (5, vI v5_19)] [] := by
            intro n19
            induction n19 using Nat.strongRecOn with
            | ind n19 ih19 =>
              intro v5_19 hj
              have h := hI19 n19 v5_19 hj
              refine ww_iload dX5_ranked_19 5 rfl ?_
              refine ww_iload_n dX5_ranked_21 1 rfl ?_
              obtain ⟨r_5, r_6, h⟩ := h
              obtain ⟨J47, hJ47, h⟩ := h
              have kJ47 : J47 → WW G l cX5_ranked RX5 8 (Option.some Jvm.ClassFile.FieldType.int) "ranked" 2 0 0 (tR1 (P)) (tS G q fr) 0 0 [tw G q σ5, fr] 47 [(0, .ref (q 100)), (1, vI a1), (2, vI a2), (3, vI v3_5), (4, vI v4_5), (5, vI v5_19)] [] := by
                intro hj
                have h := hJ47 hj
                refine ww_iload dX5_ranked_47 5 rfl ?_
                refine ww_iload_n dX5_ranked_49 1 rfl ?_
                obtain ⟨r_7, r_8, h⟩ := h
                obtain ⟨J221, hJ221, h⟩ := h
                have kJ221 : ∀ (v3_221 : Int), ∀ (σ221 : TS), J221 v3_221 σ221 → WW G l cX5_ranked RX5 8 (Option.some Jvm.ClassFile.FieldType.int) "ranked" 2 0 0 (tR1 (P)) (tS G q fr) 0 0 [tw G q σ221, fr] 221 [(0, .ref (q 100)), (1, vI a1), (2, vI a2), (3, vI v3_221), (4, vI v4_5)] [] := by
                  intro v3_221 σ221 hj
                  have h := hJ221 v3_221 σ221 hj
                  refine ww_iinc dX5_ranked_221 4 rfl (Nat.le_of_ble_eq_true rfl) rfl ?_
                  refine ww_goto (tgt := 5) dX5_ranked_224 (by decide) ?_
                  refine ww_lv [1, 2, 3, 4, 0] rfl ?_
                  obtain ⟨m, hm, h⟩ := h
                  exact ih5 m hm _ _ _ h
                refine ww_icmp_ne (tgt := 56) dX5_ranked_50 (by decide) r_7 r_8 (fun c => ?_) (fun c => ?_)
                · replace h := h.1 c
                  refine ww_iconst dX5_ranked_56 ?_
                  refine ww_istore dX5_ranked_57 (Nat.le_of_ble_eq_true rfl) rfl ?_
                  obtain ⟨I59, hI59, h⟩ := h
                  have kI59 : ∀ (n59 : Nat), ∀ (v6_59 : Int), ∀ (σ59 : TS), I59 n59 v6_59 σ59 → WW G l cX5_ranked RX5 8 (Option.some Jvm.ClassFile.FieldType.int) "ranked" 2 0 0 (tR1 (P)) (tS G q fr) 0 0 [tw G q σ59, fr] 59 [(0, .ref (q 100)), (1, vI a1), (2, vI a2), (3, vI v3_5), (4, vI v4_5), (5, vI v5_19), (6, vI v6_59)] [] := by
                    intro n59
                    induction n59 using Nat.strongRecOn with
                    | ind n59 ih59 =>
                      intro v6_59 σ59 hj
                      have h := hI59 n59 v6_59 σ59 hj
                      refine ww_iload dX5_ranked_59 6 rfl ?_
                      refine ww_bipush (v := 16) dX5_ranked_61 rfl ?_
                      obtain ⟨r_9, h⟩ := h
                      refine ww_icmp_ge (tgt := 126) dX5_ranked_63 (by decide) r_9 (by decide) (fun c => ?_) (fun c => ?_)
                      · replace h := h.1 c
                        refine ww_aload_n dX5_ranked_126 0 rfl ?_
                        refine ww_aload_n dX5_ranked_127 0 rfl ?_
                        refine tg_37 dX5_ranked_128 ?_
                        refine ww_bipush (v := 16) dX5_ranked_131 rfl ?_
                        refine ww_iload_n dX5_ranked_133 3 rfl ?_
                        refine ww_imul dX5_ranked_134 ?_
                        refine ww_iload dX5_ranked_135 4 rfl ?_
                        refine ww_iadd dX5_ranked_137 ?_
                        obtain ⟨r_10, h⟩ := h
                        refine ta_37 r_10 dX5_ranked_138 ?_
                        refine tc_inverse h ⟨Nat.le_of_ble_eq_true rfl, Nat.le_of_ble_eq_true rfl⟩ ⟨Nat.le_refl _, Nat.le_refl _⟩ (Nat.le_of_ble_eq_true rfl) dX5_ranked_139 (fun y_11 h => ?_)
                        refine ww_istore dX5_ranked_142 (Nat.le_of_ble_eq_true rfl) rfl ?_
                        refine ww_iconst dX5_ranked_144 ?_
                        refine ww_istore dX5_ranked_145 (Nat.le_of_ble_eq_true rfl) rfl ?_
                        obtain ⟨I147, hI147, h⟩ := h
                        have kI147 : ∀ (n147 : Nat), ∀ (v7_147 : Int), ∀ (σ147 : TS), I147 n147 v7_147 σ147 → WW G l cX5_ranked RX5 8 (Option.some Jvm.ClassFile.FieldType.int) "ranked" 2 0 0 (tR1 (P)) (tS G q fr) 0 0 [tw G q σ147, fr] 147 [(0, .ref (q 100)), (1, vI a1), (2, vI a2), (3, vI v3_5), (4, vI v4_5), (6, vI y_11), (7, vI v7_147)] [] := by
                          intro n147
                          induction n147 using Nat.strongRecOn with
                          | ind n147 ih147 =>
                            intro v7_147 σ147 hj
                            have h := hI147 n147 v7_147 σ147 hj
                            refine ww_iload dX5_ranked_147 6 rfl ?_
                            refine ww_bipush (v := 16) dX5_ranked_149 rfl ?_
                            obtain ⟨r_12, h⟩ := h
                            refine ww_icmp_ge (tgt := 192) dX5_ranked_151 (by decide) r_12 (by decide) (fun c => ?_) (fun c => ?_)
                            · replace h := h.1 c
                              refine ww_iload_n dX5_ranked_192 3 rfl ?_
                              refine ww_iconst dX5_ranked_193 ?_
                              refine ww_iadd dX5_ranked_194 ?_
                              refine ww_istore dX5_ranked_195 (Nat.le_of_ble_eq_true rfl) rfl ?_
                              obtain ⟨I197, hI197, h⟩ := h
                              have kI197 : ∀ (n197 : Nat), ∀ (v7_197 : Int), ∀ (σ197 : TS), I197 n197 v7_197 σ197 → WW G l cX5_ranked RX5 8 (Option.some Jvm.ClassFile.FieldType.int) "ranked" 2 0 0 (tR1 (P)) (tS G q fr) 0 0 [tw G q σ197, fr] 197 [(0, .ref (q 100)), (1, vI a1), (2, vI a2), (3, vI v3_5), (4, vI v4_5), (7, vI v7_197)] [] := by
                                intro n197
                                induction n197 using Nat.strongRecOn with
                                | ind n197 ih197 =>
                                  intro v7_197 σ197 hj
                                  have h := hI197 n197 v7_197 σ197 hj
                                  refine ww_iload dX5_ranked_197 5 rfl ?_
                                  refine ww_iload_n dX5_ranked_199 1 rfl ?_
                                  obtain ⟨r_13, r_14, h⟩ := h
                                  refine ww_icmp_ge (tgt := 218) dX5_ranked_200 (by decide) r_13 r_14 (fun c => ?_) (fun c => ?_)
                                  · replace h := h.1 c
                                    refine ww_iinc dX5_ranked_218 3 rfl (Nat.le_of_ble_eq_true rfl) rfl ?_
                                    refine ww_lv [1, 2, 3, 0, 4] rfl ?_
                                    exact kJ221 _ _ h
                                  · replace h := h.2 (Int.not_le.mp c)
                                    refine ww_aload_n dX5_ranked_203 0 rfl ?_
                                    refine ww_iload_n dX5_ranked_204 3 rfl ?_
                                    refine ww_iload dX5_ranked_205 5 rfl ?_
                                    refine ww_iload dX5_ranked_207 4 rfl ?_
                                    refine tc_clears h ⟨Nat.le_of_ble_eq_true rfl, Nat.le_of_ble_eq_true rfl⟩ ⟨Nat.le_refl _, Nat.le_refl _⟩ (Nat.le_of_ble_eq_true rfl) dX5_ranked_209 (fun σ_15 h => ?_)
                                    refine ww_iinc dX5_ranked_212 5 rfl (Nat.le_of_ble_eq_true rfl) rfl ?_
                                    refine ww_goto (tgt := 197) dX5_ranked_215 (by decide) ?_
                                    refine ww_lv [1, 2, 3, 4, 5, 0] rfl ?_
                                    obtain ⟨m, hm, h⟩ := h
                                    exact ih197 m hm _ _ h
                              refine ww_lv [1, 2, 3, 4, 5, 0] rfl ?_
                              obtain ⟨m, h⟩ := h
                              exact kI197 m _ _ h
                            · replace h := h.2 (Int.not_le.mp c)
                              refine ww_aload_n dX5_ranked_154 0 rfl ?_
                              refine tg_37 dX5_ranked_155 ?_
                              refine ww_bipush (v := 16) dX5_ranked_158 rfl ?_
                              refine ww_iload_n dX5_ranked_160 3 rfl ?_
                              refine ww_imul dX5_ranked_161 ?_
                              refine ww_iload dX5_ranked_162 6 rfl ?_
                              refine ww_iadd dX5_ranked_164 ?_
                              refine ww_aload_n dX5_ranked_165 0 rfl ?_
                              refine tg_37 dX5_ranked_166 ?_
                              refine ww_bipush (v := 16) dX5_ranked_169 rfl ?_
                              refine ww_iload_n dX5_ranked_171 3 rfl ?_
                              refine ww_imul dX5_ranked_172 ?_
                              refine ww_iload dX5_ranked_173 6 rfl ?_
                              refine ww_iadd dX5_ranked_175 ?_
                              obtain ⟨r_16, h⟩ := h
                              refine ta_37 r_16 dX5_ranked_176 ?_
                              refine ww_iload dX5_ranked_177 5 rfl ?_
                              refine ww_imul dX5_ranked_179 ?_
                              refine ww_aload_n dX5_ranked_180 0 rfl ?_
                              refine tc_p h ⟨Nat.le_of_ble_eq_true rfl, Nat.le_of_ble_eq_true rfl⟩ ⟨Nat.le_refl _, Nat.le_refl _⟩ (Nat.le_of_ble_eq_true rfl) dX5_ranked_181 (fun y_17 h => ?_)
                              obtain ⟨r_18, h⟩ := h
                              refine ww_irem dX5_ranked_184 r_18 ?_
                              obtain ⟨r_19, h⟩ := h
                              refine ts_37 r_19 dX5_ranked_185 ?_
                              refine ww_iinc dX5_ranked_186 6 rfl (Nat.le_of_ble_eq_true rfl) rfl ?_
                              refine ww_goto (tgt := 147) dX5_ranked_189 (by decide) ?_
                              refine ww_lv [1, 2, 3, 4, 5, 6, 0] rfl ?_
                              obtain ⟨m, hm, h⟩ := h
                              exact ih147 m hm _ _ h
                        refine ww_lv [2, 3, 4, 5, 6, 1, 0] rfl ?_
                        obtain ⟨m, h⟩ := h
                        exact kI147 m _ _ h
                      · replace h := h.2 (Int.not_le.mp c)
                        refine ww_aload_n dX5_ranked_66 0 rfl ?_
                        refine tg_37 dX5_ranked_67 ?_
                        refine ww_bipush (v := 16) dX5_ranked_70 rfl ?_
                        refine ww_iload dX5_ranked_72 5 rfl ?_
                        refine ww_imul dX5_ranked_74 ?_
                        refine ww_iload dX5_ranked_75 6 rfl ?_
                        refine ww_iadd dX5_ranked_77 ?_
                        obtain ⟨r_20, h⟩ := h
                        refine ta_37 r_20 dX5_ranked_78 ?_
                        refine ww_nmI (fun x_21 ex_21 => ?_)
                        replace h := h x_21 ex_21
                        refine ww_istore dX5_ranked_79 (Nat.le_of_ble_eq_true rfl) rfl ?_
                        refine ww_aload_n dX5_ranked_81 1 rfl ?_
                        refine tg_37 dX5_ranked_82 ?_
                        refine ww_bipush (v := 16) dX5_ranked_85 rfl ?_
                        refine ww_iload dX5_ranked_87 6 rfl ?_
                        refine ww_imul dX5_ranked_89 ?_
                        refine ww_iload dX5_ranked_90 7 rfl ?_
                        refine ww_iadd dX5_ranked_92 ?_
                        refine ww_aload_n dX5_ranked_93 1 rfl ?_
                        refine tg_37 dX5_ranked_94 ?_
                        refine ww_bipush (v := 16) dX5_ranked_97 rfl ?_
                        refine ww_iload_n dX5_ranked_99 4 rfl ?_
                        refine ww_imul dX5_ranked_100 ?_
                        refine ww_iload dX5_ranked_101 7 rfl ?_
                        refine ww_iadd dX5_ranked_103 ?_
                        obtain ⟨r_22, h⟩ := h
                        refine ta_37 r_22 dX5_ranked_104 ?_
                        obtain ⟨r_23, h⟩ := h
                        refine ts_37 r_23 dX5_ranked_105 ?_
                        refine ww_aload_n dX5_ranked_106 1 rfl ?_
                        refine tg_37 dX5_ranked_107 ?_
                        refine ww_bipush (v := 16) dX5_ranked_110 rfl ?_
                        refine ww_iload_n dX5_ranked_112 4 rfl ?_
                        refine ww_imul dX5_ranked_113 ?_
                        refine ww_iload dX5_ranked_114 7 rfl ?_
                        refine ww_iadd dX5_ranked_116 ?_
                        refine ww_iload dX5_ranked_117 0 rfl ?_
                        obtain ⟨r_24, h⟩ := h
                        refine ts_37 r_24 dX5_ranked_119 ?_
                        refine ww_iinc dX5_ranked_120 7 rfl (Nat.le_of_ble_eq_true rfl) rfl ?_
                        refine ww_goto (tgt := 59) dX5_ranked_123 (by decide) ?_
                        refine ww_lv [2, 3, 4, 5, 6, 7, 0] rfl ?_
                        obtain ⟨m, hm, h⟩ := h
                        exact ih59 m hm _ _ h
                  refine ww_lv [1, 2, 3, 4, 5, 6, 0] rfl ?_
                  obtain ⟨m, h⟩ := h
                  exact kI59 m _ _ h
                · replace h := h.2 c
                  refine ww_goto (tgt := 221) dX5_ranked_53 (by decide) ?_
                  refine ww_lv [0, 1, 2, 3, 4] rfl ?_
                  exact kJ221 _ _ h
              refine ww_icmp_ge (tgt := 47) dX5_ranked_22 (by decide) r_5 r_6 (fun c => ?_) (fun c => ?_)
              · replace h := h.1 c
                exact kJ47 h
              · replace h := h.2 (Int.not_le.mp c)
                refine ww_aload_n dX5_ranked_25 0 rfl ?_
                refine tg_37 dX5_ranked_26 ?_
                refine ww_bipush (v := 16) dX5_ranked_29 rfl ?_
                refine ww_iload dX5_ranked_31 5 rfl ?_
                refine ww_imul dX5_ranked_33 ?_
                refine ww_iload dX5_ranked_34 4 rfl ?_
                refine ww_iadd dX5_ranked_36 ?_
                obtain ⟨r_25, h⟩ := h
                refine ta_37 r_25 dX5_ranked_37 ?_
                obtain ⟨r_26, h⟩ := h
                refine ww_if_ne (tgt := 47) dX5_ranked_38 (by decide) r_26 (fun c => ?_) (fun c => ?_)
                · replace h := h.1 c
                  exact kJ47 h
                · replace h := h.2 c
                  refine ww_iinc dX5_ranked_41 5 rfl (Nat.le_of_ble_eq_true rfl) rfl ?_
                  refine ww_goto (tgt := 19) dX5_ranked_44 (by decide) ?_
                  refine ww_lv [1, 2, 3, 4, 5, 0] rfl ?_
                  obtain ⟨m, hm, h⟩ := h
                  exact ih19 m hm _ h
          refine ww_lv [1, 2, 3, 4, 5, 0] rfl ?_
          obtain ⟨m, h⟩ := h
          exact kI19 m _ h
  refine ww_lv [2, 3, 4, 1, 0] rfl ?_
  obtain ⟨m, h⟩ := h
  exact kI5 m _ _ _ h
theorem tc_ranked {S : Type} {G : g_G} {l : Launch} {cc : ByteArray} {nL : Nat} {ret : Option FieldType} {mn : String} {d mc ms : Nat} {R : Option Value → S → Prop} {sh : S → List va_W} {cells slots pc : Nat} {lv : List (Nat × Value)} {st : List Value} {q : Nat → Nat} {fr : va_W} {σ : TS} {a1 : Int} {a2 : Int} {P : Int → TS → Prop} (h : w_ranked σ a1 a2 P) (hR : 2 + 1 ≤ d ∧ 16 + (8 + 11) + 100 * 2 ≤ 100 * d) (hc : cells ≤ mc ∧ slots ≤ ms) (hst : (st.map fun v => v.category).sum ≤ 16) (hdg : decode cc pc = .ok (.invokevirtual 293, 3)) (k : ∀ r, ∀ σ2, P r σ2 → WW G l cc RX5 nL ret mn d mc ms R sh cells slots [tw G q σ2, fr] (pc + 3) lv (vI r :: st)) : WW G l cc RX5 nL ret mn d mc ms R sh cells slots [tw G q σ, fr] pc lv (vI a2 :: vI a1 :: .ref (q 100) :: st) := by
  refine tw_call1 (n := 2) (t_ranked (q := q) h) (lw_V q2469 q2471 qs83 q117 q2472) ⟨rfl, by decide, by decide, by decide +kernel⟩ rfl hR hc rfl hst hdg ?_
  exact fun r σ2 h => k r σ2 h
/-! spread -/
def w_spread (a1 : Int) (a2 : Int) (a3 : Int) (P : Int → Prop) : Prop :=
  ∃ I8 : Nat → Int → Int → Int → Prop, (∀ (n8 : Nat) (v3_8 : Int) (v4_8 : Int) (v5_8 : Int), I8 n8 v3_8 v4_8 v5_8 →
    rI v5_8 ∧
    rI a3 ∧
    ((a3 ≤ v5_8 →
      P v4_8) ∧
    (v5_8 < a3 →
      ∃ J42 : Int → Int → Prop, (∀ (v3_42 : Int) (v4_42 : Int), J42 v3_42 v4_42 →
        ∃ m : Nat, m < n8 ∧ I8 m v3_42 v4_42 (v5_8 + 1)) ∧
      ((¬ (bA (bR a2 v5_8) 1) = 0 →
        ∀ x_3 : Int, x_3 = bO v4_8 (bL (bA (bR a1 v3_8) 1) v5_8) →
        J42 (v3_8 + 1) x_3) ∧
      ((bA (bR a2 v5_8) 1) = 0 →
        J42 v3_8 v4_8))))) ∧
  ∃ m : Nat, I8 m 0 0 0
set_option maxHeartbeats 4000000 in
theorem t_spread {G : g_G} {l : Launch} {a1 : Int} {a2 : Int} {a3 : Int} {P : Int → Prop} (h : w_spread a1 a2 a3 P) : CT G l yX5_spread cX5_spread 6 (Option.some Jvm.ClassFile.FieldType.int) 0 0 0 [vI a1, vI a2, vI a3] [] (uR1 P) (fun _ => []) := by
  unfold w_spread at h
  refine ww_of (by decide) (Nat.le_of_ble_eq_true rfl) (fun fr => ?_)
  show WW G l cX5_spread RX5 6 (Option.some Jvm.ClassFile.FieldType.int) "spread" 0 0 0 (uR1 P) (fun _ => [fr]) 0 0 [fr] 0 [(0, vI a1), (1, vI a2), (2, vI a3)] []
  refine ww_iconst dX5_spread_0 ?_
  refine ww_istore_n dX5_spread_1 rfl (Nat.le_of_ble_eq_true rfl) rfl ?_
  refine ww_iconst dX5_spread_2 ?_
  refine ww_istore dX5_spread_3 (Nat.le_of_ble_eq_true rfl) rfl ?_
  refine ww_iconst dX5_spread_5 ?_
  refine ww_istore dX5_spread_6 (Nat.le_of_ble_eq_true rfl) rfl ?_
  obtain ⟨I8, hI8, h⟩ := h
  have kI8 : ∀ (n8 : Nat), ∀ (v3_8 : Int), ∀ (v4_8 : Int), ∀ (v5_8 : Int), I8 n8 v3_8 v4_8 v5_8 → WW G l cX5_spread RX5 6 (Option.some Jvm.ClassFile.FieldType.int) "spread" 0 0 0 (uR1 P) (fun _ => [fr]) 0 0 [fr] 8 [(0, vI a1), (1, vI a2), (2, vI a3), (3, vI v3_8), (4, vI v4_8), (5, vI v5_8)] [] := by
    intro n8
    induction n8 using Nat.strongRecOn with
    | ind n8 ih8 =>
      intro v3_8 v4_8 v5_8 hj
      have h := hI8 n8 v3_8 v4_8 v5_8 hj
      refine ww_iload dX5_spread_8 5 rfl ?_
      refine ww_iload_n dX5_spread_10 2 rfl ?_
      obtain ⟨r_1, r_2, h⟩ := h
      refine ww_icmp_ge (tgt := 48) dX5_spread_11 (by decide) r_1 r_2 (fun c => ?_) (fun c => ?_)
      · replace h := h.1 c
        refine ww_iload dX5_spread_48 4 rfl ?_
        exact ww_iret v4_8 rfl ⟨rfl, h⟩ rfl (Nat.le_refl _) (Nat.le_refl _) dX5_spread_50
      · replace h := h.2 (Int.not_le.mp c)
        refine ww_iload_n dX5_spread_14 1 rfl ?_
        refine ww_iload dX5_spread_15 5 rfl ?_
        refine ww_ishr dX5_spread_17 ?_
        refine ww_iconst dX5_spread_18 ?_
        refine ww_iand dX5_spread_19 ?_
        obtain ⟨J42, hJ42, h⟩ := h
        have kJ42 : ∀ (v3_42 : Int), ∀ (v4_42 : Int), J42 v3_42 v4_42 → WW G l cX5_spread RX5 6 (Option.some Jvm.ClassFile.FieldType.int) "spread" 0 0 0 (uR1 P) (fun _ => [fr]) 0 0 [fr] 42 [(0, vI a1), (1, vI a2), (2, vI a3), (3, vI v3_42), (4, vI v4_42), (5, vI v5_8)] [] := by
          intro v3_42 v4_42 hj
          have h := hJ42 v3_42 v4_42 hj
          refine ww_iinc dX5_spread_42 5 rfl (Nat.le_of_ble_eq_true rfl) rfl ?_
          refine ww_goto (tgt := 8) dX5_spread_45 (by decide) ?_
          refine ww_lv [1, 2, 3, 4, 5, 0] rfl ?_
          obtain ⟨m, hm, h⟩ := h
          exact ih8 m hm _ _ _ h
        refine ww_if_ne (tgt := 26) dX5_spread_20 (by decide) (rI_bA _ _) (fun c => ?_) (fun c => ?_)
        · replace h := h.1 c
          refine ww_iload dX5_spread_26 4 rfl ?_
          refine ww_iload_n dX5_spread_28 0 rfl ?_
          refine ww_iload_n dX5_spread_29 3 rfl ?_
          refine ww_ishr dX5_spread_30 ?_
          refine ww_iconst dX5_spread_31 ?_
          refine ww_iand dX5_spread_32 ?_
          refine ww_iload dX5_spread_33 5 rfl ?_
          refine ww_ishl dX5_spread_35 ?_
          refine ww_ior dX5_spread_36 ?_
          refine ww_nmI (fun x_3 ex_3 => ?_)
          replace h := h x_3 ex_3
          have rx_3 : rI x_3 := by rw [ex_3]; exact (rI_bO _ _)
          refine ww_istore dX5_spread_37 (Nat.le_of_ble_eq_true rfl) rfl ?_
          refine ww_iinc dX5_spread_39 4 rfl (Nat.le_of_ble_eq_true rfl) rfl ?_
          refine ww_lv [2, 3, 4, 0, 1, 5] rfl ?_
          exact kJ42 _ _ h
        · replace h := h.2 c
          refine ww_goto (tgt := 42) dX5_spread_23 (by decide) ?_
          exact kJ42 _ _ h
  refine ww_lv [3, 4, 5, 2, 1, 0] rfl ?_
  obtain ⟨m, h⟩ := h
  exact kI8 m _ _ _ h
theorem tc_spread {S : Type} {G : g_G} {l : Launch} {cc : ByteArray} {nL : Nat} {ret : Option FieldType} {mn : String} {d mc ms : Nat} {R : Option Value → S → Prop} {sh : S → List va_W} {cells slots pc : Nat} {lv : List (Nat × Value)} {st : List Value} {Ws : List va_W} {a1 : Int} {a2 : Int} {a3 : Int} {P : Int → Prop} (h : w_spread a1 a2 a3 P) (hR : 0 + 1 ≤ d ∧ 16 + (6 + 11) + 100 * 0 ≤ 100 * d) (hc : cells ≤ mc ∧ slots ≤ ms) (hst : (st.map fun v => v.category).sum ≤ 16) (hdg : decode cc pc = .ok (.invokestatic 289, 3)) (k : ∀ r, P r → WW G l cc RX5 nL ret mn d mc ms R sh cells slots Ws (pc + 3) lv (vI r :: st)) : WW G l cc RX5 nL ret mn d mc ms R sh cells slots Ws pc lv (vI a3 :: vI a2 :: vI a1 :: st) := by
  refine tw_callS1 (n := 3) (t_spread h) (lw_S q2466 q2467 q117 q2468) ⟨by decide, by decide, by decide +kernel⟩ rfl hR hc rfl hst hdg ?_
  exact k
/-! rank -/
def w_rank (σ : TS) (a1 : Int) (a2 : Int) (P : Int → TS → Prop) : Prop :=
  w_isTable (sF σ 0 0) a1 (fun y_1 =>
    ((y_1 = 0 →
      P (-1) (sF σ 0 0)) ∧
    (¬ y_1 = 0 →
      rI a2 ∧
      (0 ≤ a1 ∧ a1 < 16) ∧
      rI ((bL 1 (tA σ 20 a1)) - 1) ∧
      w_within a2 0 ((bL 1 (tA σ 20 a1)) - 1) (fun y_6 =>
        ((¬ y_6 = 0 →
          (0 ≤ a1 ∧ a1 < 16) ∧
          w_bits a2 (fun y_9 =>
            w_bits a2 (fun y_10 =>
              ∀ x_11 : Int, x_11 = bL 1 ((tA σ 20 a1) - y_10) →
              ∃ I63 : Nat → Int → TS → Prop, (∀ (n63 : Nat) (v6_63 : Int) (σ63 : TS), I63 n63 v6_63 σ63 →
                rI v6_63 ∧
                ((256 ≤ v6_63 →
                  ∃ I88 : Nat → Int → TS → Prop, (∀ (n88 : Nat) (v6_88 : Int) (σ88 : TS), I88 n88 v6_88 σ88 →
                    rI v6_88 ∧
                    (((bL 1 y_9) ≤ v6_88 →
                      w_ranked σ88 (bL 1 y_9) x_11 (fun y_14 σ_15 =>
                        P y_14 σ_15)) ∧
                    (v6_88 < (bL 1 y_9) →
                      ∃ I98 : Nat → Int → TS → Prop, (∀ (n98 : Nat) (v7_98 : Int) (σ98 : TS), I98 n98 v7_98 σ98 →
                        rI v7_98 ∧
                        ((x_11 ≤ v7_98 →
                          ∃ m : Nat, m < n88 ∧ I88 m (v6_88 + 1) σ98) ∧
                        (v7_98 < x_11 →
                          w_spread v6_88 a2 (tA σ 20 a1) (fun y_17 =>
                            w_spread v7_98 (bA ((bL 1 (tA σ 20 a1)) - 1) (bX a2 (-1))) (tA σ 20 a1) (fun y_18 =>
                              (0 ≤ (16 * a1) + (bO y_17 y_18) ∧ (16 * a1) + (bO y_17 y_18) < 256) ∧
                              (0 ≤ (16 * v6_88) + v7_98 ∧ (16 * v6_88) + v7_98 < 256) ∧
                              ∃ m : Nat, m < n98 ∧ I98 m (v7_98 + 1) (sA σ98 37 ((16 * v6_88) + v7_98) (tA σ98 21 ((16 * a1) + (bO y_17 y_18))))))))) ∧
                      ∃ m : Nat, I98 m 0 σ88))) ∧
                  ∃ m : Nat, I88 m 0 σ63) ∧
                (v6_63 < 256 →
                  (0 ≤ v6_63 ∧ v6_63 < 256) ∧
                  ∃ m : Nat, m < n63 ∧ I63 m (v6_63 + 1) (sA σ63 37 v6_63 0)))) ∧
              ∃ m : Nat, I63 m 0 (sF σ 0 0)))) ∧
        (y_6 = 0 →
          P (-1) (sF σ 0 0)))))))
set_option maxHeartbeats 4000000 in
theorem t_rank {G : g_G} {l : Launch} {q : Nat → Nat} {σ : TS} {a1 : Int} {a2 : Int} {P : Int → TS → Prop} (h : w_rank σ a1 a2 P) : CT G l yX5_rank cX5_rank 8 (Option.some Jvm.ClassFile.FieldType.int) 3 0 0 [.ref (q 100), vI a1, vI a2] [tw G q σ] (tR1 (P)) (fun u => [tw G q u.2]) := by
  unfold w_rank at h
  refine ww_of (by decide) (Nat.le_of_ble_eq_true rfl) (fun fr => ?_)
  show WW G l cX5_rank RX5 8 (Option.some Jvm.ClassFile.FieldType.int) "rank" 3 0 0 (tR1 (P)) (tS G q fr) 0 0 [tw G q σ, fr] 0 [(0, .ref (q 100)), (1, vI a1), (2, vI a2)] []
  refine ww_aload_n dX5_rank_0 0 rfl ?_
  refine ww_iconst dX5_rank_1 ?_
  refine tp_0 dX5_rank_2 ?_
  refine ww_aload_n dX5_rank_5 0 rfl ?_
  refine ww_iload_n dX5_rank_6 1 rfl ?_
  refine tc_isTable h ⟨Nat.le_of_ble_eq_true rfl, Nat.le_of_ble_eq_true rfl⟩ ⟨Nat.le_refl _, Nat.le_refl _⟩ (Nat.le_of_ble_eq_true rfl) dX5_rank_7 (fun y_1 z_2 h => ?_)
  refine ww_if_eq (tgt := 33) dX5_rank_10 (by decide) (z01 z_2) (fun c => ?_) (fun c => ?_)
  · replace h := h.1 c
    refine ww_iconst dX5_rank_33 ?_
    exact ww_iret ((-1), sF σ 0 0) rfl ⟨rfl, h⟩ rfl (Nat.le_refl _) (Nat.le_refl _) dX5_rank_34
  · replace h := h.2 c
    refine ww_iload_n dX5_rank_13 2 rfl ?_
    obtain ⟨r_3, h⟩ := h
    refine ww_i2l dX5_rank_14 r_3 ?_
    refine ww_lconst (v := 0) dX5_rank_15 rfl ?_
    refine ww_iconst dX5_rank_16 ?_
    refine ww_aload_n dX5_rank_17 0 rfl ?_
    refine tg_20 dX5_rank_18 ?_
    refine ww_iload_n dX5_rank_21 1 rfl ?_
    obtain ⟨r_4, h⟩ := h
    refine ta_20 r_4 dX5_rank_22 ?_
    refine ww_ishl dX5_rank_23 ?_
    refine ww_iconst dX5_rank_24 ?_
    refine ww_isub dX5_rank_25 ?_
    obtain ⟨r_5, h⟩ := h
    refine ww_i2l dX5_rank_26 r_5 ?_
    refine tc_within h ⟨Nat.le_of_ble_eq_true rfl, Nat.le_of_ble_eq_true rfl⟩ ⟨Nat.le_refl _, Nat.le_refl _⟩ (Nat.le_of_ble_eq_true rfl) dX5_rank_27 (fun y_6 z_7 h => ?_)
    refine ww_if_ne (tgt := 35) dX5_rank_30 (by decide) (z01 z_7) (fun c => ?_) (fun c => ?_)
    · replace h := h.1 c
      refine ww_aload_n dX5_rank_35 0 rfl ?_
      refine tg_20 dX5_rank_36 ?_
      refine ww_iload_n dX5_rank_39 1 rfl ?_
      obtain ⟨r_8, h⟩ := h
      refine ta_20 r_8 dX5_rank_40 ?_
      refine ww_istore_n dX5_rank_41 rfl (Nat.le_of_ble_eq_true rfl) rfl ?_
      refine ww_iconst dX5_rank_42 ?_
      refine ww_iload_n dX5_rank_43 3 rfl ?_
      refine tc_bits h ⟨Nat.le_of_ble_eq_true rfl, Nat.le_of_ble_eq_true rfl⟩ ⟨Nat.le_refl _, Nat.le_refl _⟩ (Nat.le_of_ble_eq_true rfl) dX5_rank_44 (fun y_9 h => ?_)
      refine ww_ishl dX5_rank_47 ?_
      refine ww_istore dX5_rank_48 (Nat.le_of_ble_eq_true rfl) rfl ?_
      refine ww_iconst dX5_rank_50 ?_
      refine ww_iload_n dX5_rank_51 1 rfl ?_
      refine ww_iload_n dX5_rank_52 4 rfl ?_
      refine tc_bits h ⟨Nat.le_of_ble_eq_true rfl, Nat.le_of_ble_eq_true rfl⟩ ⟨Nat.le_refl _, Nat.le_refl _⟩ (Nat.le_of_ble_eq_true rfl) dX5_rank_53 (fun y_10 h => ?_)
      refine ww_isub dX5_rank_56 ?_
      refine ww_ishl dX5_rank_57 ?_
      refine ww_nmI (fun x_11 ex_11 => ?_)
      replace h := h x_11 ex_11
      have rx_11 : rI x_11 := by rw [ex_11]; exact (rI_bL _ _)
      refine ww_istore dX5_rank_58 (Nat.le_of_ble_eq_true rfl) rfl ?_
      refine ww_iconst dX5_rank_60 ?_
      refine ww_istore dX5_rank_61 (Nat.le_of_ble_eq_true rfl) rfl ?_
      obtain ⟨I63, hI63, h⟩ := h
      have kI63 : ∀ (n63 : Nat), ∀ (v6_63 : Int), ∀ (σ63 : TS), I63 n63 v6_63 σ63 → WW G l cX5_rank RX5 8 (Option.some Jvm.ClassFile.FieldType.int) "rank" 3 0 0 (tR1 (P)) (tS G q fr) 0 0 [tw G q σ63, fr] 63 [(0, .ref (q 100)), (1, vI a1), (2, vI a2), (3, vI (tA σ 20 a1)), (4, vI (bL 1 y_9)), (5, vI x_11), (6, vI v6_63)] [] := by
        intro n63
        induction n63 using Nat.strongRecOn with
        | ind n63 ih63 =>
          intro v6_63 σ63 hj
          have h := hI63 n63 v6_63 σ63 hj
          refine ww_iload dX5_rank_63 6 rfl ?_
          refine ww_sipush (v := 256) dX5_rank_65 rfl ?_
          obtain ⟨r_12, h⟩ := h
          refine ww_icmp_ge (tgt := 85) dX5_rank_68 (by decide) r_12 (by decide) (fun c => ?_) (fun c => ?_)
          · replace h := h.1 c
            refine ww_iconst dX5_rank_85 ?_
            refine ww_istore dX5_rank_86 (Nat.le_of_ble_eq_true rfl) rfl ?_
            obtain ⟨I88, hI88, h⟩ := h
            have kI88 : ∀ (n88 : Nat), ∀ (v6_88 : Int), ∀ (σ88 : TS), I88 n88 v6_88 σ88 → WW G l cX5_rank RX5 8 (Option.some Jvm.ClassFile.FieldType.int) "rank" 3 0 0 (tR1 (P)) (tS G q fr) 0 0 [tw G q σ88, fr] 88 [(0, .ref (q 100)), (1, vI a1), (2, vI a2), (3, vI (tA σ 20 a1)), (4, vI (bL 1 y_9)), (5, vI x_11), (6, vI v6_88)] [] := by
              intro n88
              induction n88 using Nat.strongRecOn with
              | ind n88 ih88 =>
                intro v6_88 σ88 hj
                have h := hI88 n88 v6_88 σ88 hj
                refine ww_iload dX5_rank_88 6 rfl ?_
                refine ww_iload dX5_rank_90 4 rfl ?_
                obtain ⟨r_13, h⟩ := h
                refine ww_icmp_ge (tgt := 163) dX5_rank_92 (by decide) r_13 (rI_bL _ _) (fun c => ?_) (fun c => ?_)
                · replace h := h.1 c
                  refine ww_aload_n dX5_rank_163 0 rfl ?_
                  refine ww_iload dX5_rank_164 4 rfl ?_
                  refine ww_iload dX5_rank_166 5 rfl ?_
                  refine tc_ranked h ⟨Nat.le_of_ble_eq_true rfl, Nat.le_of_ble_eq_true rfl⟩ ⟨Nat.le_refl _, Nat.le_refl _⟩ (Nat.le_of_ble_eq_true rfl) dX5_rank_168 (fun y_14 σ_15 h => ?_)
                  exact ww_iret (y_14, σ_15) rfl ⟨rfl, h⟩ rfl (Nat.le_refl _) (Nat.le_refl _) dX5_rank_171
                · replace h := h.2 (Int.not_le.mp c)
                  refine ww_iconst dX5_rank_95 ?_
                  refine ww_istore dX5_rank_96 (Nat.le_of_ble_eq_true rfl) rfl ?_
                  obtain ⟨I98, hI98, h⟩ := h
                  have kI98 : ∀ (n98 : Nat), ∀ (v7_98 : Int), ∀ (σ98 : TS), I98 n98 v7_98 σ98 → WW G l cX5_rank RX5 8 (Option.some Jvm.ClassFile.FieldType.int) "rank" 3 0 0 (tR1 (P)) (tS G q fr) 0 0 [tw G q σ98, fr] 98 [(0, .ref (q 100)), (1, vI a1), (2, vI a2), (3, vI (tA σ 20 a1)), (4, vI (bL 1 y_9)), (5, vI x_11), (6, vI v6_88), (7, vI v7_98)] [] := by
                    intro n98
                    induction n98 using Nat.strongRecOn with
                    | ind n98 ih98 =>
                      intro v7_98 σ98 hj
                      have h := hI98 n98 v7_98 σ98 hj
                      refine ww_iload dX5_rank_98 7 rfl ?_
                      refine ww_iload dX5_rank_100 5 rfl ?_
                      obtain ⟨r_16, h⟩ := h
                      refine ww_icmp_ge (tgt := 157) dX5_rank_102 (by decide) r_16 rx_11 (fun c => ?_) (fun c => ?_)
                      · replace h := h.1 c
                        refine ww_iinc dX5_rank_157 6 rfl (Nat.le_of_ble_eq_true rfl) rfl ?_
                        refine ww_goto (tgt := 88) dX5_rank_160 (by decide) ?_
                        refine ww_lv [1, 2, 3, 4, 5, 6, 0] rfl ?_
                        obtain ⟨m, hm, h⟩ := h
                        exact ih88 m hm _ _ h
                      · replace h := h.2 (Int.not_le.mp c)
                        refine ww_aload_n dX5_rank_105 0 rfl ?_
                        refine tg_37 dX5_rank_106 ?_
                        refine ww_bipush (v := 16) dX5_rank_109 rfl ?_
                        refine ww_iload dX5_rank_111 6 rfl ?_
                        refine ww_imul dX5_rank_113 ?_
                        refine ww_iload dX5_rank_114 7 rfl ?_
                        refine ww_iadd dX5_rank_116 ?_
                        refine ww_aload_n dX5_rank_117 0 rfl ?_
                        refine tg_21 dX5_rank_118 ?_
                        refine ww_bipush (v := 16) dX5_rank_121 rfl ?_
                        refine ww_iload_n dX5_rank_123 1 rfl ?_
                        refine ww_imul dX5_rank_124 ?_
                        refine ww_iload dX5_rank_125 6 rfl ?_
                        refine ww_iload_n dX5_rank_127 2 rfl ?_
                        refine ww_iload_n dX5_rank_128 3 rfl ?_
                        refine tc_spread h ⟨Nat.le_of_ble_eq_true rfl, Nat.le_of_ble_eq_true rfl⟩ ⟨Nat.le_refl _, Nat.le_refl _⟩ (Nat.le_of_ble_eq_true rfl) dX5_rank_129 (fun y_17 h => ?_)
                        refine ww_iload dX5_rank_132 7 rfl ?_
                        refine ww_iconst dX5_rank_134 ?_
                        refine ww_iload_n dX5_rank_135 3 rfl ?_
                        refine ww_ishl dX5_rank_136 ?_
                        refine ww_iconst dX5_rank_137 ?_
                        refine ww_isub dX5_rank_138 ?_
                        refine ww_iload_n dX5_rank_139 2 rfl ?_
                        refine ww_iconst dX5_rank_140 ?_
                        refine ww_ixor dX5_rank_141 ?_
                        refine ww_iand dX5_rank_142 ?_
                        refine ww_iload_n dX5_rank_143 3 rfl ?_
                        refine tc_spread h ⟨Nat.le_of_ble_eq_true rfl, Nat.le_of_ble_eq_true rfl⟩ ⟨Nat.le_refl _, Nat.le_refl _⟩ (Nat.le_of_ble_eq_true rfl) dX5_rank_144 (fun y_18 h => ?_)
                        refine ww_ior dX5_rank_147 ?_
                        refine ww_iadd dX5_rank_148 ?_
                        obtain ⟨r_19, h⟩ := h
                        refine ta_21 r_19 dX5_rank_149 ?_
                        obtain ⟨r_20, h⟩ := h
                        refine ts_37 r_20 dX5_rank_150 ?_
                        refine ww_iinc dX5_rank_151 7 rfl (Nat.le_of_ble_eq_true rfl) rfl ?_
                        refine ww_goto (tgt := 98) dX5_rank_154 (by decide) ?_
                        refine ww_lv [1, 2, 3, 4, 5, 6, 7, 0] rfl ?_
                        obtain ⟨m, hm, h⟩ := h
                        exact ih98 m hm _ _ h
                  refine ww_lv [1, 2, 3, 4, 5, 6, 7, 0] rfl ?_
                  obtain ⟨m, h⟩ := h
                  exact kI98 m _ _ h
            refine ww_lv [1, 2, 3, 4, 5, 6, 0] rfl ?_
            obtain ⟨m, h⟩ := h
            exact kI88 m _ _ h
          · replace h := h.2 (Int.not_le.mp c)
            refine ww_aload_n dX5_rank_71 0 rfl ?_
            refine tg_37 dX5_rank_72 ?_
            refine ww_iload dX5_rank_75 6 rfl ?_
            refine ww_iconst dX5_rank_77 ?_
            obtain ⟨r_21, h⟩ := h
            refine ts_37 r_21 dX5_rank_78 ?_
            refine ww_iinc dX5_rank_79 6 rfl (Nat.le_of_ble_eq_true rfl) rfl ?_
            refine ww_goto (tgt := 63) dX5_rank_82 (by decide) ?_
            refine ww_lv [1, 2, 3, 4, 5, 6, 0] rfl ?_
            obtain ⟨m, hm, h⟩ := h
            exact ih63 m hm _ _ h
      refine ww_lv [4, 5, 6, 3, 2, 1, 0] rfl ?_
      obtain ⟨m, h⟩ := h
      exact kI63 m _ _ h
    · replace h := h.2 c
      refine ww_iconst dX5_rank_33 ?_
      exact ww_iret ((-1), sF σ 0 0) rfl ⟨rfl, h⟩ rfl (Nat.le_refl _) (Nat.le_refl _) dX5_rank_34

/-! det -/
def w_det (σ : TS) (a1 : Int) (P : Int → Prop) : Prop :=
  (0 ≤ 4 * a1 ∧ 4 * a1 < 40) ∧
  (0 ≤ (4 * a1) + 3 ∧ (4 * a1) + 3 < 40) ∧
  (0 ≤ (4 * a1) + 1 ∧ (4 * a1) + 1 < 40) ∧
  (0 ≤ (4 * a1) + 2 ∧ (4 * a1) + 2 < 40) ∧
  rI (((tA σ 22 (4 * a1)) * (tA σ 22 ((4 * a1) + 3))) - ((tA σ 22 ((4 * a1) + 1)) * (tA σ 22 ((4 * a1) + 2)))) ∧
  w_p σ (fun y_6 =>
    w_modulo (((tA σ 22 (4 * a1)) * (tA σ 22 ((4 * a1) + 3))) - ((tA σ 22 ((4 * a1) + 1)) * (tA σ 22 ((4 * a1) + 2)))) y_6 (fun y_7 =>
      P y_7))
set_option maxHeartbeats 4000000 in
theorem t_det {G : g_G} {l : Launch} {q : Nat → Nat} {σ : TS} {a1 : Int} {P : Int → Prop} (h : w_det σ a1 P) : CT G l yX5_det cX5_det 2 (Option.some Jvm.ClassFile.FieldType.int) 1 0 0 [.ref (q 100), vI a1] [tw G q σ] (tR1 (fun r s => s = σ ∧ P r)) (fun u => [tw G q u.2]) := by
  unfold w_det at h
  refine ww_of (by decide) (Nat.le_of_ble_eq_true rfl) (fun fr => ?_)
  show WW G l cX5_det RX5 2 (Option.some Jvm.ClassFile.FieldType.int) "det" 1 0 0 (tR1 (fun r s => s = σ ∧ P r)) (tS G q fr) 0 0 [tw G q σ, fr] 0 [(0, .ref (q 100)), (1, vI a1)] []
  refine ww_aload_n dX5_det_0 0 rfl ?_
  refine tg_22 dX5_det_1 ?_
  refine ww_iconst dX5_det_4 ?_
  refine ww_iload_n dX5_det_5 1 rfl ?_
  refine ww_imul dX5_det_6 ?_
  obtain ⟨r_1, h⟩ := h
  refine ta_22 r_1 dX5_det_7 ?_
  refine ww_aload_n dX5_det_8 0 rfl ?_
  refine tg_22 dX5_det_9 ?_
  refine ww_iconst dX5_det_12 ?_
  refine ww_iload_n dX5_det_13 1 rfl ?_
  refine ww_imul dX5_det_14 ?_
  refine ww_iconst dX5_det_15 ?_
  refine ww_iadd dX5_det_16 ?_
  obtain ⟨r_2, h⟩ := h
  refine ta_22 r_2 dX5_det_17 ?_
  refine ww_imul dX5_det_18 ?_
  refine ww_aload_n dX5_det_19 0 rfl ?_
  refine tg_22 dX5_det_20 ?_
  refine ww_iconst dX5_det_23 ?_
  refine ww_iload_n dX5_det_24 1 rfl ?_
  refine ww_imul dX5_det_25 ?_
  refine ww_iconst dX5_det_26 ?_
  refine ww_iadd dX5_det_27 ?_
  obtain ⟨r_3, h⟩ := h
  refine ta_22 r_3 dX5_det_28 ?_
  refine ww_aload_n dX5_det_29 0 rfl ?_
  refine tg_22 dX5_det_30 ?_
  refine ww_iconst dX5_det_33 ?_
  refine ww_iload_n dX5_det_34 1 rfl ?_
  refine ww_imul dX5_det_35 ?_
  refine ww_iconst dX5_det_36 ?_
  refine ww_iadd dX5_det_37 ?_
  obtain ⟨r_4, h⟩ := h
  refine ta_22 r_4 dX5_det_38 ?_
  refine ww_imul dX5_det_39 ?_
  refine ww_isub dX5_det_40 ?_
  obtain ⟨r_5, h⟩ := h
  refine ww_i2l dX5_det_41 r_5 ?_
  refine ww_aload_n dX5_det_42 0 rfl ?_
  refine tc_p h ⟨Nat.le_of_ble_eq_true rfl, Nat.le_of_ble_eq_true rfl⟩ ⟨Nat.le_refl _, Nat.le_refl _⟩ (Nat.le_of_ble_eq_true rfl) dX5_det_43 (fun y_6 h => ?_)
  refine tc_modulo h ⟨Nat.le_of_ble_eq_true rfl, Nat.le_of_ble_eq_true rfl⟩ ⟨Nat.le_refl _, Nat.le_refl _⟩ (Nat.le_of_ble_eq_true rfl) dX5_det_46 (fun y_7 h => ?_)
  exact ww_iret (y_7, σ) rfl ⟨rfl, ⟨rfl, h⟩⟩ rfl (Nat.le_refl _) (Nat.le_refl _) dX5_det_49
theorem tc_det {S : Type} {G : g_G} {l : Launch} {cc : ByteArray} {nL : Nat} {ret : Option FieldType} {mn : String} {d mc ms : Nat} {R : Option Value → S → Prop} {sh : S → List va_W} {cells slots pc : Nat} {lv : List (Nat × Value)} {st : List Value} {q : Nat → Nat} {fr : va_W} {σ : TS} {a1 : Int} {P : Int → Prop} (h : w_det σ a1 P) (hR : 1 + 1 ≤ d ∧ 16 + (2 + 11) + 100 * 1 ≤ 100 * d) (hc : cells ≤ mc ∧ slots ≤ ms) (hst : (st.map fun v => v.category).sum ≤ 16) (hdg : decode cc pc = .ok (.invokevirtual 302, 3)) (k : ∀ r, P r → WW G l cc RX5 nL ret mn d mc ms R sh cells slots [tw G q σ, fr] (pc + 3) lv (vI r :: st)) : WW G l cc RX5 nL ret mn d mc ms R sh cells slots [tw G q σ, fr] pc lv (vI a1 :: .ref (q 100) :: st) := by
  refine tw_call1 (n := 1) (t_det (q := q) h) (lw_V q2490 q2492 qs87 q117 q2493) ⟨rfl, by decide, by decide, by decide +kernel⟩ rfl hR hc rfl hst hdg ?_
  rintro r σ2 ⟨rfl, h2⟩
  exact k r h2
/-! isBase -/
def w_isBase (σ : TS) (a1 : Int) (P : Int → Prop) : Prop :=
  rI a1 ∧
  rI ((tA σ 15 0) - 1) ∧
  w_within a1 0 ((tA σ 15 0) - 1) (fun y_3 =>
    P y_3)
set_option maxHeartbeats 4000000 in
theorem t_isBase {G : g_G} {l : Launch} {q : Nat → Nat} {σ : TS} {a1 : Int} {P : Int → Prop} (h : w_isBase σ a1 P) : CT G l yX5_isBase cX5_isBase 2 (Option.some Jvm.ClassFile.FieldType.boolean) 1 0 0 [.ref (q 100), vI a1] [tw G q σ] (tR2 (fun r s => s = σ ∧ P r)) (fun u => [tw G q u.2]) := by
  unfold w_isBase at h
  refine ww_of (by decide) (Nat.le_of_ble_eq_true rfl) (fun fr => ?_)
  show WW G l cX5_isBase RX5 2 (Option.some Jvm.ClassFile.FieldType.boolean) "isBase" 1 0 0 (tR2 (fun r s => s = σ ∧ P r)) (tS G q fr) 0 0 [tw G q σ, fr] 0 [(0, .ref (q 100)), (1, vI a1)] []
  refine ww_iload_n dX5_isBase_0 1 rfl ?_
  obtain ⟨r_1, h⟩ := h
  refine ww_i2l dX5_isBase_1 r_1 ?_
  refine ww_lconst (v := 0) dX5_isBase_2 rfl ?_
  refine ww_aload_n dX5_isBase_3 0 rfl ?_
  refine tg_15 dX5_isBase_4 ?_
  refine ww_iconst dX5_isBase_7 ?_
  refine ta_15 ⟨by decide, by decide⟩ dX5_isBase_8 ?_
  refine ww_iconst dX5_isBase_9 ?_
  refine ww_isub dX5_isBase_10 ?_
  obtain ⟨r_2, h⟩ := h
  refine ww_i2l dX5_isBase_11 r_2 ?_
  refine tc_within h ⟨Nat.le_of_ble_eq_true rfl, Nat.le_of_ble_eq_true rfl⟩ ⟨Nat.le_refl _, Nat.le_refl _⟩ (Nat.le_of_ble_eq_true rfl) dX5_isBase_12 (fun y_3 z_4 h => ?_)
  exact ww_zret (y_3, σ) rfl z_4 ⟨rfl, z_4, ⟨rfl, h⟩⟩ rfl (Nat.le_refl _) (Nat.le_refl _) dX5_isBase_15
theorem tc_isBase {S : Type} {G : g_G} {l : Launch} {cc : ByteArray} {nL : Nat} {ret : Option FieldType} {mn : String} {d mc ms : Nat} {R : Option Value → S → Prop} {sh : S → List va_W} {cells slots pc : Nat} {lv : List (Nat × Value)} {st : List Value} {q : Nat → Nat} {fr : va_W} {σ : TS} {a1 : Int} {P : Int → Prop} (h : w_isBase σ a1 P) (hR : 1 + 1 ≤ d ∧ 16 + (2 + 11) + 100 * 1 ≤ 100 * d) (hc : cells ≤ mc ∧ slots ≤ ms) (hst : (st.map fun v => v.category).sum ≤ 16) (hdg : decode cc pc = .ok (.invokevirtual 297, 3)) (k : ∀ r, (r = 0 ∨ r = 1) → P r → WW G l cc RX5 nL ret mn d mc ms R sh cells slots [tw G q σ, fr] (pc + 3) lv (vI r :: st)) : WW G l cc RX5 nL ret mn d mc ms R sh cells slots [tw G q σ, fr] pc lv (vI a1 :: .ref (q 100) :: st) := by
  refine tw_call2 (n := 1) (t_isBase (q := q) h) (lw_V q2485 q2487 qs86 q117 q2488) ⟨rfl, by decide, by decide, by decide +kernel⟩ rfl hR hc rfl hst hdg ?_
  rintro r σ2 z ⟨rfl, h2⟩
  exact k r z h2
/-! base -/
def w_base (σ : TS) (a1 : Int) (a2 : Int) (P : Int → TS → Prop) : Prop :=
  w_isBase σ a1 (fun y_1 =>
    ∃ J26 : Int → Prop, (∀ (s1_26 : Int), J26 s1_26 →
      rI s1_26 ∧
      ((¬ s1_26 = 1 →
        rI a2 ∧
        ((4 ≤ a2 →
          w_det (sF σ 0 s1_26) a1 (fun y_5 =>
            P y_5 (sF σ 0 s1_26))) ∧
        (a2 < 4 →
          (0 ≤ (4 * a1) + a2 ∧ (4 * a1) + a2 < 40) ∧
          P (tA σ 22 ((4 * a1) + a2)) (sF σ 0 s1_26)))) ∧
      (s1_26 = 1 →
        P 0 (sF σ 0 s1_26)))) ∧
    ∃ J25 : Prop, (J25 →
      J26 1) ∧
    ((y_1 = 0 →
      J25) ∧
    (¬ y_1 = 0 →
      rI a2 ∧
      w_within a2 0 4 (fun y_8 =>
        ((y_8 = 0 →
          J25) ∧
        (¬ y_8 = 0 →
          J26 0))))))
set_option maxHeartbeats 4000000 in
theorem t_base {G : g_G} {l : Launch} {q : Nat → Nat} {σ : TS} {a1 : Int} {a2 : Int} {P : Int → TS → Prop} (h : w_base σ a1 a2 P) : CT G l yX5_base cX5_base 3 (Option.some Jvm.ClassFile.FieldType.int) 2 0 0 [.ref (q 100), vI a1, vI a2] [tw G q σ] (tR1 (P)) (fun u => [tw G q u.2]) := by
  unfold w_base at h
  refine ww_of (by decide) (Nat.le_of_ble_eq_true rfl) (fun fr => ?_)
  show WW G l cX5_base RX5 3 (Option.some Jvm.ClassFile.FieldType.int) "base" 2 0 0 (tR1 (P)) (tS G q fr) 0 0 [tw G q σ, fr] 0 [(0, .ref (q 100)), (1, vI a1), (2, vI a2)] []
  refine ww_aload_n dX5_base_0 0 rfl ?_
  refine ww_aload_n dX5_base_1 0 rfl ?_
  refine ww_iload_n dX5_base_2 1 rfl ?_
  refine tc_isBase h ⟨Nat.le_of_ble_eq_true rfl, Nat.le_of_ble_eq_true rfl⟩ ⟨Nat.le_refl _, Nat.le_refl _⟩ (Nat.le_of_ble_eq_true rfl) dX5_base_3 (fun y_1 z_2 h => ?_)
  obtain ⟨J26, hJ26, h⟩ := h
  have kJ26 : ∀ (s1_26 : Int), J26 s1_26 → WW G l cX5_base RX5 3 (Option.some Jvm.ClassFile.FieldType.int) "base" 2 0 0 (tR1 (P)) (tS G q fr) 0 0 [tw G q σ, fr] 26 [(0, .ref (q 100)), (1, vI a1), (2, vI a2)] [vI s1_26, .ref (q 100)] := by
    intro s1_26 hj
    have h := hJ26 s1_26 hj
    refine tp_0 dX5_base_26 ?_
    refine ww_aload_n dX5_base_29 0 rfl ?_
    refine tg_0 dX5_base_30 ?_
    refine ww_iconst dX5_base_33 ?_
    obtain ⟨r_3, h⟩ := h
    refine ww_icmp_ne (tgt := 39) dX5_base_34 (by decide) r_3 (by decide) (fun c => ?_) (fun c => ?_)
    · replace h := h.1 c
      refine ww_iload_n dX5_base_39 2 rfl ?_
      refine ww_iconst dX5_base_40 ?_
      obtain ⟨r_4, h⟩ := h
      refine ww_icmp_ge (tgt := 57) dX5_base_41 (by decide) r_4 (by decide) (fun c => ?_) (fun c => ?_)
      · replace h := h.1 c
        refine ww_aload_n dX5_base_57 0 rfl ?_
        refine ww_iload_n dX5_base_58 1 rfl ?_
        refine tc_det h ⟨Nat.le_of_ble_eq_true rfl, Nat.le_of_ble_eq_true rfl⟩ ⟨Nat.le_refl _, Nat.le_refl _⟩ (Nat.le_of_ble_eq_true rfl) dX5_base_59 (fun y_5 h => ?_)
        exact ww_iret (y_5, sF σ 0 s1_26) rfl ⟨rfl, h⟩ rfl (Nat.le_refl _) (Nat.le_refl _) dX5_base_62
      · replace h := h.2 (Int.not_le.mp c)
        refine ww_aload_n dX5_base_44 0 rfl ?_
        refine tg_22 dX5_base_45 ?_
        refine ww_iconst dX5_base_48 ?_
        refine ww_iload_n dX5_base_49 1 rfl ?_
        refine ww_imul dX5_base_50 ?_
        refine ww_iload_n dX5_base_51 2 rfl ?_
        refine ww_iadd dX5_base_52 ?_
        obtain ⟨r_6, h⟩ := h
        refine ta_22 r_6 dX5_base_53 ?_
        refine ww_goto (tgt := 62) dX5_base_54 (by decide) ?_
        exact ww_iret (tA σ 22 ((4 * a1) + a2), sF σ 0 s1_26) rfl ⟨rfl, h⟩ rfl (Nat.le_refl _) (Nat.le_refl _) dX5_base_62
    · replace h := h.2 c
      refine ww_iconst dX5_base_37 ?_
      exact ww_iret (0, sF σ 0 s1_26) rfl ⟨rfl, h⟩ rfl (Nat.le_refl _) (Nat.le_refl _) dX5_base_38
  obtain ⟨J25, hJ25, h⟩ := h
  have kJ25 : J25 → WW G l cX5_base RX5 3 (Option.some Jvm.ClassFile.FieldType.int) "base" 2 0 0 (tR1 (P)) (tS G q fr) 0 0 [tw G q σ, fr] 25 [(0, .ref (q 100)), (1, vI a1), (2, vI a2)] [.ref (q 100)] := by
    intro hj
    have h := hJ25 hj
    refine ww_iconst dX5_base_25 ?_
    exact kJ26 _ h
  refine ww_if_eq (tgt := 25) dX5_base_6 (by decide) (z01 z_2) (fun c => ?_) (fun c => ?_)
  · replace h := h.1 c
    exact kJ25 h
  · replace h := h.2 c
    refine ww_iload_n dX5_base_9 2 rfl ?_
    obtain ⟨r_7, h⟩ := h
    refine ww_i2l dX5_base_10 r_7 ?_
    refine ww_lconst (v := 0) dX5_base_11 rfl ?_
    refine ww_ldc2 (x := 4) dX5_base_12 q2489 rfl ?_
    refine tc_within h ⟨Nat.le_of_ble_eq_true rfl, Nat.le_of_ble_eq_true rfl⟩ ⟨Nat.le_refl _, Nat.le_refl _⟩ (Nat.le_of_ble_eq_true rfl) dX5_base_15 (fun y_8 z_9 h => ?_)
    refine ww_if_eq (tgt := 25) dX5_base_18 (by decide) (z01 z_9) (fun c => ?_) (fun c => ?_)
    · replace h := h.1 c
      exact kJ25 h
    · replace h := h.2 c
      refine ww_iconst dX5_base_21 ?_
      refine ww_goto (tgt := 26) dX5_base_22 (by decide) ?_
      exact kJ26 _ h

