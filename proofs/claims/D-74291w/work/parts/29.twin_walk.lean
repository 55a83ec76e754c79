/-! THE TWIN: weakest preconditions and walks (printed by tools/twin.py) -/
set_option maxRecDepth 100000
/-! open -/
def w_open (σ : TS) (a1 : Int) (P : Int → TS → Prop) : Prop :=
  w_laysOpen (sF σ 0 0) (fun σ_1 =>
    rI a1 ∧
    ((¬ a1 = (-1) →
      rI a1 ∧
      rI ((tF σ_1 39) - 1) ∧
      w_within a1 0 ((tF σ_1 39) - 1) (fun y_5 =>
        ((y_5 = 0 →
          P (-2) σ_1) ∧
        (¬ y_5 = 0 →
          (0 ≤ a1 ∧ a1 < 24) ∧
          (0 ≤ tA σ_1 38 a1 ∧ (tA σ_1 38 a1) < 2147483648 ∧ (0 : Int) < 4 ∧ (4 : Int) < 2147483648) ∧
          (0 ≤ a1 ∧ a1 < 24) ∧
          (0 ≤ tA σ_1 38 a1 ∧ (tA σ_1 38 a1) < 2147483648 ∧ (0 : Int) < 4 ∧ (4 : Int) < 2147483648) ∧
          P ((((tA σ_1 38 a1) / 4) * 10) + ((tA σ_1 38 a1) % 4)) σ_1)))) ∧
    (a1 = (-1) →
      P (tF σ_1 39) σ_1)))
set_option maxHeartbeats 4000000 in
theorem t_open {G : g_G} {l : Launch} {q : Nat → Nat} {σ : TS} {a1 : Int} {P : Int → TS → Prop} (h : w_open σ a1 P) : CT G l yX5_open cX5_open 2 (Option.some Jvm.ClassFile.FieldType.int) 2 0 0 [.ref (q 100), vI a1] [tw G q σ] (tR1 (P)) (fun u => [tw G q u.2]) := by
  unfold w_open at h
  refine ww_of (by decide) (Nat.le_of_ble_eq_true rfl) (fun fr => ?_)
  show WW G l cX5_open RX5 2 (Option.some Jvm.ClassFile.FieldType.int) "open" 2 0 0 (tR1 (P)) (tS G q fr) 0 0 [tw G q σ, fr] 0 [(0, .ref (q 100)), (1, vI a1)] []
  refine ww_aload_n dX5_open_0 0 rfl ?_
  refine ww_iconst dX5_open_1 ?_
  refine tp_0 dX5_open_2 ?_
  refine ww_aload_n dX5_open_5 0 rfl ?_
  refine tc_laysOpen h ⟨Nat.le_of_ble_eq_true rfl, Nat.le_of_ble_eq_true rfl⟩ ⟨Nat.le_refl _, Nat.le_refl _⟩ (Nat.le_of_ble_eq_true rfl) dX5_open_6 (fun σ_1 h => ?_)
  refine ww_iload_n dX5_open_9 1 rfl ?_
  refine ww_iconst dX5_open_10 ?_
  obtain ⟨r_2, h⟩ := h
  refine ww_icmp_ne (tgt := 21) dX5_open_11 (by decide) r_2 (by decide) (fun c => ?_) (fun c => ?_)
  · replace h := h.1 c
    refine ww_iload_n dX5_open_21 1 rfl ?_
    obtain ⟨r_3, h⟩ := h
    refine ww_i2l dX5_open_22 r_3 ?_
    refine ww_lconst (v := 0) dX5_open_23 rfl ?_
    refine ww_aload_n dX5_open_24 0 rfl ?_
    refine tg_39 dX5_open_25 ?_
    refine ww_iconst dX5_open_28 ?_
    refine ww_isub dX5_open_29 ?_
    obtain ⟨r_4, h⟩ := h
    refine ww_i2l dX5_open_30 r_4 ?_
    refine tc_within h ⟨Nat.le_of_ble_eq_true rfl, Nat.le_of_ble_eq_true rfl⟩ ⟨Nat.le_refl _, Nat.le_refl _⟩ (Nat.le_of_ble_eq_true rfl) dX5_open_31 (fun y_5 z_6 h => ?_)
    refine ww_if_eq (tgt := 60) dX5_open_34 (by decide) (z01 z_6) (fun c => ?_) (fun c => ?_)
    · replace h := h.1 c
      refine ww_bipush (v := (-2)) dX5_open_60 rfl ?_
      exact ww_iret ((-2), σ_1) rfl ⟨rfl, h⟩ rfl (Nat.le_refl _) (Nat.le_refl _) dX5_open_62
    · replace h := h.2 c
      refine ww_aload_n dX5_open_37 0 rfl ?_
      refine tg_38 dX5_open_38 ?_
      refine ww_iload_n dX5_open_41 1 rfl ?_
      obtain ⟨r_7, h⟩ := h
      refine ta_38 r_7 dX5_open_42 ?_
      refine ww_iconst dX5_open_43 ?_
      obtain ⟨r_8, h⟩ := h
      refine ww_idiv dX5_open_44 r_8 ?_
      refine ww_bipush (v := 10) dX5_open_45 rfl ?_
      refine ww_imul dX5_open_47 ?_
      refine ww_aload_n dX5_open_48 0 rfl ?_
      refine tg_38 dX5_open_49 ?_
      refine ww_iload_n dX5_open_52 1 rfl ?_
      obtain ⟨r_9, h⟩ := h
      refine ta_38 r_9 dX5_open_53 ?_
      refine ww_iconst dX5_open_54 ?_
      obtain ⟨r_10, h⟩ := h
      refine ww_irem dX5_open_55 r_10 ?_
      refine ww_iadd dX5_open_56 ?_
      refine ww_goto (tgt := 62) dX5_open_57 (by decide) ?_
      exact ww_iret ((((tA σ_1 38 a1) / 4) * 10) + ((tA σ_1 38 a1) % 4), σ_1) rfl ⟨rfl, h⟩ rfl (Nat.le_refl _) (Nat.le_refl _) dX5_open_62
  · replace h := h.2 c
    refine ww_aload_n dX5_open_14 0 rfl ?_
    refine tg_39 dX5_open_15 ?_
    refine ww_goto (tgt := 62) dX5_open_18 (by decide) ?_
    exact ww_iret (tF σ_1 39, σ_1) rfl ⟨rfl, h⟩ rfl (Nat.le_refl _) (Nat.le_refl _) dX5_open_62

/-! laysIndex -/
def w_laysIndex (σ : TS) (a1 : Int) (P : Int → TS → Prop) : Prop :=
  w_laysOpen σ (fun σ_1 =>
    rI a1 ∧
    rI ((bL 1 (tF σ_1 39)) - 1) ∧
    w_within a1 0 ((bL 1 (tF σ_1 39)) - 1) (fun y_4 =>
      ((¬ y_4 = 0 →
        ∃ I26 : Nat → Int → TS → Prop, (∀ (n26 : Nat) (v2_26 : Int) (σ26 : TS), I26 n26 v2_26 σ26 →
          rI v2_26 ∧
          rI (tF σ26 39) ∧
          (((tF σ26 39) ≤ v2_26 →
            P 1 σ26) ∧
          (v2_26 < (tF σ26 39) →
            (0 ≤ v2_26 ∧ v2_26 < 24) ∧
            (0 ≤ tA σ26 38 v2_26 ∧ tA σ26 38 v2_26 < 24) ∧
            ∃ m : Nat, m < n26 ∧ I26 m (v2_26 + 1) (sA σ26 40 (tA σ26 38 v2_26) (bA (bR a1 v2_26) 1))))) ∧
        ∃ m : Nat, I26 m 0 σ_1) ∧
      (y_4 = 0 →
        P 0 σ_1))))
set_option maxHeartbeats 4000000 in
theorem t_laysIndex {G : g_G} {l : Launch} {q : Nat → Nat} {σ : TS} {a1 : Int} {P : Int → TS → Prop} (h : w_laysIndex σ a1 P) : CT G l yX5_laysIndex cX5_laysIndex 3 (Option.some Jvm.ClassFile.FieldType.boolean) 2 0 0 [.ref (q 100), vI a1] [tw G q σ] (tR2 (P)) (fun u => [tw G q u.2]) := by
  unfold w_laysIndex at h
  refine ww_of (by decide) (Nat.le_of_ble_eq_true rfl) (fun fr => ?_)
  show WW G l cX5_laysIndex RX5 3 (Option.some Jvm.ClassFile.FieldType.boolean) "laysIndex" 2 0 0 (tR2 (P)) (tS G q fr) 0 0 [tw G q σ, fr] 0 [(0, .ref (q 100)), (1, vI a1)] []
  refine ww_aload_n dX5_laysIndex_0 0 rfl ?_
  refine tc_laysOpen h ⟨Nat.le_of_ble_eq_true rfl, Nat.le_of_ble_eq_true rfl⟩ ⟨Nat.le_refl _, Nat.le_refl _⟩ (Nat.le_of_ble_eq_true rfl) dX5_laysIndex_1 (fun σ_1 h => ?_)
  refine ww_iload_n dX5_laysIndex_4 1 rfl ?_
  obtain ⟨r_2, h⟩ := h
  refine ww_i2l dX5_laysIndex_5 r_2 ?_
  refine ww_lconst (v := 0) dX5_laysIndex_6 rfl ?_
  refine ww_iconst dX5_laysIndex_7 ?_
  refine ww_aload_n dX5_laysIndex_8 0 rfl ?_
  refine tg_39 dX5_laysIndex_9 ?_
  refine ww_ishl dX5_laysIndex_12 ?_
  refine ww_iconst dX5_laysIndex_13 ?_
  refine ww_isub dX5_laysIndex_14 ?_
  obtain ⟨r_3, h⟩ := h
  refine ww_i2l dX5_laysIndex_15 r_3 ?_
  refine tc_within h ⟨Nat.le_of_ble_eq_true rfl, Nat.le_of_ble_eq_true rfl⟩ ⟨Nat.le_refl _, Nat.le_refl _⟩ (Nat.le_of_ble_eq_true rfl) dX5_laysIndex_16 (fun y_4 z_5 h => ?_)
  refine ww_if_ne (tgt := 24) dX5_laysIndex_19 (by decide) (z01 z_5) (fun c => ?_) (fun c => ?_)
  · replace h := h.1 c
    refine ww_iconst dX5_laysIndex_24 ?_
    refine ww_istore_n dX5_laysIndex_25 rfl (Nat.le_of_ble_eq_true rfl) rfl ?_
    obtain ⟨I26, hI26, h⟩ := h
    have kI26 : ∀ (n26 : Nat), ∀ (v2_26 : Int), ∀ (σ26 : TS), I26 n26 v2_26 σ26 → WW G l cX5_laysIndex RX5 3 (Option.some Jvm.ClassFile.FieldType.boolean) "laysIndex" 2 0 0 (tR2 (P)) (tS G q fr) 0 0 [tw G q σ26, fr] 26 [(0, .ref (q 100)), (1, vI a1), (2, vI v2_26)] [] := by
      intro n26
      induction n26 using Nat.strongRecOn with
      | ind n26 ih26 =>
        intro v2_26 σ26 hj
        have h := hI26 n26 v2_26 σ26 hj
        refine ww_iload_n dX5_laysIndex_26 2 rfl ?_
        refine ww_aload_n dX5_laysIndex_27 0 rfl ?_
        refine tg_39 dX5_laysIndex_28 ?_
        obtain ⟨r_6, r_7, h⟩ := h
        refine ww_icmp_ge (tgt := 56) dX5_laysIndex_31 (by decide) r_6 r_7 (fun c => ?_) (fun c => ?_)
        · replace h := h.1 c
          refine ww_iconst dX5_laysIndex_56 ?_
          exact ww_zret (1, σ26) rfl (Or.inr rfl) ⟨rfl, (Or.inr rfl), h⟩ rfl (Nat.le_refl _) (Nat.le_refl _) dX5_laysIndex_57
        · replace h := h.2 (Int.not_le.mp c)
          refine ww_aload_n dX5_laysIndex_34 0 rfl ?_
          refine tg_40 dX5_laysIndex_35 ?_
          refine ww_aload_n dX5_laysIndex_38 0 rfl ?_
          refine tg_38 dX5_laysIndex_39 ?_
          refine ww_iload_n dX5_laysIndex_42 2 rfl ?_
          obtain ⟨r_8, h⟩ := h
          refine ta_38 r_8 dX5_laysIndex_43 ?_
          refine ww_iload_n dX5_laysIndex_44 1 rfl ?_
          refine ww_iload_n dX5_laysIndex_45 2 rfl ?_
          refine ww_ishr dX5_laysIndex_46 ?_
          refine ww_iconst dX5_laysIndex_47 ?_
          refine ww_iand dX5_laysIndex_48 ?_
          obtain ⟨r_9, h⟩ := h
          refine ts_40 r_9 dX5_laysIndex_49 ?_
          refine ww_iinc dX5_laysIndex_50 2 rfl (Nat.le_of_ble_eq_true rfl) rfl ?_
          refine ww_goto (tgt := 26) dX5_laysIndex_53 (by decide) ?_
          refine ww_lv [1, 2, 0] rfl ?_
          obtain ⟨m, hm, h⟩ := h
          exact ih26 m hm _ _ h
    refine ww_lv [1, 2, 0] rfl ?_
    obtain ⟨m, h⟩ := h
    exact kI26 m _ _ h
  · replace h := h.2 c
    refine ww_iconst dX5_laysIndex_22 ?_
    exact ww_zret (0, σ_1) rfl (Or.inl rfl) ⟨rfl, (Or.inl rfl), h⟩ rfl (Nat.le_refl _) (Nat.le_refl _) dX5_laysIndex_23
theorem tc_laysIndex {S : Type} {G : g_G} {l : Launch} {cc : ByteArray} {nL : Nat} {ret : Option FieldType} {mn : String} {d mc ms : Nat} {R : Option Value → S → Prop} {sh : S → List va_W} {cells slots pc : Nat} {lv : List (Nat × Value)} {st : List Value} {q : Nat → Nat} {fr : va_W} {σ : TS} {a1 : Int} {P : Int → TS → Prop} (h : w_laysIndex σ a1 P) (hR : 2 + 1 ≤ d ∧ 16 + (3 + 11) + 100 * 2 ≤ 100 * d) (hc : cells ≤ mc ∧ slots ≤ ms) (hst : (st.map fun v => v.category).sum ≤ 16) (hdg : decode cc pc = .ok (.invokevirtual 346, 3)) (k : ∀ r, ∀ σ2, (r = 0 ∨ r = 1) → P r σ2 → WW G l cc RX5 nL ret mn d mc ms R sh cells slots [tw G q σ2, fr] (pc + 3) lv (vI r :: st)) : WW G l cc RX5 nL ret mn d mc ms R sh cells slots [tw G q σ, fr] pc lv (vI a1 :: .ref (q 100) :: st) := by
  refine tw_call2 (n := 1) (t_laysIndex (q := q) h) (lw_V q2558 q2560 qs96 q117 q2561) ⟨rfl, by decide, by decide, by decide +kernel⟩ rfl hR hc rfl hst hdg ?_
  exact fun r σ2 z h => k r σ2 z h
/-! allNodes -/
def w_allNodes (σ : TS) (P : Int → Prop) : Prop :=
  P ((bL 1 (tA σ 16 0)) - 1)
set_option maxHeartbeats 4000000 in
theorem t_allNodes {G : g_G} {l : Launch} {q : Nat → Nat} {σ : TS} {P : Int → Prop} (h : w_allNodes σ P) : CT G l yX5_allNodes cX5_allNodes 1 (Option.some Jvm.ClassFile.FieldType.int) 0 0 0 [.ref (q 100)] [tw G q σ] (tR1 (fun r s => s = σ ∧ P r)) (fun u => [tw G q u.2]) := by
  unfold w_allNodes at h
  refine ww_of (by decide) (Nat.le_of_ble_eq_true rfl) (fun fr => ?_)
  show WW G l cX5_allNodes RX5 1 (Option.some Jvm.ClassFile.FieldType.int) "allNodes" 0 0 0 (tR1 (fun r s => s = σ ∧ P r)) (tS G q fr) 0 0 [tw G q σ, fr] 0 [(0, .ref (q 100))] []
  refine ww_iconst dX5_allNodes_0 ?_
  refine ww_aload_n dX5_allNodes_1 0 rfl ?_
  refine tg_16 dX5_allNodes_2 ?_
  refine ww_iconst dX5_allNodes_5 ?_
  refine ta_16 ⟨by decide, by decide⟩ dX5_allNodes_6 ?_
  refine ww_ishl dX5_allNodes_7 ?_
  refine ww_iconst dX5_allNodes_8 ?_
  refine ww_isub dX5_allNodes_9 ?_
  exact ww_iret ((bL 1 (tA σ 16 0)) - 1, σ) rfl ⟨rfl, ⟨rfl, h⟩⟩ rfl (Nat.le_refl _) (Nat.le_refl _) dX5_allNodes_10
theorem tc_allNodes {S : Type} {G : g_G} {l : Launch} {cc : ByteArray} {nL : Nat} {ret : Option FieldType} {mn : String} {d mc ms : Nat} {R : Option Value → S → Prop} {sh : S → List va_W} {cells slots pc : Nat} {lv : List (Nat × Value)} {st : List Value} {q : Nat → Nat} {fr : va_W} {σ : TS} {P : Int → Prop} (h : w_allNodes σ P) (hR : 0 + 1 ≤ d ∧ 16 + (1 + 11) + 100 * 0 ≤ 100 * d) (hc : cells ≤ mc ∧ slots ≤ ms) (hst : (st.map fun v => v.category).sum ≤ 16) (hdg : decode cc pc = .ok (.invokevirtual 340, 3)) (k : ∀ r, P r → WW G l cc RX5 nL ret mn d mc ms R sh cells slots [tw G q σ, fr] (pc + 3) lv (vI r :: st)) : WW G l cc RX5 nL ret mn d mc ms R sh cells slots [tw G q σ, fr] pc lv (.ref (q 100) :: st) := by
  refine tw_call1 (n := 0) (t_allNodes (q := q) h) (lw_V q2570 q2572 qs99 q117 q2573) ⟨rfl, by decide, by decide, by decide +kernel⟩ rfl hR hc rfl hst hdg ?_
  rintro r σ2 ⟨rfl, h2⟩
  exact k r h2
/-! valueOf -/
def w_valueOf (σ : TS) (a1 : Int) (P : Int → Prop) : Prop :=
  ∃ I4 : Nat → Int → Int → Prop, (∀ (n4 : Nat) (v2_4 : Int) (v3_4 : Int), I4 n4 v2_4 v3_4 →
    w_legsAt σ a1 (fun y_1 =>
      rI v3_4 ∧
      (((bL 1 y_1) ≤ v3_4 →
        w_p σ (fun y_3 =>
          (0 ≤ v2_4 ∧ v2_4 < 2147483648 ∧ (0 : Int) < y_3 ∧ (y_3 : Int) < 2147483648) ∧
          P (v2_4 % y_3))) ∧
      (v3_4 < (bL 1 y_1) →
        ∃ I21 : Nat → Int → Int → Prop, (∀ (n21 : Nat) (v4_21 : Int) (v5_21 : Int), I21 n21 v4_21 v5_21 →
          w_legsAt σ a1 (fun y_5 =>
            rI v5_21 ∧
            rI y_5 ∧
            ((y_5 ≤ v5_21 →
              rI v4_21 ∧
              ∃ J103 : Int → Prop, (∀ (s1_103 : Int), J103 s1_103 →
                ∃ m : Nat, m < n4 ∧ I4 m (v2_4 + s1_103) (v3_4 + 1)) ∧
              ((v4_21 = 0 →
                J103 0) ∧
              (¬ v4_21 = 0 →
                (0 ≤ (16 * a1) + v3_4 ∧ (16 * a1) + v3_4 < 117) ∧
                J103 (tA σ 30 ((16 * a1) + v3_4))))) ∧
            (v5_21 < y_5 →
              (0 ≤ (4 * a1) + v5_21 ∧ (4 * a1) + v5_21 < 24) ∧
              rI (tA σ 40 ((4 * a1) + v5_21)) ∧
              ∃ J73 : Int → Prop, (∀ (s1_73 : Int), J73 s1_73 →
                ∃ m : Nat, m < n21 ∧ I21 m (bA v4_21 s1_73) (v5_21 + 1)) ∧
              ∃ J68 : Prop, (J68 →
                J73 1) ∧
              (((tA σ 40 ((4 * a1) + v5_21)) = 2 →
                J68) ∧
              (¬ (tA σ 40 ((4 * a1) + v5_21)) = 2 →
                (0 ≤ (4 * a1) + v5_21 ∧ (4 * a1) + v5_21 < 24) ∧
                rI (tA σ 40 ((4 * a1) + v5_21)) ∧
                ((¬ (tA σ 40 ((4 * a1) + v5_21)) = (bA (bR v3_4 v5_21) 1) →
                  J73 0) ∧
                ((tA σ 40 ((4 * a1) + v5_21)) = (bA (bR v3_4 v5_21) 1) →
                  J68)))))))) ∧
        ∃ m : Nat, I21 m 1 0)))) ∧
  ∃ m : Nat, I4 m 0 0
set_option maxHeartbeats 4000000 in
theorem t_valueOf {G : g_G} {l : Launch} {q : Nat → Nat} {σ : TS} {a1 : Int} {P : Int → Prop} (h : w_valueOf σ a1 P) : CT G l yX5_valueOf cX5_valueOf 6 (Option.some Jvm.ClassFile.FieldType.int) 1 0 0 [.ref (q 100), vI a1] [tw G q σ] (tR1 (fun r s => s = σ ∧ P r)) (fun u => [tw G q u.2]) := by
  unfold w_valueOf at h
  refine ww_of (by decide) (Nat.le_of_ble_eq_true rfl) (fun fr => ?_)
  show WW G l cX5_valueOf RX5 6 (Option.some Jvm.ClassFile.FieldType.int) "valueOf" 1 0 0 (tR1 (fun r s => s = σ ∧ P r)) (tS G q fr) 0 0 [tw G q σ, fr] 0 [(0, .ref (q 100)), (1, vI a1)] []
  refine ww_iconst dX5_valueOf_0 ?_
  refine ww_istore_n dX5_valueOf_1 rfl (Nat.le_of_ble_eq_true rfl) rfl ?_
  refine ww_iconst dX5_valueOf_2 ?_
  refine ww_istore_n dX5_valueOf_3 rfl (Nat.le_of_ble_eq_true rfl) rfl ?_
  obtain ⟨I4, hI4, h⟩ := h
  have kI4 : ∀ (n4 : Nat), ∀ (v2_4 : Int), ∀ (v3_4 : Int), I4 n4 v2_4 v3_4 → WW G l cX5_valueOf RX5 6 (Option.some Jvm.ClassFile.FieldType.int) "valueOf" 1 0 0 (tR1 (fun r s => s = σ ∧ P r)) (tS G q fr) 0 0 [tw G q σ, fr] 4 [(0, .ref (q 100)), (1, vI a1), (2, vI v2_4), (3, vI v3_4)] [] := by
    intro n4
    induction n4 using Nat.strongRecOn with
    | ind n4 ih4 =>
      intro v2_4 v3_4 hj
      have h := hI4 n4 v2_4 v3_4 hj
      refine ww_iload_n dX5_valueOf_4 3 rfl ?_
      refine ww_iconst dX5_valueOf_5 ?_
      refine ww_aload_n dX5_valueOf_6 0 rfl ?_
      refine ww_iload_n dX5_valueOf_7 1 rfl ?_
      refine tc_legsAt h ⟨Nat.le_of_ble_eq_true rfl, Nat.le_of_ble_eq_true rfl⟩ ⟨Nat.le_refl _, Nat.le_refl _⟩ (Nat.le_of_ble_eq_true rfl) dX5_valueOf_8 (fun y_1 h => ?_)
      refine ww_ishl dX5_valueOf_11 ?_
      obtain ⟨r_2, h⟩ := h
      refine ww_icmp_ge (tgt := 111) dX5_valueOf_12 (by decide) r_2 (rI_bL _ _) (fun c => ?_) (fun c => ?_)
      · replace h := h.1 c
        refine ww_iload_n dX5_valueOf_111 2 rfl ?_
        refine ww_aload_n dX5_valueOf_112 0 rfl ?_
        refine tc_p h ⟨Nat.le_of_ble_eq_true rfl, Nat.le_of_ble_eq_true rfl⟩ ⟨Nat.le_refl _, Nat.le_refl _⟩ (Nat.le_of_ble_eq_true rfl) dX5_valueOf_113 (fun y_3 h => ?_)
        obtain ⟨r_4, h⟩ := h
        refine ww_irem dX5_valueOf_116 r_4 ?_
        exact ww_iret (v2_4 % y_3, σ) rfl ⟨rfl, ⟨rfl, h⟩⟩ rfl (Nat.le_refl _) (Nat.le_refl _) dX5_valueOf_117
      · replace h := h.2 (Int.not_le.mp c)
        refine ww_iconst dX5_valueOf_15 ?_
        refine ww_istore dX5_valueOf_16 (Nat.le_of_ble_eq_true rfl) rfl ?_
        refine ww_iconst dX5_valueOf_18 ?_
        refine ww_istore dX5_valueOf_19 (Nat.le_of_ble_eq_true rfl) rfl ?_
        obtain ⟨I21, hI21, h⟩ := h
        have kI21 : ∀ (n21 : Nat), ∀ (v4_21 : Int), ∀ (v5_21 : Int), I21 n21 v4_21 v5_21 → WW G l cX5_valueOf RX5 6 (Option.some Jvm.ClassFile.FieldType.int) "valueOf" 1 0 0 (tR1 (fun r s => s = σ ∧ P r)) (tS G q fr) 0 0 [tw G q σ, fr] 21 [(0, .ref (q 100)), (1, vI a1), (2, vI v2_4), (3, vI v3_4), (4, vI v4_21), (5, vI v5_21)] [] := by
          intro n21
          induction n21 using Nat.strongRecOn with
          | ind n21 ih21 =>
            intro v4_21 v5_21 hj
            have h := hI21 n21 v4_21 v5_21 hj
            refine ww_iload dX5_valueOf_21 5 rfl ?_
            refine ww_aload_n dX5_valueOf_23 0 rfl ?_
            refine ww_iload_n dX5_valueOf_24 1 rfl ?_
            refine tc_legsAt h ⟨Nat.le_of_ble_eq_true rfl, Nat.le_of_ble_eq_true rfl⟩ ⟨Nat.le_refl _, Nat.le_refl _⟩ (Nat.le_of_ble_eq_true rfl) dX5_valueOf_25 (fun y_5 h => ?_)
            obtain ⟨r_6, r_7, h⟩ := h
            refine ww_icmp_ge (tgt := 82) dX5_valueOf_28 (by decide) r_6 r_7 (fun c => ?_) (fun c => ?_)
            · replace h := h.1 c
              refine ww_iload_n dX5_valueOf_82 2 rfl ?_
              refine ww_iload dX5_valueOf_83 4 rfl ?_
              obtain ⟨r_8, h⟩ := h
              obtain ⟨J103, hJ103, h⟩ := h
              have kJ103 : ∀ (s1_103 : Int), J103 s1_103 → WW G l cX5_valueOf RX5 6 (Option.some Jvm.ClassFile.FieldType.int) "valueOf" 1 0 0 (tR1 (fun r s => s = σ ∧ P r)) (tS G q fr) 0 0 [tw G q σ, fr] 103 [(0, .ref (q 100)), (1, vI a1), (3, vI v3_4)] [vI s1_103, vI v2_4] := by
                intro s1_103 hj
                have h := hJ103 s1_103 hj
                refine ww_iadd dX5_valueOf_103 ?_
                refine ww_istore_n dX5_valueOf_104 rfl (Nat.le_of_ble_eq_true rfl) rfl ?_
                refine ww_iinc dX5_valueOf_105 3 rfl (Nat.le_of_ble_eq_true rfl) rfl ?_
                refine ww_goto (tgt := 4) dX5_valueOf_108 (by decide) ?_
                refine ww_lv [2, 3, 1, 0] rfl ?_
                obtain ⟨m, hm, h⟩ := h
                exact ih4 m hm _ _ h
              refine ww_if_eq (tgt := 102) dX5_valueOf_85 (by decide) r_8 (fun c => ?_) (fun c => ?_)
              · replace h := h.1 c
                refine ww_iconst dX5_valueOf_102 ?_
                refine ww_lv [0, 1, 3] rfl ?_
                exact kJ103 _ h
              · replace h := h.2 c
                refine ww_aload_n dX5_valueOf_88 0 rfl ?_
                refine tg_30 dX5_valueOf_89 ?_
                refine ww_bipush (v := 16) dX5_valueOf_92 rfl ?_
                refine ww_iload_n dX5_valueOf_94 1 rfl ?_
                refine ww_imul dX5_valueOf_95 ?_
                refine ww_iload_n dX5_valueOf_96 3 rfl ?_
                refine ww_iadd dX5_valueOf_97 ?_
                obtain ⟨r_9, h⟩ := h
                refine ta_30 r_9 dX5_valueOf_98 ?_
                refine ww_goto (tgt := 103) dX5_valueOf_99 (by decide) ?_
                refine ww_lv [0, 1, 3] rfl ?_
                exact kJ103 _ h
            · replace h := h.2 (Int.not_le.mp c)
              refine ww_iload dX5_valueOf_31 4 rfl ?_
              refine ww_aload_n dX5_valueOf_33 0 rfl ?_
              refine tg_40 dX5_valueOf_34 ?_
              refine ww_iconst dX5_valueOf_37 ?_
              refine ww_iload_n dX5_valueOf_38 1 rfl ?_
              refine ww_imul dX5_valueOf_39 ?_
              refine ww_iload dX5_valueOf_40 5 rfl ?_
              refine ww_iadd dX5_valueOf_42 ?_
              obtain ⟨r_10, h⟩ := h
              refine ta_40 r_10 dX5_valueOf_43 ?_
              refine ww_iconst dX5_valueOf_44 ?_
              obtain ⟨r_11, h⟩ := h
              obtain ⟨J73, hJ73, h⟩ := h
              have kJ73 : ∀ (s1_73 : Int), J73 s1_73 → WW G l cX5_valueOf RX5 6 (Option.some Jvm.ClassFile.FieldType.int) "valueOf" 1 0 0 (tR1 (fun r s => s = σ ∧ P r)) (tS G q fr) 0 0 [tw G q σ, fr] 73 [(0, .ref (q 100)), (1, vI a1), (2, vI v2_4), (3, vI v3_4), (5, vI v5_21)] [vI s1_73, vI v4_21] := by
                intro s1_73 hj
                have h := hJ73 s1_73 hj
                refine ww_iand dX5_valueOf_73 ?_
                refine ww_istore dX5_valueOf_74 (Nat.le_of_ble_eq_true rfl) rfl ?_
                refine ww_iinc dX5_valueOf_76 5 rfl (Nat.le_of_ble_eq_true rfl) rfl ?_
                refine ww_goto (tgt := 21) dX5_valueOf_79 (by decide) ?_
                refine ww_lv [2, 3, 4, 5, 1, 0] rfl ?_
                obtain ⟨m, hm, h⟩ := h
                exact ih21 m hm _ _ h
              obtain ⟨J68, hJ68, h⟩ := h
              have kJ68 : J68 → WW G l cX5_valueOf RX5 6 (Option.some Jvm.ClassFile.FieldType.int) "valueOf" 1 0 0 (tR1 (fun r s => s = σ ∧ P r)) (tS G q fr) 0 0 [tw G q σ, fr] 68 [(0, .ref (q 100)), (1, vI a1), (2, vI v2_4), (3, vI v3_4), (5, vI v5_21)] [vI v4_21] := by
                intro hj
                have h := hJ68 hj
                refine ww_iconst dX5_valueOf_68 ?_
                refine ww_goto (tgt := 73) dX5_valueOf_69 (by decide) ?_
                exact kJ73 _ h
              refine ww_icmp_eq (tgt := 68) dX5_valueOf_45 (by decide) r_11 (by decide) (fun c => ?_) (fun c => ?_)
              · replace h := h.1 c
                refine ww_lv [0, 1, 2, 3, 5] rfl ?_
                exact kJ68 h
              · replace h := h.2 c
                refine ww_aload_n dX5_valueOf_48 0 rfl ?_
                refine tg_40 dX5_valueOf_49 ?_
                refine ww_iconst dX5_valueOf_52 ?_
                refine ww_iload_n dX5_valueOf_53 1 rfl ?_
                refine ww_imul dX5_valueOf_54 ?_
                refine ww_iload dX5_valueOf_55 5 rfl ?_
                refine ww_iadd dX5_valueOf_57 ?_
                obtain ⟨r_12, h⟩ := h
                refine ta_40 r_12 dX5_valueOf_58 ?_
                refine ww_iload_n dX5_valueOf_59 3 rfl ?_
                refine ww_iload dX5_valueOf_60 5 rfl ?_
                refine ww_ishr dX5_valueOf_62 ?_
                refine ww_iconst dX5_valueOf_63 ?_
                refine ww_iand dX5_valueOf_64 ?_
                obtain ⟨r_13, h⟩ := h
                refine ww_icmp_ne (tgt := 72) dX5_valueOf_65 (by decide) r_13 (rI_bA _ _) (fun c => ?_) (fun c => ?_)
                · replace h := h.1 c
                  refine ww_iconst dX5_valueOf_72 ?_
                  refine ww_lv [0, 1, 2, 3, 5] rfl ?_
                  exact kJ73 _ h
                · replace h := h.2 c
                  refine ww_lv [0, 1, 2, 3, 5] rfl ?_
                  exact kJ68 h
        refine ww_lv [2, 3, 4, 5, 1, 0] rfl ?_
        obtain ⟨m, h⟩ := h
        exact kI21 m _ _ h
  refine ww_lv [2, 3, 1, 0] rfl ?_
  obtain ⟨m, h⟩ := h
  exact kI4 m _ _ h
theorem tc_valueOf {S : Type} {G : g_G} {l : Launch} {cc : ByteArray} {nL : Nat} {ret : Option FieldType} {mn : String} {d mc ms : Nat} {R : Option Value → S → Prop} {sh : S → List va_W} {cells slots pc : Nat} {lv : List (Nat × Value)} {st : List Value} {q : Nat → Nat} {fr : va_W} {σ : TS} {a1 : Int} {P : Int → Prop} (h : w_valueOf σ a1 P) (hR : 1 + 1 ≤ d ∧ 16 + (6 + 11) + 100 * 1 ≤ 100 * d) (hc : cells ≤ mc ∧ slots ≤ ms) (hst : (st.map fun v => v.category).sum ≤ 16) (hdg : decode cc pc = .ok (.invokevirtual 334, 3)) (k : ∀ r, P r → WW G l cc RX5 nL ret mn d mc ms R sh cells slots [tw G q σ, fr] (pc + 3) lv (vI r :: st)) : WW G l cc RX5 nL ret mn d mc ms R sh cells slots [tw G q σ, fr] pc lv (vI a1 :: .ref (q 100) :: st) := by
  refine tw_call1 (n := 1) (t_valueOf (q := q) h) (lw_V q2578 q2580 qs101 q117 q2581) ⟨rfl, by decide, by decide, by decide +kernel⟩ rfl hR hc rfl hst hdg ?_
  rintro r σ2 ⟨rfl, h2⟩
  exact k r h2
/-! product -/
def w_product (σ : TS) (a1 : Int) (P : Int → Prop) : Prop :=
  ∃ I4 : Nat → Int → Int → Prop, (∀ (n4 : Nat) (v2_4 : Int) (v3_4 : Int), I4 n4 v2_4 v3_4 →
    rI v3_4 ∧
    rI (tA σ 16 0) ∧
    (((tA σ 16 0) ≤ v3_4 →
      P v2_4) ∧
    (v3_4 < (tA σ 16 0) →
      ∃ J39 : Int → Prop, (∀ (s0_39 : Int), J39 s0_39 →
        ∃ m : Nat, m < n4 ∧ I4 m s0_39 (v3_4 + 1)) ∧
      ((¬ (bA (bR a1 v3_4) 1) = 1 →
        J39 v2_4) ∧
      ((bA (bR a1 v3_4) 1) = 1 →
        w_valueOf σ v3_4 (fun y_3 =>
          w_p σ (fun y_4 =>
            (0 ≤ v2_4 * y_3 ∧ (v2_4 * y_3) < 2147483648 ∧ (0 : Int) < y_4 ∧ (y_4 : Int) < 2147483648) ∧
            J39 ((v2_4 * y_3) % y_4)))))))) ∧
  ∃ m : Nat, I4 m 1 0
set_option maxHeartbeats 4000000 in
theorem t_product {G : g_G} {l : Launch} {q : Nat → Nat} {σ : TS} {a1 : Int} {P : Int → Prop} (h : w_product σ a1 P) : CT G l yX5_product cX5_product 4 (Option.some Jvm.ClassFile.FieldType.int) 2 0 0 [.ref (q 100), vI a1] [tw G q σ] (tR1 (fun r s => s = σ ∧ P r)) (fun u => [tw G q u.2]) := by
  unfold w_product at h
  refine ww_of (by decide) (Nat.le_of_ble_eq_true rfl) (fun fr => ?_)
  show WW G l cX5_product RX5 4 (Option.some Jvm.ClassFile.FieldType.int) "product" 2 0 0 (tR1 (fun r s => s = σ ∧ P r)) (tS G q fr) 0 0 [tw G q σ, fr] 0 [(0, .ref (q 100)), (1, vI a1)] []
  refine ww_iconst dX5_product_0 ?_
  refine ww_istore_n dX5_product_1 rfl (Nat.le_of_ble_eq_true rfl) rfl ?_
  refine ww_iconst dX5_product_2 ?_
  refine ww_istore_n dX5_product_3 rfl (Nat.le_of_ble_eq_true rfl) rfl ?_
  obtain ⟨I4, hI4, h⟩ := h
  have kI4 : ∀ (n4 : Nat), ∀ (v2_4 : Int), ∀ (v3_4 : Int), I4 n4 v2_4 v3_4 → WW G l cX5_product RX5 4 (Option.some Jvm.ClassFile.FieldType.int) "product" 2 0 0 (tR1 (fun r s => s = σ ∧ P r)) (tS G q fr) 0 0 [tw G q σ, fr] 4 [(0, .ref (q 100)), (1, vI a1), (2, vI v2_4), (3, vI v3_4)] [] := by
    intro n4
    induction n4 using Nat.strongRecOn with
    | ind n4 ih4 =>
      intro v2_4 v3_4 hj
      have h := hI4 n4 v2_4 v3_4 hj
      refine ww_iload_n dX5_product_4 3 rfl ?_
      refine ww_aload_n dX5_product_5 0 rfl ?_
      refine tg_16 dX5_product_6 ?_
      refine ww_iconst dX5_product_9 ?_
      refine ta_16 ⟨by decide, by decide⟩ dX5_product_10 ?_
      obtain ⟨r_1, r_2, h⟩ := h
      refine ww_icmp_ge (tgt := 46) dX5_product_11 (by decide) r_1 r_2 (fun c => ?_) (fun c => ?_)
      · replace h := h.1 c
        refine ww_iload_n dX5_product_46 2 rfl ?_
        exact ww_iret (v2_4, σ) rfl ⟨rfl, ⟨rfl, h⟩⟩ rfl (Nat.le_refl _) (Nat.le_refl _) dX5_product_47
      · replace h := h.2 (Int.not_le.mp c)
        refine ww_iload_n dX5_product_14 1 rfl ?_
        refine ww_iload_n dX5_product_15 3 rfl ?_
        refine ww_ishr dX5_product_16 ?_
        refine ww_iconst dX5_product_17 ?_
        refine ww_iand dX5_product_18 ?_
        refine ww_iconst dX5_product_19 ?_
        obtain ⟨J39, hJ39, h⟩ := h
        have kJ39 : ∀ (s0_39 : Int), J39 s0_39 → WW G l cX5_product RX5 4 (Option.some Jvm.ClassFile.FieldType.int) "product" 2 0 0 (tR1 (fun r s => s = σ ∧ P r)) (tS G q fr) 0 0 [tw G q σ, fr] 39 [(0, .ref (q 100)), (1, vI a1), (3, vI v3_4)] [vI s0_39] := by
          intro s0_39 hj
          have h := hJ39 s0_39 hj
          refine ww_istore_n dX5_product_39 rfl (Nat.le_of_ble_eq_true rfl) rfl ?_
          refine ww_iinc dX5_product_40 3 rfl (Nat.le_of_ble_eq_true rfl) rfl ?_
          refine ww_goto (tgt := 4) dX5_product_43 (by decide) ?_
          refine ww_lv [2, 3, 1, 0] rfl ?_
          obtain ⟨m, hm, h⟩ := h
          exact ih4 m hm _ _ h
        refine ww_icmp_ne (tgt := 38) dX5_product_20 (by decide) (rI_bA _ _) (by decide) (fun c => ?_) (fun c => ?_)
        · replace h := h.1 c
          refine ww_iload_n dX5_product_38 2 rfl ?_
          refine ww_lv [0, 1, 3] rfl ?_
          exact kJ39 _ h
        · replace h := h.2 c
          refine ww_iload_n dX5_product_23 2 rfl ?_
          refine ww_aload_n dX5_product_24 0 rfl ?_
          refine ww_iload_n dX5_product_25 3 rfl ?_
          refine tc_valueOf h ⟨Nat.le_of_ble_eq_true rfl, Nat.le_of_ble_eq_true rfl⟩ ⟨Nat.le_refl _, Nat.le_refl _⟩ (Nat.le_of_ble_eq_true rfl) dX5_product_26 (fun y_3 h => ?_)
          refine ww_imul dX5_product_29 ?_
          refine ww_aload_n dX5_product_30 0 rfl ?_
          refine tc_p h ⟨Nat.le_of_ble_eq_true rfl, Nat.le_of_ble_eq_true rfl⟩ ⟨Nat.le_refl _, Nat.le_refl _⟩ (Nat.le_of_ble_eq_true rfl) dX5_product_31 (fun y_4 h => ?_)
          obtain ⟨r_5, h⟩ := h
          refine ww_irem dX5_product_34 r_5 ?_
          refine ww_goto (tgt := 39) dX5_product_35 (by decide) ?_
          refine ww_lv [0, 1, 3] rfl ?_
          exact kJ39 _ h
  refine ww_lv [2, 3, 1, 0] rfl ?_
  obtain ⟨m, h⟩ := h
  exact kI4 m _ _ h
theorem tc_product {S : Type} {G : g_G} {l : Launch} {cc : ByteArray} {nL : Nat} {ret : Option FieldType} {mn : String} {d mc ms : Nat} {R : Option Value → S → Prop} {sh : S → List va_W} {cells slots pc : Nat} {lv : List (Nat × Value)} {st : List Value} {q : Nat → Nat} {fr : va_W} {σ : TS} {a1 : Int} {P : Int → Prop} (h : w_product σ a1 P) (hR : 2 + 1 ≤ d ∧ 16 + (4 + 11) + 100 * 2 ≤ 100 * d) (hc : cells ≤ mc ∧ slots ≤ ms) (hst : (st.map fun v => v.category).sum ≤ 16) (hdg : decode cc pc = .ok (.invokevirtual 343, 3)) (k : ∀ r, P r → WW G l cc RX5 nL ret mn d mc ms R sh cells slots [tw G q σ, fr] (pc + 3) lv (vI r :: st)) : WW G l cc RX5 nL ret mn d mc ms R sh cells slots [tw G q σ, fr] pc lv (vI a1 :: .ref (q 100) :: st) := by
  refine tw_call1 (n := 1) (t_product (q := q) h) (lw_V q2574 q2576 qs100 q117 q2577) ⟨rfl, by decide, by decide, by decide +kernel⟩ rfl hR hc rfl hst hdg ?_
  rintro r σ2 ⟨rfl, h2⟩
  exact k r h2
/-! setsWires -/
def w_setsWires (σ : TS) (a1 : Int) (P : TS → Prop) : Prop :=
  ∃ I2 : Nat → Int → TS → Prop, (∀ (n2 : Nat) (v2_2 : Int) (σ2 : TS), I2 n2 v2_2 σ2 →
    rI v2_2 ∧
    rI (tA σ2 30 116) ∧
    (((tA σ2 30 116) ≤ v2_2 →
      P σ2) ∧
    (v2_2 < (tA σ2 30 116) →
      (0 ≤ 96 + (2 * v2_2) ∧ 96 + (2 * v2_2) < 117) ∧
      (0 ≤ tA σ2 30 (96 + (2 * v2_2)) ∧ tA σ2 30 (96 + (2 * v2_2)) < 24) ∧
      (0 ≤ (96 + (2 * v2_2)) + 1 ∧ (96 + (2 * v2_2)) + 1 < 117) ∧
      (0 ≤ tA σ2 30 ((96 + (2 * v2_2)) + 1) ∧ tA σ2 30 ((96 + (2 * v2_2)) + 1) < 24) ∧
      ∃ m : Nat, m < n2 ∧ I2 m (v2_2 + 1) (sA (sA σ2 40 (tA σ2 30 (96 + (2 * v2_2))) (bA (bR a1 v2_2) 1)) 40 (tA σ2 30 ((96 + (2 * v2_2)) + 1)) (bA (bR a1 v2_2) 1))))) ∧
  ∃ m : Nat, I2 m 0 σ
set_option maxHeartbeats 4000000 in
theorem t_setsWires {G : g_G} {l : Launch} {q : Nat → Nat} {σ : TS} {a1 : Int} {P : TS → Prop} (h : w_setsWires σ a1 P) : CT G l yX5_setsWires cX5_setsWires 3 (Option.none : Option Jvm.ClassFile.FieldType) 0 0 0 [.ref (q 100), vI a1] [tw G q σ] (tR0 (fun _ s => P s)) (fun u => [tw G q u.2]) := by
  unfold w_setsWires at h
  refine ww_of (by decide) (Nat.le_of_ble_eq_true rfl) (fun fr => ?_)
  show WW G l cX5_setsWires RX5 3 (Option.none : Option Jvm.ClassFile.FieldType) "setsWires" 0 0 0 (tR0 (fun _ s => P s)) (tS G q fr) 0 0 [tw G q σ, fr] 0 [(0, .ref (q 100)), (1, vI a1)] []
  refine ww_iconst dX5_setsWires_0 ?_
  refine ww_istore_n dX5_setsWires_1 rfl (Nat.le_of_ble_eq_true rfl) rfl ?_
  obtain ⟨I2, hI2, h⟩ := h
  have kI2 : ∀ (n2 : Nat), ∀ (v2_2 : Int), ∀ (σ2 : TS), I2 n2 v2_2 σ2 → WW G l cX5_setsWires RX5 3 (Option.none : Option Jvm.ClassFile.FieldType) "setsWires" 0 0 0 (tR0 (fun _ s => P s)) (tS G q fr) 0 0 [tw G q σ2, fr] 2 [(0, .ref (q 100)), (1, vI a1), (2, vI v2_2)] [] := by
    intro n2
    induction n2 using Nat.strongRecOn with
    | ind n2 ih2 =>
      intro v2_2 σ2 hj
      have h := hI2 n2 v2_2 σ2 hj
      refine ww_iload_n dX5_setsWires_2 2 rfl ?_
      refine ww_aload_n dX5_setsWires_3 0 rfl ?_
      refine tg_30 dX5_setsWires_4 ?_
      refine ww_bipush (v := 116) dX5_setsWires_7 rfl ?_
      refine ta_30 ⟨by decide, by decide⟩ dX5_setsWires_9 ?_
      obtain ⟨r_1, r_2, h⟩ := h
      refine ww_icmp_ge (tgt := 63) dX5_setsWires_10 (by decide) r_1 r_2 (fun c => ?_) (fun c => ?_)
      · replace h := h.1 c
        exact ww_vret (0, σ2) rfl ⟨rfl, h⟩ rfl (Nat.le_refl _) (Nat.le_refl _) dX5_setsWires_63
      · replace h := h.2 (Int.not_le.mp c)
        refine ww_aload_n dX5_setsWires_13 0 rfl ?_
        refine tg_40 dX5_setsWires_14 ?_
        refine ww_aload_n dX5_setsWires_17 0 rfl ?_
        refine tg_30 dX5_setsWires_18 ?_
        refine ww_bipush (v := 96) dX5_setsWires_21 rfl ?_
        refine ww_iconst dX5_setsWires_23 ?_
        refine ww_iload_n dX5_setsWires_24 2 rfl ?_
        refine ww_imul dX5_setsWires_25 ?_
        refine ww_iadd dX5_setsWires_26 ?_
        obtain ⟨r_3, h⟩ := h
        refine ta_30 r_3 dX5_setsWires_27 ?_
        refine ww_iload_n dX5_setsWires_28 1 rfl ?_
        refine ww_iload_n dX5_setsWires_29 2 rfl ?_
        refine ww_ishr dX5_setsWires_30 ?_
        refine ww_iconst dX5_setsWires_31 ?_
        refine ww_iand dX5_setsWires_32 ?_
        obtain ⟨r_4, h⟩ := h
        refine ts_40 r_4 dX5_setsWires_33 ?_
        refine ww_aload_n dX5_setsWires_34 0 rfl ?_
        refine tg_40 dX5_setsWires_35 ?_
        refine ww_aload_n dX5_setsWires_38 0 rfl ?_
        refine tg_30 dX5_setsWires_39 ?_
        refine ww_bipush (v := 96) dX5_setsWires_42 rfl ?_
        refine ww_iconst dX5_setsWires_44 ?_
        refine ww_iload_n dX5_setsWires_45 2 rfl ?_
        refine ww_imul dX5_setsWires_46 ?_
        refine ww_iadd dX5_setsWires_47 ?_
        refine ww_iconst dX5_setsWires_48 ?_
        refine ww_iadd dX5_setsWires_49 ?_
        obtain ⟨r_5, h⟩ := h
        refine ta_30 r_5 dX5_setsWires_50 ?_
        refine ww_iload_n dX5_setsWires_51 1 rfl ?_
        refine ww_iload_n dX5_setsWires_52 2 rfl ?_
        refine ww_ishr dX5_setsWires_53 ?_
        refine ww_iconst dX5_setsWires_54 ?_
        refine ww_iand dX5_setsWires_55 ?_
        obtain ⟨r_6, h⟩ := h
        refine ts_40 r_6 dX5_setsWires_56 ?_
        refine ww_iinc dX5_setsWires_57 2 rfl (Nat.le_of_ble_eq_true rfl) rfl ?_
        refine ww_goto (tgt := 2) dX5_setsWires_60 (by decide) ?_
        refine ww_lv [1, 2, 0] rfl ?_
        obtain ⟨m, hm, h⟩ := h
        exact ih2 m hm _ _ h
  refine ww_lv [1, 2, 0] rfl ?_
  obtain ⟨m, h⟩ := h
  exact kI2 m _ _ h
theorem tc_setsWires {S : Type} {G : g_G} {l : Launch} {cc : ByteArray} {nL : Nat} {ret : Option FieldType} {mn : String} {d mc ms : Nat} {R : Option Value → S → Prop} {sh : S → List va_W} {cells slots pc : Nat} {lv : List (Nat × Value)} {st : List Value} {q : Nat → Nat} {fr : va_W} {σ : TS} {a1 : Int} {P : TS → Prop} (h : w_setsWires σ a1 P) (hR : 0 + 1 ≤ d ∧ 16 + (3 + 11) + 100 * 0 ≤ 100 * d) (hc : cells ≤ mc ∧ slots ≤ ms) (hst : (st.map fun v => v.category).sum ≤ 16) (hdg : decode cc pc = .ok (.invokevirtual 337, 3)) (k : ∀ σ2, P σ2 → WW G l cc RX5 nL ret mn d mc ms R sh cells slots [tw G q σ2, fr] (pc + 3) lv (st)) : WW G l cc RX5 nL ret mn d mc ms R sh cells slots [tw G q σ, fr] pc lv (vI a1 :: .ref (q 100) :: st) := by
  refine tw_call0 (n := 1) (t_setsWires (q := q) h) (lw_V q2566 q2568 qs98 q117 q2569) ⟨rfl, by decide, by decide, by decide +kernel⟩ rfl hR hc rfl hst hdg ?_
  exact k
/-! summed -/
def w_summed (σ : TS) (a1 : Int) (P : Int → TS → Prop) : Prop :=
  ∃ I4 : Nat → Int → Int → TS → Prop, (∀ (n4 : Nat) (v2_4 : Int) (v3_4 : Int) (σ4 : TS), I4 n4 v2_4 v3_4 σ4 →
    rI v3_4 ∧
    (((bL 1 (tA σ4 30 116)) ≤ v3_4 →
      P v2_4 σ4) ∧
    (v3_4 < (bL 1 (tA σ4 30 116)) →
      w_setsWires σ4 v3_4 (fun σ_2 =>
        w_allNodes σ_2 (fun y_3 =>
          w_product σ_2 y_3 (fun y_4 =>
            rI a1 ∧
            ∃ J60 : Int → Prop, (∀ (s0_60 : Int), J60 s0_60 →
              ∃ m : Nat, m < n4 ∧ I4 m s0_60 (v3_4 + 1) σ_2) ∧
            ((a1 = 0 →
              w_p σ_2 (fun y_6 =>
                (0 ≤ v2_4 + y_4 ∧ (v2_4 + y_4) < 2147483648 ∧ (0 : Int) < y_6 ∧ (y_6 : Int) < 2147483648) ∧
                J60 ((v2_4 + y_4) % y_6))) ∧
            (¬ a1 = 0 →
              rI y_4 ∧
              ∃ J47 : Int → Prop, (∀ (s1_47 : Int), J47 s1_47 →
                J60 (v2_4 + s1_47)) ∧
              ((¬ y_4 = 0 →
                J47 1) ∧
              (y_4 = 0 →
                J47 0)))))))))) ∧
  ∃ m : Nat, I4 m 0 0 σ
set_option maxHeartbeats 4000000 in
theorem t_summed {G : g_G} {l : Launch} {q : Nat → Nat} {σ : TS} {a1 : Int} {P : Int → TS → Prop} (h : w_summed σ a1 P) : CT G l yX5_summed cX5_summed 5 (Option.some Jvm.ClassFile.FieldType.int) 3 0 0 [.ref (q 100), vI a1] [tw G q σ] (tR1 (P)) (fun u => [tw G q u.2]) := by
  unfold w_summed at h
  refine ww_of (by decide) (Nat.le_of_ble_eq_true rfl) (fun fr => ?_)
  show WW G l cX5_summed RX5 5 (Option.some Jvm.ClassFile.FieldType.int) "summed" 3 0 0 (tR1 (P)) (tS G q fr) 0 0 [tw G q σ, fr] 0 [(0, .ref (q 100)), (1, vI a1)] []
  refine ww_iconst dX5_summed_0 ?_
  refine ww_istore_n dX5_summed_1 rfl (Nat.le_of_ble_eq_true rfl) rfl ?_
  refine ww_iconst dX5_summed_2 ?_
  refine ww_istore_n dX5_summed_3 rfl (Nat.le_of_ble_eq_true rfl) rfl ?_
  obtain ⟨I4, hI4, h⟩ := h
  have kI4 : ∀ (n4 : Nat), ∀ (v2_4 : Int), ∀ (v3_4 : Int), ∀ (σ4 : TS), I4 n4 v2_4 v3_4 σ4 → WW G l cX5_summed RX5 5 (Option.some Jvm.ClassFile.FieldType.int) "summed" 3 0 0 (tR1 (P)) (tS G q fr) 0 0 [tw G q σ4, fr] 4 [(0, .ref (q 100)), (1, vI a1), (2, vI v2_4), (3, vI v3_4)] [] := by
    intro n4
    induction n4 using Nat.strongRecOn with
    | ind n4 ih4 =>
      intro v2_4 v3_4 σ4 hj
      have h := hI4 n4 v2_4 v3_4 σ4 hj
      refine ww_iload_n dX5_summed_4 3 rfl ?_
      refine ww_iconst dX5_summed_5 ?_
      refine ww_aload_n dX5_summed_6 0 rfl ?_
      refine tg_30 dX5_summed_7 ?_
      refine ww_bipush (v := 116) dX5_summed_10 rfl ?_
      refine ta_30 ⟨by decide, by decide⟩ dX5_summed_12 ?_
      refine ww_ishl dX5_summed_13 ?_
      obtain ⟨r_1, h⟩ := h
      refine ww_icmp_ge (tgt := 67) dX5_summed_14 (by decide) r_1 (rI_bL _ _) (fun c => ?_) (fun c => ?_)
      · replace h := h.1 c
        refine ww_iload_n dX5_summed_67 2 rfl ?_
        exact ww_iret (v2_4, σ4) rfl ⟨rfl, h⟩ rfl (Nat.le_refl _) (Nat.le_refl _) dX5_summed_68
      · replace h := h.2 (Int.not_le.mp c)
        refine ww_aload_n dX5_summed_17 0 rfl ?_
        refine ww_iload_n dX5_summed_18 3 rfl ?_
        refine tc_setsWires h ⟨Nat.le_of_ble_eq_true rfl, Nat.le_of_ble_eq_true rfl⟩ ⟨Nat.le_refl _, Nat.le_refl _⟩ (Nat.le_of_ble_eq_true rfl) dX5_summed_19 (fun σ_2 h => ?_)
        refine ww_aload_n dX5_summed_22 0 rfl ?_
        refine ww_aload_n dX5_summed_23 0 rfl ?_
        refine tc_allNodes h ⟨Nat.le_of_ble_eq_true rfl, Nat.le_of_ble_eq_true rfl⟩ ⟨Nat.le_refl _, Nat.le_refl _⟩ (Nat.le_of_ble_eq_true rfl) dX5_summed_24 (fun y_3 h => ?_)
        refine tc_product h ⟨Nat.le_of_ble_eq_true rfl, Nat.le_of_ble_eq_true rfl⟩ ⟨Nat.le_refl _, Nat.le_refl _⟩ (Nat.le_of_ble_eq_true rfl) dX5_summed_27 (fun y_4 h => ?_)
        refine ww_istore dX5_summed_30 (Nat.le_of_ble_eq_true rfl) rfl ?_
        refine ww_iload_n dX5_summed_32 2 rfl ?_
        obtain ⟨r_5, h⟩ := h
        obtain ⟨J60, hJ60, h⟩ := h
        have kJ60 : ∀ (s0_60 : Int), J60 s0_60 → WW G l cX5_summed RX5 5 (Option.some Jvm.ClassFile.FieldType.int) "summed" 3 0 0 (tR1 (P)) (tS G q fr) 0 0 [tw G q σ_2, fr] 60 [(0, .ref (q 100)), (1, vI a1), (3, vI v3_4)] [vI s0_60] := by
          intro s0_60 hj
          have h := hJ60 s0_60 hj
          refine ww_istore_n dX5_summed_60 rfl (Nat.le_of_ble_eq_true rfl) rfl ?_
          refine ww_iinc dX5_summed_61 3 rfl (Nat.le_of_ble_eq_true rfl) rfl ?_
          refine ww_goto (tgt := 4) dX5_summed_64 (by decide) ?_
          refine ww_lv [2, 3, 1, 0] rfl ?_
          obtain ⟨m, hm, h⟩ := h
          exact ih4 m hm _ _ _ h
        refine ww_if_eq (tgt := 51) dX5_summed_33 (by decide) r_5 (fun c => ?_) (fun c => ?_)
        · replace h := h.1 c
          refine ww_iload_n dX5_summed_51 3 rfl ?_
          refine ww_iload dX5_summed_52 0 rfl ?_
          refine ww_iadd dX5_summed_54 ?_
          refine ww_aload_n dX5_summed_55 1 rfl ?_
          refine tc_p h ⟨Nat.le_of_ble_eq_true rfl, Nat.le_of_ble_eq_true rfl⟩ ⟨Nat.le_refl _, Nat.le_refl _⟩ (Nat.le_of_ble_eq_true rfl) dX5_summed_56 (fun y_6 h => ?_)
          obtain ⟨r_7, h⟩ := h
          refine ww_irem dX5_summed_59 r_7 ?_
          refine ww_lv [1, 2, 4] rfl ?_
          exact kJ60 _ h
        · replace h := h.2 c
          refine ww_iload_n dX5_summed_36 3 rfl ?_
          refine ww_iload dX5_summed_37 0 rfl ?_
          obtain ⟨r_8, h⟩ := h
          obtain ⟨J47, hJ47, h⟩ := h
          have kJ47 : ∀ (s1_47 : Int), J47 s1_47 → WW G l cX5_summed RX5 5 (Option.some Jvm.ClassFile.FieldType.int) "summed" 3 0 0 (tR1 (P)) (tS G q fr) 0 0 [tw G q σ_2, fr] 47 [(0, .ref (q 100)), (1, vI a1), (3, vI v3_4)] [vI s1_47, vI v2_4] := by
            intro s1_47 hj
            have h := hJ47 s1_47 hj
            refine ww_iadd dX5_summed_47 ?_
            refine ww_goto (tgt := 60) dX5_summed_48 (by decide) ?_
            exact kJ60 _ h
          refine ww_if_ne (tgt := 46) dX5_summed_39 (by decide) r_8 (fun c => ?_) (fun c => ?_)
          · replace h := h.1 c
            refine ww_iconst dX5_summed_46 ?_
            refine ww_lv [1, 2, 4] rfl ?_
            exact kJ47 _ h
          · replace h := h.2 c
            refine ww_iconst dX5_summed_42 ?_
            refine ww_goto (tgt := 47) dX5_summed_43 (by decide) ?_
            refine ww_lv [1, 2, 4] rfl ?_
            exact kJ47 _ h
  refine ww_lv [2, 3, 1, 0] rfl ?_
  obtain ⟨m, h⟩ := h
  exact kI4 m _ _ _ h
theorem tc_summed {S : Type} {G : g_G} {l : Launch} {cc : ByteArray} {nL : Nat} {ret : Option FieldType} {mn : String} {d mc ms : Nat} {R : Option Value → S → Prop} {sh : S → List va_W} {cells slots pc : Nat} {lv : List (Nat × Value)} {st : List Value} {q : Nat → Nat} {fr : va_W} {σ : TS} {a1 : Int} {P : Int → TS → Prop} (h : w_summed σ a1 P) (hR : 3 + 1 ≤ d ∧ 16 + (5 + 11) + 100 * 3 ≤ 100 * d) (hc : cells ≤ mc ∧ slots ≤ ms) (hst : (st.map fun v => v.category).sum ≤ 16) (hdg : decode cc pc = .ok (.invokevirtual 349, 3)) (k : ∀ r, ∀ σ2, P r σ2 → WW G l cc RX5 nL ret mn d mc ms R sh cells slots [tw G q σ2, fr] (pc + 3) lv (vI r :: st)) : WW G l cc RX5 nL ret mn d mc ms R sh cells slots [tw G q σ, fr] pc lv (vI a1 :: .ref (q 100) :: st) := by
  refine tw_call1 (n := 1) (t_summed (q := q) h) (lw_V q2562 q2564 qs97 q117 q2565) ⟨rfl, by decide, by decide, by decide +kernel⟩ rfl hR hc rfl hst hdg ?_
  exact fun r σ2 h => k r σ2 h
/-! sum -/
def w_sum (σ : TS) (a1 : Int) (P : Int → TS → Prop) : Prop :=
  w_laysIndex (sF σ 0 0) a1 (fun y_1 σ_2 =>
    ((y_1 = 0 →
      P (-1) σ_2) ∧
    (¬ y_1 = 0 →
      w_summed σ_2 0 (fun y_4 σ_5 =>
        P y_4 σ_5))))
set_option maxHeartbeats 4000000 in
theorem t_sum {G : g_G} {l : Launch} {q : Nat → Nat} {σ : TS} {a1 : Int} {P : Int → TS → Prop} (h : w_sum σ a1 P) : CT G l yX5_sum cX5_sum 2 (Option.some Jvm.ClassFile.FieldType.int) 4 0 0 [.ref (q 100), vI a1] [tw G q σ] (tR1 (P)) (fun u => [tw G q u.2]) := by
  unfold w_sum at h
  refine ww_of (by decide) (Nat.le_of_ble_eq_true rfl) (fun fr => ?_)
  show WW G l cX5_sum RX5 2 (Option.some Jvm.ClassFile.FieldType.int) "sum" 4 0 0 (tR1 (P)) (tS G q fr) 0 0 [tw G q σ, fr] 0 [(0, .ref (q 100)), (1, vI a1)] []
  refine ww_aload_n dX5_sum_0 0 rfl ?_
  refine ww_iconst dX5_sum_1 ?_
  refine tp_0 dX5_sum_2 ?_
  refine ww_aload_n dX5_sum_5 0 rfl ?_
  refine ww_iload_n dX5_sum_6 1 rfl ?_
  refine tc_laysIndex h ⟨Nat.le_of_ble_eq_true rfl, Nat.le_of_ble_eq_true rfl⟩ ⟨Nat.le_refl _, Nat.le_refl _⟩ (Nat.le_of_ble_eq_true rfl) dX5_sum_7 (fun y_1 σ_2 z_3 h => ?_)
  refine ww_if_eq (tgt := 21) dX5_sum_10 (by decide) (z01 z_3) (fun c => ?_) (fun c => ?_)
  · replace h := h.1 c
    refine ww_iconst dX5_sum_21 ?_
    exact ww_iret ((-1), σ_2) rfl ⟨rfl, h⟩ rfl (Nat.le_refl _) (Nat.le_refl _) dX5_sum_22
  · replace h := h.2 c
    refine ww_aload_n dX5_sum_13 0 rfl ?_
    refine ww_iconst dX5_sum_14 ?_
    refine tc_summed h ⟨Nat.le_of_ble_eq_true rfl, Nat.le_of_ble_eq_true rfl⟩ ⟨Nat.le_refl _, Nat.le_refl _⟩ (Nat.le_of_ble_eq_true rfl) dX5_sum_15 (fun y_4 σ_5 h => ?_)
    refine ww_goto (tgt := 22) dX5_sum_18 (by decide) ?_
    exact ww_iret (y_4, σ_5) rfl ⟨rfl, h⟩ rfl (Nat.le_refl _) (Nat.le_refl _) dX5_sum_22

/-! total -/
def w_total (σ : TS) (P : Int → TS → Prop) : Prop :=
  w_laysOpen (sF σ 0 0) (fun σ_1 =>
    ∃ I11 : Nat → Int → TS → Prop, (∀ (n11 : Nat) (v1_11 : Int) (σ11 : TS), I11 n11 v1_11 σ11 →
      rI v1_11 ∧
      rI (tF σ11 39) ∧
      (((tF σ11 39) ≤ v1_11 →
        w_summed σ11 0 (fun y_4 σ_5 =>
          P y_4 σ_5)) ∧
      (v1_11 < (tF σ11 39) →
        (0 ≤ v1_11 ∧ v1_11 < 24) ∧
        (0 ≤ tA σ11 38 v1_11 ∧ tA σ11 38 v1_11 < 24) ∧
        ∃ m : Nat, m < n11 ∧ I11 m (v1_11 + 1) (sA σ11 40 (tA σ11 38 v1_11) 2)))) ∧
    ∃ m : Nat, I11 m 0 σ_1)
set_option maxHeartbeats 4000000 in
theorem t_total {G : g_G} {l : Launch} {q : Nat → Nat} {σ : TS} {P : Int → TS → Prop} (h : w_total σ P) : CT G l yX5_total cX5_total 2 (Option.some Jvm.ClassFile.FieldType.int) 4 0 0 [.ref (q 100)] [tw G q σ] (tR1 (P)) (fun u => [tw G q u.2]) := by
  unfold w_total at h
  refine ww_of (by decide) (Nat.le_of_ble_eq_true rfl) (fun fr => ?_)
  show WW G l cX5_total RX5 2 (Option.some Jvm.ClassFile.FieldType.int) "total" 4 0 0 (tR1 (P)) (tS G q fr) 0 0 [tw G q σ, fr] 0 [(0, .ref (q 100))] []
  refine ww_aload_n dX5_total_0 0 rfl ?_
  refine ww_iconst dX5_total_1 ?_
  refine tp_0 dX5_total_2 ?_
  refine ww_aload_n dX5_total_5 0 rfl ?_
  refine tc_laysOpen h ⟨Nat.le_of_ble_eq_true rfl, Nat.le_of_ble_eq_true rfl⟩ ⟨Nat.le_refl _, Nat.le_refl _⟩ (Nat.le_of_ble_eq_true rfl) dX5_total_6 (fun σ_1 h => ?_)
  refine ww_iconst dX5_total_9 ?_
  refine ww_istore_n dX5_total_10 rfl (Nat.le_of_ble_eq_true rfl) rfl ?_
  obtain ⟨I11, hI11, h⟩ := h
  have kI11 : ∀ (n11 : Nat), ∀ (v1_11 : Int), ∀ (σ11 : TS), I11 n11 v1_11 σ11 → WW G l cX5_total RX5 2 (Option.some Jvm.ClassFile.FieldType.int) "total" 4 0 0 (tR1 (P)) (tS G q fr) 0 0 [tw G q σ11, fr] 11 [(0, .ref (q 100)), (1, vI v1_11)] [] := by
    intro n11
    induction n11 using Nat.strongRecOn with
    | ind n11 ih11 =>
      intro v1_11 σ11 hj
      have h := hI11 n11 v1_11 σ11 hj
      refine ww_iload_n dX5_total_11 1 rfl ?_
      refine ww_aload_n dX5_total_12 0 rfl ?_
      refine tg_39 dX5_total_13 ?_
      obtain ⟨r_2, r_3, h⟩ := h
      refine ww_icmp_ge (tgt := 37) dX5_total_16 (by decide) r_2 r_3 (fun c => ?_) (fun c => ?_)
      · replace h := h.1 c
        refine ww_aload_n dX5_total_37 0 rfl ?_
        refine ww_iconst dX5_total_38 ?_
        refine tc_summed h ⟨Nat.le_of_ble_eq_true rfl, Nat.le_of_ble_eq_true rfl⟩ ⟨Nat.le_refl _, Nat.le_refl _⟩ (Nat.le_of_ble_eq_true rfl) dX5_total_39 (fun y_4 σ_5 h => ?_)
        exact ww_iret (y_4, σ_5) rfl ⟨rfl, h⟩ rfl (Nat.le_refl _) (Nat.le_refl _) dX5_total_42
      · replace h := h.2 (Int.not_le.mp c)
        refine ww_aload_n dX5_total_19 0 rfl ?_
        refine tg_40 dX5_total_20 ?_
        refine ww_aload_n dX5_total_23 0 rfl ?_
        refine tg_38 dX5_total_24 ?_
        refine ww_iload_n dX5_total_27 1 rfl ?_
        obtain ⟨r_6, h⟩ := h
        refine ta_38 r_6 dX5_total_28 ?_
        refine ww_iconst dX5_total_29 ?_
        obtain ⟨r_7, h⟩ := h
        refine ts_40 r_7 dX5_total_30 ?_
        refine ww_iinc dX5_total_31 1 rfl (Nat.le_of_ble_eq_true rfl) rfl ?_
        refine ww_goto (tgt := 11) dX5_total_34 (by decide) ?_
        refine ww_lv [1, 0] rfl ?_
        obtain ⟨m, hm, h⟩ := h
        exact ih11 m hm _ _ h
  refine ww_lv [1, 0] rfl ?_
  obtain ⟨m, h⟩ := h
  exact kI11 m _ _ h

/-! ways -/
def w_ways (σ : TS) (a1 : Int) (P : Int → TS → Prop) : Prop :=
  w_laysIndex (sF σ 0 0) a1 (fun y_1 σ_2 =>
    ((y_1 = 0 →
      P (-1) σ_2) ∧
    (¬ y_1 = 0 →
      w_summed σ_2 1 (fun y_4 σ_5 =>
        P y_4 σ_5))))
set_option maxHeartbeats 4000000 in
theorem t_ways {G : g_G} {l : Launch} {q : Nat → Nat} {σ : TS} {a1 : Int} {P : Int → TS → Prop} (h : w_ways σ a1 P) : CT G l yX5_ways cX5_ways 2 (Option.some Jvm.ClassFile.FieldType.int) 4 0 0 [.ref (q 100), vI a1] [tw G q σ] (tR1 (P)) (fun u => [tw G q u.2]) := by
  unfold w_ways at h
  refine ww_of (by decide) (Nat.le_of_ble_eq_true rfl) (fun fr => ?_)
  show WW G l cX5_ways RX5 2 (Option.some Jvm.ClassFile.FieldType.int) "ways" 4 0 0 (tR1 (P)) (tS G q fr) 0 0 [tw G q σ, fr] 0 [(0, .ref (q 100)), (1, vI a1)] []
  refine ww_aload_n dX5_ways_0 0 rfl ?_
  refine ww_iconst dX5_ways_1 ?_
  refine tp_0 dX5_ways_2 ?_
  refine ww_aload_n dX5_ways_5 0 rfl ?_
  refine ww_iload_n dX5_ways_6 1 rfl ?_
  refine tc_laysIndex h ⟨Nat.le_of_ble_eq_true rfl, Nat.le_of_ble_eq_true rfl⟩ ⟨Nat.le_refl _, Nat.le_refl _⟩ (Nat.le_of_ble_eq_true rfl) dX5_ways_7 (fun y_1 σ_2 z_3 h => ?_)
  refine ww_if_eq (tgt := 21) dX5_ways_10 (by decide) (z01 z_3) (fun c => ?_) (fun c => ?_)
  · replace h := h.1 c
    refine ww_iconst dX5_ways_21 ?_
    exact ww_iret ((-1), σ_2) rfl ⟨rfl, h⟩ rfl (Nat.le_refl _) (Nat.le_refl _) dX5_ways_22
  · replace h := h.2 c
    refine ww_aload_n dX5_ways_13 0 rfl ?_
    refine ww_iconst dX5_ways_14 ?_
    refine tc_summed h ⟨Nat.le_of_ble_eq_true rfl, Nat.le_of_ble_eq_true rfl⟩ ⟨Nat.le_refl _, Nat.le_refl _⟩ (Nat.le_of_ble_eq_true rfl) dX5_ways_15 (fun y_4 σ_5 h => ?_)
    refine ww_goto (tgt := 22) dX5_ways_18 (by decide) ?_
    exact ww_iret (y_4, σ_5) rfl ⟨rfl, h⟩ rfl (Nat.le_refl _) (Nat.le_refl _) dX5_ways_22

/-! isInside -/
def w_isInside (σ : TS) (a1 : Int) (a2 : Int) (P : Int → Prop) : Prop :=
  (0 ≤ 96 + (2 * a1) ∧ 96 + (2 * a1) < 117) ∧
  (0 ≤ tA σ 30 (96 + (2 * a1)) ∧ (tA σ 30 (96 + (2 * a1))) < 2147483648 ∧ (0 : Int) < 4 ∧ (4 : Int) < 2147483648) ∧
  ((¬ (bA (bR a2 ((tA σ 30 (96 + (2 * a1))) / 4)) 1) = 1 →
    P 0) ∧
  ((bA (bR a2 ((tA σ 30 (96 + (2 * a1))) / 4)) 1) = 1 →
    (0 ≤ (96 + (2 * a1)) + 1 ∧ (96 + (2 * a1)) + 1 < 117) ∧
    (0 ≤ tA σ 30 ((96 + (2 * a1)) + 1) ∧ (tA σ 30 ((96 + (2 * a1)) + 1)) < 2147483648 ∧ (0 : Int) < 4 ∧ (4 : Int) < 2147483648) ∧
    ((¬ (bA (bR a2 ((tA σ 30 ((96 + (2 * a1)) + 1)) / 4)) 1) = 1 →
      P 0) ∧
    ((bA (bR a2 ((tA σ 30 ((96 + (2 * a1)) + 1)) / 4)) 1) = 1 →
      P 1))))
set_option maxHeartbeats 4000000 in
theorem t_isInside {G : g_G} {l : Launch} {q : Nat → Nat} {σ : TS} {a1 : Int} {a2 : Int} {P : Int → Prop} (h : w_isInside σ a1 a2 P) : CT G l yX5_isInside cX5_isInside 3 (Option.some Jvm.ClassFile.FieldType.boolean) 0 0 0 [.ref (q 100), vI a1, vI a2] [tw G q σ] (tR2 (fun r s => s = σ ∧ P r)) (fun u => [tw G q u.2]) := by
  unfold w_isInside at h
  refine ww_of (by decide) (Nat.le_of_ble_eq_true rfl) (fun fr => ?_)
  show WW G l cX5_isInside RX5 3 (Option.some Jvm.ClassFile.FieldType.boolean) "isInside" 0 0 0 (tR2 (fun r s => s = σ ∧ P r)) (tS G q fr) 0 0 [tw G q σ, fr] 0 [(0, .ref (q 100)), (1, vI a1), (2, vI a2)] []
  refine ww_iload_n dX5_isInside_0 2 rfl ?_
  refine ww_aload_n dX5_isInside_1 0 rfl ?_
  refine tg_30 dX5_isInside_2 ?_
  refine ww_bipush (v := 96) dX5_isInside_5 rfl ?_
  refine ww_iconst dX5_isInside_7 ?_
  refine ww_iload_n dX5_isInside_8 1 rfl ?_
  refine ww_imul dX5_isInside_9 ?_
  refine ww_iadd dX5_isInside_10 ?_
  obtain ⟨r_1, h⟩ := h
  refine ta_30 r_1 dX5_isInside_11 ?_
  refine ww_iconst dX5_isInside_12 ?_
  obtain ⟨r_2, h⟩ := h
  refine ww_idiv dX5_isInside_13 r_2 ?_
  refine ww_ishr dX5_isInside_14 ?_
  refine ww_iconst dX5_isInside_15 ?_
  refine ww_iand dX5_isInside_16 ?_
  refine ww_iconst dX5_isInside_17 ?_
  refine ww_icmp_ne (tgt := 48) dX5_isInside_18 (by decide) (rI_bA _ _) (by decide) (fun c => ?_) (fun c => ?_)
  · replace h := h.1 c
    refine ww_iconst dX5_isInside_48 ?_
    exact ww_zret (0, σ) rfl (Or.inl rfl) ⟨rfl, (Or.inl rfl), ⟨rfl, h⟩⟩ rfl (Nat.le_refl _) (Nat.le_refl _) dX5_isInside_49
  · replace h := h.2 c
    refine ww_iload_n dX5_isInside_21 2 rfl ?_
    refine ww_aload_n dX5_isInside_22 0 rfl ?_
    refine tg_30 dX5_isInside_23 ?_
    refine ww_bipush (v := 96) dX5_isInside_26 rfl ?_
    refine ww_iconst dX5_isInside_28 ?_
    refine ww_iload_n dX5_isInside_29 1 rfl ?_
    refine ww_imul dX5_isInside_30 ?_
    refine ww_iadd dX5_isInside_31 ?_
    refine ww_iconst dX5_isInside_32 ?_
    refine ww_iadd dX5_isInside_33 ?_
    obtain ⟨r_3, h⟩ := h
    refine ta_30 r_3 dX5_isInside_34 ?_
    refine ww_iconst dX5_isInside_35 ?_
    obtain ⟨r_4, h⟩ := h
    refine ww_idiv dX5_isInside_36 r_4 ?_
    refine ww_ishr dX5_isInside_37 ?_
    refine ww_iconst dX5_isInside_38 ?_
    refine ww_iand dX5_isInside_39 ?_
    refine ww_iconst dX5_isInside_40 ?_
    refine ww_icmp_ne (tgt := 48) dX5_isInside_41 (by decide) (rI_bA _ _) (by decide) (fun c => ?_) (fun c => ?_)
    · replace h := h.1 c
      refine ww_iconst dX5_isInside_48 ?_
      exact ww_zret (0, σ) rfl (Or.inl rfl) ⟨rfl, (Or.inl rfl), ⟨rfl, h⟩⟩ rfl (Nat.le_refl _) (Nat.le_refl _) dX5_isInside_49
    · replace h := h.2 c
      refine ww_iconst dX5_isInside_44 ?_
      refine ww_goto (tgt := 49) dX5_isInside_45 (by decide) ?_
      exact ww_zret (1, σ) rfl (Or.inr rfl) ⟨rfl, (Or.inr rfl), ⟨rfl, h⟩⟩ rfl (Nat.le_refl _) (Nat.le_refl _) dX5_isInside_49
theorem tc_isInside {S : Type} {G : g_G} {l : Launch} {cc : ByteArray} {nL : Nat} {ret : Option FieldType} {mn : String} {d mc ms : Nat} {R : Option Value → S → Prop} {sh : S → List va_W} {cells slots pc : Nat} {lv : List (Nat × Value)} {st : List Value} {q : Nat → Nat} {fr : va_W} {σ : TS} {a1 : Int} {a2 : Int} {P : Int → Prop} (h : w_isInside σ a1 a2 P) (hR : 0 + 1 ≤ d ∧ 16 + (3 + 11) + 100 * 0 ≤ 100 * d) (hc : cells ≤ mc ∧ slots ≤ ms) (hst : (st.map fun v => v.category).sum ≤ 16) (hdg : decode cc pc = .ok (.invokevirtual 352, 3)) (k : ∀ r, (r = 0 ∨ r = 1) → P r → WW G l cc RX5 nL ret mn d mc ms R sh cells slots [tw G q σ, fr] (pc + 3) lv (vI r :: st)) : WW G l cc RX5 nL ret mn d mc ms R sh cells slots [tw G q σ, fr] pc lv (vI a2 :: vI a1 :: .ref (q 100) :: st) := by
  refine tw_call2 (n := 2) (t_isInside (q := q) h) (lw_V q2594 q2596 qs102 q117 q2597) ⟨rfl, by decide, by decide, by decide +kernel⟩ rfl hR hc rfl hst hdg ?_
  rintro r σ2 z ⟨rfl, h2⟩
  exact k r z h2
/-! within_2 -/
def w_within_2 (σ : TS) (a1 : Int) (P : Int → TS → Prop) : Prop :=
  rI a1 ∧
  w_allNodes (sF σ 0 0) (fun y_2 =>
    rI y_2 ∧
    w_within a1 0 y_2 (fun y_4 =>
      ((¬ y_4 = 0 →
        ∃ I25 : Nat → Int → Int → Prop, (∀ (n25 : Nat) (v2_25 : Int) (v3_25 : Int), I25 n25 v2_25 v3_25 →
          rI v3_25 ∧
          rI (tA σ 30 116) ∧
          (((tA σ 30 116) ≤ v3_25 →
            ∃ I66 : Nat → Int → Int → TS → Prop, (∀ (n66 : Nat) (v3_66 : Int) (v4_66 : Int) (σ66 : TS), I66 n66 v3_66 v4_66 σ66 →
              rI v4_66 ∧
              (((bL 1 (tA σ66 30 116)) ≤ v4_66 →
                P v3_66 σ66) ∧
              (v4_66 < (bL 1 (tA σ66 30 116)) →
                ∃ J135 : Int → TS → Prop, (∀ (v3_135 : Int) (σ135 : TS), J135 v3_135 σ135 →
                  ∃ m : Nat, m < n66 ∧ I66 m v3_135 (v4_66 + 1) σ135) ∧
                (((bA v4_66 (bX v2_25 (-1))) = 0 →
                  ∃ I95 : Nat → Int → TS → Prop, (∀ (n95 : Nat) (v5_95 : Int) (σ95 : TS), I95 n95 v5_95 σ95 →
                    rI v5_95 ∧
                    ((24 ≤ v5_95 →
                      w_setsWires σ95 v4_66 (fun σ_10 =>
                        w_product σ_10 a1 (fun y_11 =>
                          w_p σ_10 (fun y_12 =>
                            (0 ≤ v3_66 + y_11 ∧ (v3_66 + y_11) < 2147483648 ∧ (0 : Int) < y_12 ∧ (y_12 : Int) < 2147483648) ∧
                            ∀ x_14 : Int, x_14 = (v3_66 + y_11) % y_12 →
                            J135 x_14 σ_10)))) ∧
                    (v5_95 < 24 →
                      (0 ≤ v5_95 ∧ v5_95 < 24) ∧
                      ∃ m : Nat, m < n95 ∧ I95 m (v5_95 + 1) (sA σ95 40 v5_95 0)))) ∧
                  ∃ m : Nat, I95 m 0 σ66) ∧
                (¬ (bA v4_66 (bX v2_25 (-1))) = 0 →
                  J135 v3_66 σ66))))) ∧
            ∃ m : Nat, I66 m 0 0 (sF σ 0 0)) ∧
          (v3_25 < (tA σ 30 116) →
            w_isInside (sF σ 0 0) v3_25 a1 (fun y_16 =>
              ∃ J53 : Int → Prop, (∀ (s1_53 : Int), J53 s1_53 →
                ∃ m : Nat, m < n25 ∧ I25 m (bO v2_25 s1_53) (v3_25 + 1)) ∧
              ((y_16 = 0 →
                J53 0) ∧
              (¬ y_16 = 0 →
                J53 (bL 1 v3_25))))))) ∧
        ∃ m : Nat, I25 m 0 0) ∧
      (y_4 = 0 →
        P (-1) (sF σ 0 0)))))
set_option maxHeartbeats 4000000 in
theorem t_within_2 {G : g_G} {l : Launch} {q : Nat → Nat} {σ : TS} {a1 : Int} {P : Int → TS → Prop} (h : w_within_2 σ a1 P) : CT G l yX5_within_2 cX5_within_2 6 (Option.some Jvm.ClassFile.FieldType.int) 3 0 0 [.ref (q 100), vI a1] [tw G q σ] (tR1 (P)) (fun u => [tw G q u.2]) := by
  unfold w_within_2 at h
  refine ww_of (by decide) (Nat.le_of_ble_eq_true rfl) (fun fr => ?_)
  show WW G l cX5_within_2 RX5 6 (Option.some Jvm.ClassFile.FieldType.int) "within" 3 0 0 (tR1 (P)) (tS G q fr) 0 0 [tw G q σ, fr] 0 [(0, .ref (q 100)), (1, vI a1)] []
  refine ww_aload_n dX5_within_2_0 0 rfl ?_
  refine ww_iconst dX5_within_2_1 ?_
  refine tp_0 dX5_within_2_2 ?_
  refine ww_iload_n dX5_within_2_5 1 rfl ?_
  obtain ⟨r_1, h⟩ := h
  refine ww_i2l dX5_within_2_6 r_1 ?_
  refine ww_lconst (v := 0) dX5_within_2_7 rfl ?_
  refine ww_aload_n dX5_within_2_8 0 rfl ?_
  refine tc_allNodes h ⟨Nat.le_of_ble_eq_true rfl, Nat.le_of_ble_eq_true rfl⟩ ⟨Nat.le_refl _, Nat.le_refl _⟩ (Nat.le_of_ble_eq_true rfl) dX5_within_2_9 (fun y_2 h => ?_)
  obtain ⟨r_3, h⟩ := h
  refine ww_i2l dX5_within_2_12 r_3 ?_
  refine tc_within h ⟨Nat.le_of_ble_eq_true rfl, Nat.le_of_ble_eq_true rfl⟩ ⟨Nat.le_refl _, Nat.le_refl _⟩ (Nat.le_of_ble_eq_true rfl) dX5_within_2_13 (fun y_4 z_5 h => ?_)
  refine ww_if_ne (tgt := 21) dX5_within_2_16 (by decide) (z01 z_5) (fun c => ?_) (fun c => ?_)
  · replace h := h.1 c
    refine ww_iconst dX5_within_2_21 ?_
    refine ww_istore_n dX5_within_2_22 rfl (Nat.le_of_ble_eq_true rfl) rfl ?_
    refine ww_iconst dX5_within_2_23 ?_
    refine ww_istore_n dX5_within_2_24 rfl (Nat.le_of_ble_eq_true rfl) rfl ?_
    obtain ⟨I25, hI25, h⟩ := h
    have kI25 : ∀ (n25 : Nat), ∀ (v2_25 : Int), ∀ (v3_25 : Int), I25 n25 v2_25 v3_25 → WW G l cX5_within_2 RX5 6 (Option.some Jvm.ClassFile.FieldType.int) "within" 3 0 0 (tR1 (P)) (tS G q fr) 0 0 [tw G q (sF σ 0 0), fr] 25 [(0, .ref (q 100)), (1, vI a1), (2, vI v2_25), (3, vI v3_25)] [] := by
      intro n25
      induction n25 using Nat.strongRecOn with
      | ind n25 ih25 =>
        intro v2_25 v3_25 hj
        have h := hI25 n25 v2_25 v3_25 hj
        refine ww_iload_n dX5_within_2_25 3 rfl ?_
        refine ww_aload_n dX5_within_2_26 0 rfl ?_
        refine tg_30 dX5_within_2_27 ?_
        refine ww_bipush (v := 116) dX5_within_2_30 rfl ?_
        refine ta_30 ⟨by decide, by decide⟩ dX5_within_2_32 ?_
        obtain ⟨r_6, r_7, h⟩ := h
        refine ww_icmp_ge (tgt := 61) dX5_within_2_33 (by decide) r_6 r_7 (fun c => ?_) (fun c => ?_)
        · replace h := h.1 c
          refine ww_iconst dX5_within_2_61 ?_
          refine ww_istore_n dX5_within_2_62 rfl (Nat.le_of_ble_eq_true rfl) rfl ?_
          refine ww_iconst dX5_within_2_63 ?_
          refine ww_istore dX5_within_2_64 (Nat.le_of_ble_eq_true rfl) rfl ?_
          obtain ⟨I66, hI66, h⟩ := h
          have kI66 : ∀ (n66 : Nat), ∀ (v3_66 : Int), ∀ (v4_66 : Int), ∀ (σ66 : TS), I66 n66 v3_66 v4_66 σ66 → WW G l cX5_within_2 RX5 6 (Option.some Jvm.ClassFile.FieldType.int) "within" 3 0 0 (tR1 (P)) (tS G q fr) 0 0 [tw G q σ66, fr] 66 [(0, .ref (q 100)), (1, vI a1), (2, vI v2_25), (3, vI v3_66), (4, vI v4_66)] [] := by
            intro n66
            induction n66 using Nat.strongRecOn with
            | ind n66 ih66 =>
              intro v3_66 v4_66 σ66 hj
              have h := hI66 n66 v3_66 v4_66 σ66 hj
              refine ww_iload dX5_within_2_66 4 rfl ?_
              refine ww_iconst dX5_within_2_68 ?_
              refine ww_aload_n dX5_within_2_69 0 rfl ?_
              refine tg_30 dX5_within_2_70 ?_
              refine ww_bipush (v := 116) dX5_within_2_73 rfl ?_
              refine ta_30 ⟨by decide, by decide⟩ dX5_within_2_75 ?_
              refine ww_ishl dX5_within_2_76 ?_
              obtain ⟨r_8, h⟩ := h
              refine ww_icmp_ge (tgt := 141) dX5_within_2_77 (by decide) r_8 (rI_bL _ _) (fun c => ?_) (fun c => ?_)
              · replace h := h.1 c
                refine ww_iload_n dX5_within_2_141 3 rfl ?_
                exact ww_iret (v3_66, σ66) rfl ⟨rfl, h⟩ rfl (Nat.le_refl _) (Nat.le_refl _) dX5_within_2_142
              · replace h := h.2 (Int.not_le.mp c)
                refine ww_iload dX5_within_2_80 4 rfl ?_
                refine ww_iload_n dX5_within_2_82 2 rfl ?_
                refine ww_iconst dX5_within_2_83 ?_
                refine ww_ixor dX5_within_2_84 ?_
                refine ww_iand dX5_within_2_85 ?_
                obtain ⟨J135, hJ135, h⟩ := h
                have kJ135 : ∀ (v3_135 : Int), ∀ (σ135 : TS), J135 v3_135 σ135 → WW G l cX5_within_2 RX5 6 (Option.some Jvm.ClassFile.FieldType.int) "within" 3 0 0 (tR1 (P)) (tS G q fr) 0 0 [tw G q σ135, fr] 135 [(0, .ref (q 100)), (1, vI a1), (2, vI v2_25), (3, vI v3_135), (4, vI v4_66)] [] := by
                  intro v3_135 σ135 hj
                  have h := hJ135 v3_135 σ135 hj
                  refine ww_iinc dX5_within_2_135 4 rfl (Nat.le_of_ble_eq_true rfl) rfl ?_
                  refine ww_goto (tgt := 66) dX5_within_2_138 (by decide) ?_
                  refine ww_lv [1, 2, 3, 4, 0] rfl ?_
                  obtain ⟨m, hm, h⟩ := h
                  exact ih66 m hm _ _ _ h
                refine ww_if_eq (tgt := 92) dX5_within_2_86 (by decide) (rI_bA _ _) (fun c => ?_) (fun c => ?_)
                · replace h := h.1 c
                  refine ww_iconst dX5_within_2_92 ?_
                  refine ww_istore dX5_within_2_93 (Nat.le_of_ble_eq_true rfl) rfl ?_
                  obtain ⟨I95, hI95, h⟩ := h
                  have kI95 : ∀ (n95 : Nat), ∀ (v5_95 : Int), ∀ (σ95 : TS), I95 n95 v5_95 σ95 → WW G l cX5_within_2 RX5 6 (Option.some Jvm.ClassFile.FieldType.int) "within" 3 0 0 (tR1 (P)) (tS G q fr) 0 0 [tw G q σ95, fr] 95 [(0, .ref (q 100)), (1, vI a1), (2, vI v2_25), (3, vI v3_66), (4, vI v4_66), (5, vI v5_95)] [] := by
                    intro n95
                    induction n95 using Nat.strongRecOn with
                    | ind n95 ih95 =>
                      intro v5_95 σ95 hj
                      have h := hI95 n95 v5_95 σ95 hj
                      refine ww_iload dX5_within_2_95 5 rfl ?_
                      refine ww_bipush (v := 24) dX5_within_2_97 rfl ?_
                      obtain ⟨r_9, h⟩ := h
                      refine ww_icmp_ge (tgt := 116) dX5_within_2_99 (by decide) r_9 (by decide) (fun c => ?_) (fun c => ?_)
                      · replace h := h.1 c
                        refine ww_aload_n dX5_within_2_116 0 rfl ?_
                        refine ww_iload dX5_within_2_117 4 rfl ?_
                        refine tc_setsWires h ⟨Nat.le_of_ble_eq_true rfl, Nat.le_of_ble_eq_true rfl⟩ ⟨Nat.le_refl _, Nat.le_refl _⟩ (Nat.le_of_ble_eq_true rfl) dX5_within_2_119 (fun σ_10 h => ?_)
                        refine ww_iload_n dX5_within_2_122 3 rfl ?_
                        refine ww_aload_n dX5_within_2_123 0 rfl ?_
                        refine ww_iload_n dX5_within_2_124 1 rfl ?_
                        refine tc_product h ⟨Nat.le_of_ble_eq_true rfl, Nat.le_of_ble_eq_true rfl⟩ ⟨Nat.le_refl _, Nat.le_refl _⟩ (Nat.le_of_ble_eq_true rfl) dX5_within_2_125 (fun y_11 h => ?_)
                        refine ww_iadd dX5_within_2_128 ?_
                        refine ww_aload_n dX5_within_2_129 0 rfl ?_
                        refine tc_p h ⟨Nat.le_of_ble_eq_true rfl, Nat.le_of_ble_eq_true rfl⟩ ⟨Nat.le_refl _, Nat.le_refl _⟩ (Nat.le_of_ble_eq_true rfl) dX5_within_2_130 (fun y_12 h => ?_)
                        obtain ⟨r_13, h⟩ := h
                        refine ww_irem dX5_within_2_133 r_13 ?_
                        refine ww_nmI (fun x_14 ex_14 => ?_)
                        replace h := h x_14 ex_14
                        refine ww_istore_n dX5_within_2_134 rfl (Nat.le_of_ble_eq_true rfl) rfl ?_
                        refine ww_lv [1, 2, 3, 0, 4] rfl ?_
                        exact kJ135 _ _ h
                      · replace h := h.2 (Int.not_le.mp c)
                        refine ww_aload_n dX5_within_2_102 0 rfl ?_
                        refine tg_40 dX5_within_2_103 ?_
                        refine ww_iload dX5_within_2_106 5 rfl ?_
                        refine ww_iconst dX5_within_2_108 ?_
                        obtain ⟨r_15, h⟩ := h
                        refine ts_40 r_15 dX5_within_2_109 ?_
                        refine ww_iinc dX5_within_2_110 5 rfl (Nat.le_of_ble_eq_true rfl) rfl ?_
                        refine ww_goto (tgt := 95) dX5_within_2_113 (by decide) ?_
                        refine ww_lv [1, 2, 3, 4, 5, 0] rfl ?_
                        obtain ⟨m, hm, h⟩ := h
                        exact ih95 m hm _ _ h
                  refine ww_lv [1, 2, 3, 4, 5, 0] rfl ?_
                  obtain ⟨m, h⟩ := h
                  exact kI95 m _ _ h
                · replace h := h.2 c
                  refine ww_goto (tgt := 135) dX5_within_2_89 (by decide) ?_
                  exact kJ135 _ _ h
          refine ww_lv [2, 3, 4, 1, 0] rfl ?_
          obtain ⟨m, h⟩ := h
          exact kI66 m _ _ _ h
        · replace h := h.2 (Int.not_le.mp c)
          refine ww_iload_n dX5_within_2_36 2 rfl ?_
          refine ww_aload_n dX5_within_2_37 0 rfl ?_
          refine ww_iload_n dX5_within_2_38 3 rfl ?_
          refine ww_iload_n dX5_within_2_39 1 rfl ?_
          refine tc_isInside h ⟨Nat.le_of_ble_eq_true rfl, Nat.le_of_ble_eq_true rfl⟩ ⟨Nat.le_refl _, Nat.le_refl _⟩ (Nat.le_of_ble_eq_true rfl) dX5_within_2_40 (fun y_16 z_17 h => ?_)
          obtain ⟨J53, hJ53, h⟩ := h
          have kJ53 : ∀ (s1_53 : Int), J53 s1_53 → WW G l cX5_within_2 RX5 6 (Option.some Jvm.ClassFile.FieldType.int) "within" 3 0 0 (tR1 (P)) (tS G q fr) 0 0 [tw G q (sF σ 0 0), fr] 53 [(0, .ref (q 100)), (1, vI a1), (3, vI v3_25)] [vI s1_53, vI v2_25] := by
            intro s1_53 hj
            have h := hJ53 s1_53 hj
            refine ww_ior dX5_within_2_53 ?_
            refine ww_istore_n dX5_within_2_54 rfl (Nat.le_of_ble_eq_true rfl) rfl ?_
            refine ww_iinc dX5_within_2_55 3 rfl (Nat.le_of_ble_eq_true rfl) rfl ?_
            refine ww_goto (tgt := 25) dX5_within_2_58 (by decide) ?_
            refine ww_lv [2, 3, 1, 0] rfl ?_
            obtain ⟨m, hm, h⟩ := h
            exact ih25 m hm _ _ h
          refine ww_if_eq (tgt := 52) dX5_within_2_43 (by decide) (z01 z_17) (fun c => ?_) (fun c => ?_)
          · replace h := h.1 c
            refine ww_iconst dX5_within_2_52 ?_
            refine ww_lv [0, 1, 3] rfl ?_
            exact kJ53 _ h
          · replace h := h.2 c
            refine ww_iconst dX5_within_2_46 ?_
            refine ww_iload_n dX5_within_2_47 3 rfl ?_
            refine ww_ishl dX5_within_2_48 ?_
            refine ww_goto (tgt := 53) dX5_within_2_49 (by decide) ?_
            refine ww_lv [0, 1, 3] rfl ?_
            exact kJ53 _ h
    refine ww_lv [2, 3, 1, 0] rfl ?_
    obtain ⟨m, h⟩ := h
    exact kI25 m _ _ h
  · replace h := h.2 c
    refine ww_iconst dX5_within_2_19 ?_
    exact ww_iret ((-1), sF σ 0 0) rfl ⟨rfl, h⟩ rfl (Nat.le_refl _) (Nat.le_refl _) dX5_within_2_20

