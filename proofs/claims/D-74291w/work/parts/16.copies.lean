/-! COPIES, CLONES, STORED REFERENCES over the moving heap -/
set_option maxRecDepth 100000
/-- what a copy lays: n places of f from sp on, at dp -/
def cpyI {α : Type} (f g : Int → α) (sp dp n : Int) : Int → α := fun j => if dp ≤ j ∧ j < dp + n then f (sp + (j - dp)) else g j
theorem cpyI_va {α : Type} (f g : Int → α) {sp dp n : Int} (h1 : 0 ≤ sp) (h2 : 0 ≤ dp) (h3 : 0 ≤ n) : (fun j : Nat => cpyI f g sp dp n j) = va_cpy (fun j : Nat => f j) (fun j : Nat => g j) sp.toNat dp.toNat n.toNat := by
  funext j
  unfold cpyI va_cpy
  by_cases h : dp ≤ (j : Int) ∧ (j : Int) < dp + n
  · rw [if_pos h, if_pos (by omega)]
    congr 1
    omega
  · rw [if_neg h, if_neg (by omega)]
theorem cpyI_I (f g : Int → Int) {sp dp n : Int} (h1 : 0 ≤ sp) (h2 : 0 ≤ dp) (h3 : 0 ≤ n) : va_cpy (fun j : Nat => Int32.ofInt (f j)) (fun j : Nat => Int32.ofInt (g j)) sp.toNat dp.toNat n.toNat = fun j : Nat => Int32.ofInt (cpyI f g sp dp n j) := by
  funext j
  unfold cpyI va_cpy
  by_cases h : dp ≤ (j : Int) ∧ (j : Int) < dp + n
  · rw [if_pos h, if_pos (by omega), show sp + ((j : Int) - dp) = ((sp.toNat + (j - dp.toNat) : Nat) : Int) by omega]
  · rw [if_neg h, if_neg (by omega)]
section PROWS
variable {S : Type} {G : g_G} {l : Launch} {cc : ByteArray} {own : String} {nL : Nat} {ret : Option FieldType} {mn : String} {d mc ms : Nat} {R : Option Value → S → Prop} {sh : S → List va_W} {F : g_F} {cells slots : Nat} {pc : Nat} {lv : List (Nat × Value)} {st : List Value} {ws fr : va_W} {μ : HM}
theorem g_nat5 : nativeFrameWords "java/lang/System" "arraycopy" 5 ≤ 60 := by decide +kernel
theorem hAt {t n : Nat} {f : Int → Int} (h : t = 0 ∨ t = 2 ∨ t = 3) : hcE G (hA t n f) = aI (g_k G t) n f := by rcases h with rfl | rfl | rfl <;> rfl
theorem wm_copyI {a a1 n0 n1 index : Nat} {o o1 : Option Nat} {f g : Int → Int} {sp dp n : Int} (t : Nat) {ty : FieldType} (hM : Mrep G ws μ) (ho : o = some a) (ho1 : o1 = some a1) (h0 : μ a = some (hA t n0 f)) (hg1 : μ a1 = some (hA t n1 g)) (ht : t = 0 ∨ t = 2 ∨ t = 3) (hty : (g_tys G)[t]? = some (g_k G t, ty)) (hpr : refKind ty = false) (h1 : 0 ≤ sp) (h2 : 0 ≤ dp) (h3 : 0 ≤ n) (h4 : sp + n ≤ n0) (h5 : dp + n ≤ n1) (h6 : (n0 : Int) < 2147483648) (h7 : (n1 : Int) < 2147483648) (hfit : ∀ j : Int, sp ≤ j → j < sp + n → fits ty (.int (Int32.ofInt (f j))) = true)
    (hq1 : Cond.methodLink own index arraycopyName ∈ lw_all) (hq2 : Cond.native arraycopyName ∈ lw_all) (hq3 : Cond.static arraycopyName ∈ lw_all) (hq4 : Cond.initialized "java/lang/System" ∈ lw_all) (hd : 1 ≤ d) (hst : (st.map fun v => v.category).sum ≤ 16) (hdg : decode cc pc = .ok (.invokestatic index, 3)) (k : ∀ ws2, Mrep G ws2 (hs μ a1 (hA t n1 (cpyI f g sp dp n))) → WF G l cc own nL ret mn d mc ms F cells slots [ws2, fr] (pc + 3) lv st) : WF G l cc own nL ret mn d mc ms F cells slots [ws, fr] pc lv (vI n :: vI dp :: va_rf o1 :: vI sp :: va_rf o :: st) := by
  subst ho; subst ho1
  intro p e s m args below meth c H locs ls N hS hP hl
  have hK := N.2.2.2.2.2.2.2.2
  obtain ⟨j0, hj0⟩ := hM.at h0 trivial
  obtain ⟨j1, hj1⟩ := hM.at hg1 trivial
  rw [hAt ht] at hj0 hj1
  obtain ⟨q0, e0, -⟩ := flat_at (Ws := [ws, fr]) (k := 0) rfl hj0
  obtain ⟨q1, e1, e1s⟩ := flat_at (Ws := [ws, fr]) (k := 0) rfl hj1
  have c1 : (Int32.ofInt sp).toNatClampNeg = sp.toNat := iI_clamp h1 (by omega)
  have c2 : (Int32.ofInt dp).toNatClampNeg = dp.toNat := iI_clamp h2 (by omega)
  have c3 : (Int32.ofInt n).toNatClampNeg = n.toNat := iI_clamp h3 (by omega)
  have nn : ∀ z : Int, 0 ≤ z → z < 2147483648 → ¬ Int32.ofInt z < 0 := fun z z0 z1 => by rw [iI_0, iI_lt ⟨by omega, z1⟩ r0]; omega
  have w5 := g_nat5
  refine va_copyi (ty := ty) N.1 N.2.1 (N.2.2.2.2.1.trans hl.1.symm) N.2.2.2.1 (N.2.2.1 _ hq1) (N.2.2.1 _ hq2) (N.2.2.1 _ hq3) (N.2.2.1 _ hq4) hK.1 hP.1 hP.2 hS q0 q1 t t e0 e1 hty hty hpr (nn sp h1 (by omega)) (nn dp h2 (by omega)) (nn n h3 (by omega)) (by rw [c1, c3]; omega) (by rw [c2, c3]; omega) (fun i hi => by
    rw [c3] at hi
    rw [c1]
    have := hfit ((sp.toNat + i : Nat) : Int) (by omega) (by omega)
    exact this) hd (show (st.map fun v => v.category).sum + (_ + 11) ≤ 100 * d by omega) hdg (fun H1 locs1 hP1 hD1 hS1 => ?_)
  rw [c1, c2, c3, cpyI_I f g h1 h2 h3] at hP1 hD1
  have e3 := e1s (a1, aI (g_k G t) n1 (cpyI f g sp dp n))
  have hP2 : g_P G [ws.set j1 (a1, aI (g_k G t) n1 (cpyI f g sp dp n)), fr] H1 := ⟨by
    have := hP1
    rw [show (a1, (.inl (g_k G t, n1, .inl fun j : Nat => Int32.ofInt (cpyI f g sp dp n j)) : va_E)) = (a1, aI (g_k G t) n1 (cpyI f g sp dp n)) from rfl, e3] at this
    exact this, by
    have := hD1
    rw [show (a1, (.inl (g_k G t, n1, .inl fun j : Nat => Int32.ofInt (cpyI f g sp dp n j)) : va_E)) = (a1, aI (g_k G t) n1 (cpyI f g sp dp n)) from rfl, e3] at this
    exact this⟩
  have hM2 := hM.set (c := hA t n1 (cpyI f g sp dp n)) hj1 trivial
  rw [hAt ht] at hM2
  exact k _ hM2 p e s m args below meth c H1 locs1 ls N hS1 hP2 hl
/-- what may be stored into an array of kind t: 4 any object of ours, 5 a State, 6 an array of ints -/
def hst (μ : HM) (t : Nat) (v : Nat) : Prop := (t = 4 ∧ ∃ ci fi fq, μ v = some (hO ci fi fq) ∧ 0 < ci ∧ ci < 27) ∨ (t = 5 ∧ ∃ fi fq, μ v = some (hO 4 fi fq)) ∨ (t = 6 ∧ ∃ n f, μ v = some (hA 0 n f))
theorem g_cl4 : ∀ i, 0 < i → i < 27 → ∃ C T N, vwCl[i]? = some (C, T, N) ∧ Cond.castable C "java/lang/Object" ∈ lw_tbl := by
  intro i h0 h1
  match i, h0, h1 with
  | 1, _, _ => exact ⟨RX1, TX1, 8, rfl, q2672⟩
  | 2, _, _ => exact ⟨RX2, TX2, 5, rfl, q2673⟩
  | 3, _, _ => exact ⟨RX3, TX3, 3, rfl, q2674⟩
  | 4, _, _ => exact ⟨RX4, TX4, 3, rfl, q2671⟩
  | 5, _, _ => exact ⟨RX6, TX6, 11, rfl, q2678⟩
  | 6, _, _ => exact ⟨RX7, TX7, 7, rfl, q2681⟩
  | 7, _, _ => exact ⟨RX9, TX9, 4, rfl, q2685⟩
  | 8, _, _ => exact ⟨RX11, TX11, 3, rfl, q2688⟩
  | 9, _, _ => exact ⟨RX12, TX12, 3, rfl, q2689⟩
  | 10, _, _ => exact ⟨RX13, TX13, 4, rfl, q2690⟩
  | 11, _, _ => exact ⟨RX10, TX10, 3, rfl, q2687⟩
  | 12, _, _ => exact ⟨RX14, TX14, 3, rfl, q2691⟩
  | 13, _, _ => exact ⟨RX16, TX16, 4, rfl, q2693⟩
  | 14, _, _ => exact ⟨RX17, TX17, 4, rfl, q2695⟩
  | 15, _, _ => exact ⟨RX18, TX18, 4, rfl, q2696⟩
  | 16, _, _ => exact ⟨RX19, TX19, 5, rfl, q2697⟩
  | 17, _, _ => exact ⟨RX20, TX20, 3, rfl, q2699⟩
  | 18, _, _ => exact ⟨RJ2, TJ2, 3, rfl, q2675⟩
  | 19, _, _ => exact ⟨RJ4, TJ4, 9, rfl, q2676⟩
  | 20, _, _ => exact ⟨RJ22, TJ22, 6, rfl, q2686⟩
  | 21, _, _ => exact ⟨RJ6, TJ6, 4, rfl, q2679⟩
  | 22, _, _ => exact ⟨RJ7, TJ7, 4, rfl, q2680⟩
  | 23, _, _ => exact ⟨RJ25, TJ25, 4, rfl, q2694⟩
  | 24, _, _ => exact ⟨RJ27, TJ27, 4, rfl, q2698⟩
  | 25, _, _ => exact ⟨RJ24, TJ24, 6, rfl, q2692⟩
  | 26, _, _ => exact ⟨RJ18, TJ18, 8, rfl, q2683⟩
  | k + 27, _, h => omega
/-- the reference array t takes v -/
theorem g_asg {s : State} {H : Heap} {t v : Nat} {l : Launch} (hM : Mrep G ws μ) (hv : hst μ t v) (hK : g_K G l s) (hP : g_P G [ws, fr] H) : ∃ cellV : Cell, H[v]? = some cellV ∧ (∀ q, cellV.vm ≠ .statics q) ∧ (∃ kC : Class, s.vm.classes[cellV.cls]? = some kC) ∧ ∃ (kA : Class) (comp : ClassId) (ty : FieldType), s.vm.classes[g_k G t]? = some kA ∧ kA.kind = .array comp ty ∧ ty.isReference = true ∧ (∃ kE : Class, s.vm.classes[comp]? = some kE) ∧ s.vm.assignable cellV.cls comp = true := by
  rcases hv with ⟨rfl, ci, fi, fq, hv, h0, h27⟩ | ⟨rfl, fi, fq, hv⟩ | ⟨rfl, n, f, hv⟩
  · obtain ⟨C, T, N, hc, hca⟩ := g_cl4 ci h0 h27
    obtain ⟨j, hj⟩ := hM.at hv trivial
    obtain ⟨q0, e0, -⟩ := flat_at (Ws := [ws, fr]) (k := 0) rfl hj
    obtain ⟨cell, g1, g2, g3⟩ := va_recv hK.1 hP.1 hc e0
    obtain ⟨kC, hkC, -⟩ := Vm.findClass_spec g3
    obtain ⟨kA, comp, r1, r2, r3, -⟩ := (hK.1.2 4 _ rfl).2
    obtain ⟨kE, hkE, -⟩ := Vm.findClass_spec r3
    exact ⟨cell, g1, (fun q h => by rw [h] at g2; cases g2), ⟨kC, hkC⟩, kA, comp, _, r1, r2, rfl, ⟨kE, hkE⟩, vb_asgC (hK.2.2.1 _ hca rfl) comp _ r3 g3⟩
  · obtain ⟨j, hj⟩ := hM.at hv trivial
    obtain ⟨q0, e0, -⟩ := flat_at (Ws := [ws, fr]) (k := 0) rfl hj
    obtain ⟨cell, g1, g2, g3⟩ := va_recv hK.1 hP.1 (ci := 4) rfl e0
    obtain ⟨kC, hkC, -⟩ := Vm.findClass_spec g3
    obtain ⟨kA, comp, r1, r2, r3, -⟩ := (hK.1.2 5 _ rfl).2
    obtain ⟨kE, hkE, -⟩ := Vm.findClass_spec r3
    exact ⟨cell, g1, (fun q h => by rw [h] at g2; cases g2), ⟨kC, hkC⟩, kA, comp, _, r1, r2, rfl, ⟨kE, hkE⟩, vb_asgS comp _ r3 g3⟩
  · obtain ⟨j, hj⟩ := hM.at hv trivial
    rw [hAt (Or.inl rfl)] at hj
    obtain ⟨q0, e0, -⟩ := flat_at (Ws := [ws, fr]) (k := 0) rfl hj
    have hcell : H[v]? = some (vp_cell (g_k G 0) (n, .inl fun j : Nat => Int32.ofInt (f j))) := hP.1 q0 _ e0
    obtain ⟨comp, c, k, f1, f2, f3, f4⟩ := Cond.arrayOver_specA hK.2.2.2.1.2.2.2.2.2.2.2.2.2.1.2.2
    have h6 : s.vm.findClass ("[" ++ (FieldType.array .int).toString) = some (g_k G 6) := (hK.1.2 6 (g_k G 6, .array .int) rfl).2
    have h00 : s.vm.findClass (FieldType.array .int).toString = some (g_k G 0) := (hK.1.2 0 (g_k G 0, .int) rfl).2
    cases h00.symm.trans f1
    cases h6.symm.trans f4
    obtain ⟨kC, hkC, -⟩ := Vm.findClass_spec h00
    exact ⟨_, hcell, (fun q h => by cases h), ⟨kC, hkC⟩, k, _, _, f2, f3, rfl, ⟨kC, hkC⟩, va_asg _ _⟩
theorem arrV_setQ {cA : ClassId} {n : Nat} {f : Int → Option Nat} {i : Int} (h0 : 0 ≤ i) (x : Option Nat) : (arrV cA n (fun j : Nat => va_rf (f j))).setSlot i.toNat (va_rf x) = arrV cA n (fun j : Nat => va_rf (updI f i x j)) := by
  rw [arrV_store]
  congr 2
  funext q
  by_cases hq : q = i.toNat
  · subst hq
    simp [updV, updI, show ((i.toNat : Nat) : Int) = i by omega]
  · simp [updV, updI, hq, show ¬ ((q : Nat) : Int) = i by omega]
theorem wm_aast {a n t v : Nat} {o ov : Option Nat} {i : Int} {f : Int → Option Nat} (hM : Mrep G ws μ) (ho : o = some a) (hov : ov = some v) (hμ : μ a = some (hQ t n f)) (hv : hst μ t v) (h0 : 0 ≤ i) (h1 : i < n) (hn : (n : Int) < 2147483648) (hdg : decode cc pc = .ok (.aastore, 1)) (k : ∀ ws2, Mrep G ws2 (hs μ a (hQ t n (updI f i (some v)))) → WF G l cc own nL ret mn d mc ms F cells slots [ws2, fr] (pc + 1) lv st) : WF G l cc own nL ret mn d mc ms F cells slots [ws, fr] pc lv (va_rf ov :: vI i :: va_rf o :: st) := by
  subst ho; subst hov
  intro p e s m args below meth c H locs ls N hS hP hl
  have hK := N.2.2.2.2.2.2.2.2
  obtain ⟨j, hj⟩ := hM.at hμ trivial
  obtain ⟨q0, e0, e0s⟩ := flat_at (Ws := [ws, fr]) (k := 0) rfl hj
  obtain ⟨cellV, g1, g2, ⟨kC, hkC⟩, kA, comp, ty, r1, r2, r3, ⟨kE, hkE⟩, r5⟩ := g_asg hM hv hK hP
  have hc0 : H[a]? = some (arrV (g_k G t) n (fun j : Nat => va_rf (f j))) := hP.1 q0 _ e0
  have ci : (Int32.ofInt i).toNatClampNeg = i.toNat := iI_clamp h0 (by omega)
  refine W.aast (g := F0 m pc ls (.ref v :: vI i :: .ref a :: st)) (rest := st) N.1 N.2.1 hc0 (fun q h => by cases h) (fun h => by cases h) r1 r2 r3 hkE ⟨(by rw [iI_0, iI_lt ⟨by omega, by omega⟩ r0]; omega), by rw [ci, arrV_size]; omega⟩ g1 g2 hkC r5 rfl rfl hdg fun H1 eh z oq => ?_
  rw [ci] at eh
  have e9 : H1[a]? = some (arrV (g_k G t) n (fun j : Nat => va_rf (updI f i (some v) j))) := by rw [eh]; exact congrArg some (arrV_setQ h0 (some v))
  have e3 := e0s (a, hcE G (hQ t n (updI f i (some v))))
  have hP2 : g_P G [ws.set j (a, hcE G (hQ t n (updI f i (some v)))), fr] H1 := by
    refine ⟨?_, ?_⟩
    · show va_P _ _ ([ws, fr].set 0 (ws.set j _)).flatten H1
      rw [← e3]
      exact hP.1.set hP.2 e0 e9 oq
    · show va_D _ ([ws, fr].set 0 (ws.set j _)).flatten
      rw [← e3]
      exact hP.2.set e0
  exact k _ (hM.set (c := hQ t n (updI f i (some v))) hj trivial) p e s m args below meth c H1 _ ls N (hS.put z oq (hP.2.2 q0 _ e0)) hP2 hl
theorem wm_aastN {a n : Nat} {o : Option Nat} {i : Int} {f : Int → Option Nat} (t : Nat) {C : String} (hty : (g_tys G)[t]? = some (g_k G t, .object C)) (hM : Mrep G ws μ) (ho : o = some a) (hμ : μ a = some (hQ t n f)) (h0 : 0 ≤ i) (h1 : i < n) (hn : (n : Int) < 2147483648) (hdg : decode cc pc = .ok (.aastore, 1)) (k : ∀ ws2, Mrep G ws2 (hs μ a (hQ t n (updI f i none))) → WF G l cc own nL ret mn d mc ms F cells slots [ws2, fr] (pc + 1) lv st) : WF G l cc own nL ret mn d mc ms F cells slots [ws, fr] pc lv (va_rf none :: vI i :: va_rf o :: st) := by
  subst ho
  intro p e s m args below meth c H locs ls N hS hP hl
  have hK := N.2.2.2.2.2.2.2.2
  obtain ⟨j, hj⟩ := hM.at hμ trivial
  obtain ⟨q0, e0, e0s⟩ := flat_at (Ws := [ws, fr]) (k := 0) rfl hj
  have ci : (Int32.ofInt i).toNatClampNeg = i.toNat := iI_clamp h0 (by omega)
  refine va_astqN N.1 N.2.1 hK.1 hP.1 hP.2 hS q0 t e0 hty (iI_in h0 h1 hn) hdg (fun H1 locs1 hP1 hD1 hS1 => ?_)
  have eu : va_up (fun j : Nat => f j) (Int32.ofInt i).toNatClampNeg none = fun j : Nat => updI f i none j := by
    funext q
    rw [ci]
    by_cases hq : q = i.toNat
    · subst hq
      simp [va_up, updI, show ((i.toNat : Nat) : Int) = i by omega]
    · simp [va_up, updI, hq, show ¬ ((q : Nat) : Int) = i by omega]
  rw [eu] at hP1 hD1
  have e3 := e0s (a, hcE G (hQ t n (updI f i none)))
  have hP2 : g_P G [ws.set j (a, hcE G (hQ t n (updI f i none))), fr] H1 := by
    refine ⟨?_, ?_⟩
    · show va_P _ _ ([ws, fr].set 0 (ws.set j _)).flatten H1
      rw [← e3]
      exact hP1
    · show va_D _ ([ws, fr].set 0 (ws.set j _)).flatten
      rw [← e3]
      exact hD1
  exact k _ (hM.set (c := hQ t n (updI f i none)) hj trivial) p e s m args below meth c H1 _ ls N hS1 hP2 hl
theorem wm_copyR {a a1 n0 n1 index : Nat} {o o1 : Option Nat} {f g : Int → Option Nat} {sp dp n : Int} (t : Nat) {ty : FieldType} (hM : Mrep G ws μ) (ho : o = some a) (ho1 : o1 = some a1) (h0 : μ a = some (hQ t n0 f)) (hg1 : μ a1 = some (hQ t n1 g)) (hty : (g_tys G)[t]? = some (g_k G t, ty)) (href : refKind ty = true) (hfq : ∀ o : Option Nat, fits ty (va_rf o) = true) (h1 : 0 ≤ sp) (h2 : 0 ≤ dp) (h3 : 0 ≤ n) (h4 : sp + n ≤ n0) (h5 : dp + n ≤ n1) (h6 : (n0 : Int) < 2147483648) (h7 : (n1 : Int) < 2147483648) (hel : ∀ (j : Int) (y : Nat), sp ≤ j → j < sp + n → f j = some y → hst μ t y)
    (hq1 : Cond.methodLink own index arraycopyName ∈ lw_all) (hq2 : Cond.native arraycopyName ∈ lw_all) (hq3 : Cond.static arraycopyName ∈ lw_all) (hq4 : Cond.initialized "java/lang/System" ∈ lw_all) (hd : 1 ≤ d) (hst9 : (st.map fun v => v.category).sum ≤ 16) (hdg : decode cc pc = .ok (.invokestatic index, 3)) (k : ∀ ws2, Mrep G ws2 (hs μ a1 (hQ t n1 (cpyI f g sp dp n))) → WF G l cc own nL ret mn d mc ms F cells slots [ws2, fr] (pc + 3) lv st) : WF G l cc own nL ret mn d mc ms F cells slots [ws, fr] pc lv (vI n :: vI dp :: va_rf o1 :: vI sp :: va_rf o :: st) := by
  subst ho; subst ho1
  intro p e s m args below meth c H locs ls N hS hP hl
  have hK := N.2.2.2.2.2.2.2.2
  obtain ⟨j0, hj0⟩ := hM.at h0 trivial
  obtain ⟨j1, hj1⟩ := hM.at hg1 trivial
  obtain ⟨q0, e0, -⟩ := flat_at (Ws := [ws, fr]) (k := 0) rfl hj0
  obtain ⟨q1, e1, e1s⟩ := flat_at (Ws := [ws, fr]) (k := 0) rfl hj1
  have c1 : (Int32.ofInt sp).toNatClampNeg = sp.toNat := iI_clamp h1 (by omega)
  have c2 : (Int32.ofInt dp).toNatClampNeg = dp.toNat := iI_clamp h2 (by omega)
  have c3 : (Int32.ofInt n).toNatClampNeg = n.toNat := iI_clamp h3 (by omega)
  have nn : ∀ z : Int, 0 ≤ z → z < 2147483648 → ¬ Int32.ofInt z < 0 := fun z z0 z1 => by rw [iI_0, iI_lt ⟨by omega, z1⟩ r0]; omega
  have ti : ∀ z : Int, 0 ≤ z → z < 2147483648 → (Int32.ofInt z).toInt = z := fun z z0 z1 => rI_toInt ⟨by omega, z1⟩
  have w5 := g_nat5
  intro T hT X
  have hc0 : H[a]? = some (vp_cell (g_k G t) (n0, .inr (.inr (.inr (.inr fun j : Nat => f j))))) := hP.1 q0 _ e0
  have hc1 : H[a1]? = some (vp_cell (g_k G t) (n1, .inr (.inr (.inr (.inr fun j : Nat => g j))))) := hP.1 q1 _ e1
  obtain ⟨-, k0, hk0, cm0, hkk0⟩ := (hK.1.2 t _ hty).1 n0 (fun j => va_rf (f j))
  obtain ⟨-, k1, hk1, cm1, hkk1⟩ := (hK.1.2 t _ hty).1 n1 (fun j => va_rf (g j))
  cases hk0.symm.trans hk1
  obtain ⟨vm', X', step⟩ := X.arraycopy N.1 N.2.2.2.1 (N.2.2.1 _ hq1) (N.2.2.1 _ hq2) (N.2.2.1 _ hq3) (N.2.2.1 _ hq4) (src := a) (dst := a1) (cs := vp_cell (g_k G t) (n0, .inr (.inr (.inr (.inr fun j : Nat => f j))))) (cd := vp_cell (g_k G t) (n1, .inr (.inr (.inr (.inr fun j : Nat => g j))))) (srcPos := Int32.ofInt sp) (destPos := Int32.ofInt dp) (n := Int32.ofInt n) (by rw [hT]; exact hc0) (by rw [hT]; exact hc1)
    (fun _ h => by cases h) (fun _ h => by cases h) (fun h => by cases h) (fun h => by cases h) hk0 hk1 hkk0 hkk1 (by show (refKind ty != refKind ty || !refKind ty && ty != ty) = false; rw [href]; rfl) (nn sp h1 (by omega)) (nn dp h2 (by omega)) (nn n h3 (by omega))
    (by rw [ti sp h1 (by omega), ti n h3 (by omega)]; show ¬ _ > ((arrV (g_k G t) n0 (fun j => va_rf (f j))).slots.size : Int); rw [arrV_size]; omega)
    (by rw [ti dp h2 (by omega), ti n h3 (by omega)]; show ¬ _ > ((arrV (g_k G t) n1 (fun j => va_rf (g j))).slots.size : Int); rw [arrV_size]; omega)
    (fun vm₁ hal i hi => by
      rw [c3] at hi
      have e : (vp_cell (g_k G t) (n0, .inr (.inr (.inr (.inr fun j : Nat => f j))))).slots.getD ((Int32.ofInt sp).toNatClampNeg + i) .null = va_rf (f ((sp.toNat + i : Nat) : Int)) := by
        rw [c1]
        show (arrV (g_k G t) n0 (fun j => va_rf (f j))).slots.getD _ _ = _
        rw [Array.getD_eq_getD_getElem?, arrV_read _ _ (by omega)]
        rfl
      rw [e]
      cases hy : f ((sp.toNat + i : Nat) : Int) with
      | none => exact ⟨hfq none, trivial⟩
      | some y =>
        obtain ⟨cellV, g1, g2, ⟨kC, hkC⟩, kA, comp, ty9, r1, r2, r3, ⟨kE, hkE⟩, r5⟩ := g_asg hM (hel _ y (by omega) (by omega) hy) hK hP
        cases hk0.symm.trans r1
        cases hkk1.symm.trans r2
        obtain ⟨kC', hkC', -⟩ := hal.2.2 _ _ hkC
        obtain ⟨kE', hkE', -⟩ := hal.2.2 _ _ hkE
        refine ⟨hfq (some y), cellV, (show T.heap[y]? = some cellV by rw [hT]; exact g1), g2, ⟨kC', hkC'⟩, ?_, ?_⟩
        · exact ⟨kE', hkE'⟩
        · show vm₁.assignable _ _ = true
          rw [hal.assignable]
          exact r5)
    (g := F0 m pc ls (vI n :: vI dp :: .ref a1 :: vI sp :: .ref a :: st)) rfl (by rw [N.2.2.2.2.1]; exact hl.1) (rest := st) rfl (by rw [N.2.1]; exact hdg) hd (by show 2 * 0 + _ + _ ≤ 100 * d; omega)
  have e9 : copied (vp_cell (g_k G t) (n0, .inr (.inr (.inr (.inr fun j : Nat => f j))))) (vp_cell (g_k G t) (n1, .inr (.inr (.inr (.inr fun j : Nat => g j))))) (Int32.ofInt sp) (Int32.ofInt dp) (Int32.ofInt n) = vp_cell (g_k G t) (n1, .inr (.inr (.inr (.inr fun j : Nat => cpyI f g sp dp n j)))) := by
    rw [cpyI_va f g h1 h2 h3, vp_cell_q, vp_cell_q, vp_cell_q, ← c1, ← c2, ← c3]
    exact va_copied (fun z => va_rf z) (g_k G t) (g_k G t) (fun j : Nat => f j) (fun j : Nat => g j) (by rw [c1, c3]; omega)
  rw [e9] at X' step
  have hl9 : a1 < H.size := (Array.getElem?_eq_some_iff.mp hc1).1
  have oq : ∀ q : Nat, q ≠ a1 → (H.setIfInBounds a1 (vp_cell (g_k G t) (n1, .inr (.inr (.inr (.inr fun j : Nat => cpyI f g sp dp n j))))))[q]? = H[q]? := fun q hq => by simp [Array.getElem?_setIfInBounds, Ne.symm hq]
  have e3 := e1s (a1, hcE G (hQ t n1 (cpyI f g sp dp n)))
  have hP2 : g_P G [ws.set j1 (a1, hcE G (hQ t n1 (cpyI f g sp dp n))), fr] (H.setIfInBounds a1 (vp_cell (g_k G t) (n1, .inr (.inr (.inr (.inr fun j : Nat => cpyI f g sp dp n j)))))) := by
    refine ⟨?_, ?_⟩
    · show va_P _ _ ([ws, fr].set 0 (ws.set j1 _)).flatten _
      rw [← e3]
      exact hP.1.set hP.2 e1 (show (H.setIfInBounds a1 _)[a1]? = some _ by simp [Array.getElem?_setIfInBounds, hl9]) oq
    · show va_D _ ([ws, fr].set 0 (ws.set j1 _)).flatten
      rw [← e3]
      exact hP.2.set e1
  have hheap : ((T.setVm vm').setCell a1 (vp_cell (g_k G t) (n1, .inr (.inr (.inr (.inr fun j : Nat => cpyI f g sp dp n j)))))).heap = H.setIfInBounds a1 (vp_cell (g_k G t) (n1, .inr (.inr (.inr (.inr fun j : Nat => cpyI f g sp dp n j))))) := by rw [← hT]; rfl
  obtain ⟨t9, a9, b9⟩ := k _ (hM.set (c := hQ t n1 (cpyI f g sp dp n)) hj1 trivial) p e s m args below meth c _ _ ls N ⟨by simp; exact hS.1, fun q g1 g2 => by
      rw [oq q (fun e => g2 (by rw [e]; exact hP.2.2 q1 _ e1))]
      exact hS.2.1 q g1 g2, fun q hq => by
      rcases List.mem_append.mp hq with h | h
      · exact hS.2.2 q h
      · obtain ⟨z, -, hz⟩ := List.mem_map.mp h
        rw [← hz]
        exact hP.2.2 q1 _ e1⟩ hP2 hl _ hheap X'
  exact ⟨t9, step t9 a9, b9⟩
/-- a copy of nothing out of the empty Object[] -/
theorem wm_copyE {a1 n1 index x : Nat} {o o1 : Option Nat} {g : Int → Option Nat} {sp dp n : Int} (hM : Mrep G ws μ) (ho : o = some (g_ad G 0)) (ho1 : o1 = some a1) (hg1 : μ a1 = some (hQ 4 n1 g)) (h1 : sp = 0) (h2 : 0 ≤ dp) (h3 : n = 0) (h5 : dp ≤ n1) (h7 : (n1 : Int) < 2147483648)
    (hq1 : Cond.methodLink own index arraycopyName ∈ lw_all) (hq2 : Cond.native arraycopyName ∈ lw_all) (hq3 : Cond.static arraycopyName ∈ lw_all) (hq4 : Cond.initialized "java/lang/System" ∈ lw_all) (hd : 1 ≤ d) (hst9 : (st.map fun v => v.category).sum ≤ 16) (hdg : decode cc pc = .ok (.invokestatic index, 3)) (k : ∀ ws2, Mrep G ws2 (hs μ a1 (hQ 4 n1 g)) → WF G l cc own nL ret mn d mc ms F cells slots [ws2, fr] (pc + 3) lv st) : WF G l cc own nL ret mn d mc ms F cells slots [ws, fr] pc lv (vI n :: vI dp :: va_rf o1 :: vI sp :: va_rf o :: st) := by
  subst ho; subst ho1; subst h1; subst h3
  intro p e s m args below meth c H locs ls N hS hP hl
  have hK := N.2.2.2.2.2.2.2.2
  obtain ⟨j1, hj1⟩ := hM.at hg1 trivial
  obtain ⟨q1, e1, e1s⟩ := flat_at (Ws := [ws, fr]) (k := 0) rfl hj1
  have c2 : (Int32.ofInt dp).toNatClampNeg = dp.toNat := iI_clamp h2 (by omega)
  have nn : ∀ z : Int, 0 ≤ z → z < 2147483648 → ¬ Int32.ofInt z < 0 := fun z z0 z1 => by rw [iI_0, iI_lt ⟨by omega, z1⟩ r0]; omega
  have w5 := g_nat5
  refine va_copyg (E0 := "java/lang/Object") (E1 := "java/lang/Object") N.1 N.2.1 (N.2.2.2.2.1.trans hl.1.symm) N.2.2.2.1 (N.2.2.1 _ hq1) (N.2.2.1 _ hq2) (N.2.2.1 _ hq3) (N.2.2.1 _ hq4) hK.1 hP.1 hP.2 hS q1 4 hK.2.2.2.1.2.2.1.2 e1 rfl (nn 0 (by omega) (by omega)) (nn dp h2 (by omega)) (nn 0 (by omega) (by omega)) (by decide) (by rw [c2]; show dp.toNat + 0 ≤ n1; omega) hd (show (st.map fun v => v.category).sum + (_ + 11) ≤ 100 * d by omega) hdg (fun H1 locs1 hP1 hD1 hS1 => ?_)
  have eg : va_cpy (fun _ : Nat => (none : Option Nat)) (fun j : Nat => g j) (Int32.ofInt 0).toNatClampNeg (Int32.ofInt dp).toNatClampNeg (Int32.ofInt 0).toNatClampNeg = fun j : Nat => g j := by
    funext j
    unfold va_cpy
    rw [show (Int32.ofInt 0).toNatClampNeg = 0 from rfl, if_neg (by omega)]
  rw [eg] at hP1 hD1
  have e3 := e1s (a1, hcE G (hQ 4 n1 g))
  have hP2 : g_P G [ws.set j1 (a1, hcE G (hQ 4 n1 g)), fr] H1 := by
    refine ⟨?_, ?_⟩
    · show va_P _ _ ([ws, fr].set 0 (ws.set j1 _)).flatten H1
      rw [← e3]; exact hP1
    · show va_D _ ([ws, fr].set 0 (ws.set j1 _)).flatten
      rw [← e3]; exact hD1
  exact k _ (hM.set (c := hQ 4 n1 g) hj1 trivial) p e s m args below meth c H1 _ ls N hS1 hP2 hl
theorem wm_clone {a n index : Nat} {o : Option Nat} {f : Int → Int} {ad : String} (t : Nat) {ty : FieldType} (hM : Mrep G ws μ) (ho : o = some a) (hμ : μ a = some (hA t n f)) (ht : t = 0 ∨ t = 2 ∨ t = 3) (hty : (g_tys G)[t]? = some (g_k G t, ty)) (hnm : ∀ s, va_K (g_D G) vwCl (g_tys G) s → s.vm.findClass ad = some (g_k G t)) (hfit : ∀ j : Int, 0 ≤ j → j < n → fits ty (.int (Int32.ofInt (f j))) = true)
    (hq1 : Cond.methodLink own index ⟨ad, "clone", "()Ljava/lang/Object;"⟩ ∈ lw_all) (hq2 : Cond.sameMethod ad "java/lang/Object" "clone" "()Ljava/lang/Object;" ∈ lw_all) (hq3 : Cond.native ⟨"java/lang/Object", "clone", "()Ljava/lang/Object;"⟩ ∈ lw_all) (hq4 : Cond.instanceMethod ⟨"java/lang/Object", "clone", "()Ljava/lang/Object;"⟩ ∈ lw_all) (hq5 : Cond.selects ad ⟨ad, "clone", "()Ljava/lang/Object;"⟩ ⟨"java/lang/Object", "clone", "()Ljava/lang/Object;"⟩ ∈ lw_all) (hq6 : Cond.castable ad "java/lang/Cloneable" ∈ lw_tbl)
    (hd : 1 ≤ d) (hst9 : (st.map fun v => v.category).sum ≤ 16) (hcells : cells + 1 ≤ mc) (hslots : slots + n ≤ ms) (hdg : decode cc pc = .ok (.invokevirtual index, 3)) (k : ∀ (q : Nat) (ws2 : va_W), μ q = none → Mrep G ws2 (hs μ q (hA t n f)) → WF G l cc own nL ret mn d mc ms F (cells + 1) (slots + n) [ws2, fr] (pc + 3) lv (va_rf (some q) :: st)) : WF G l cc own nL ret mn d mc ms F cells slots [ws, fr] pc lv (va_rf o :: st) := by
  subst ho
  intro p e s m args below meth c H locs ls N hS hP hl
  have hK := N.2.2.2.2.2.2.2.2
  obtain ⟨j, hj⟩ := hM.at hμ trivial
  rw [hAt ht] at hj
  obtain ⟨q0, e0, -⟩ := flat_at (Ws := [ws, fr]) (k := 0) rfl hj
  refine va_clone (x := (n, .inl fun j : Nat => Int32.ofInt (f j))) N.1 N.2.1 (N.2.2.2.2.1.trans hl.1.symm) N.2.2.2.1 (N.2.2.1 _ hq1) (N.2.2.1 _ hq2) (N.2.2.1 _ hq3) (N.2.2.1 _ hq4) (N.2.2.1 _ hq5) (hK.2.2.1 _ hq6 rfl) hK.1 hP.1 hP.2 hS (fun q hq => Nat.le_trans hK.2.1 hq) q0 t e0 hty (hnm s hK.1) (fun i v hv => ?_) hd (show (st.map fun v => v.category).sum + 14 ≤ 100 * d by omega) hcells hslots hdg (fun q H1 hK1 hP1 hD1 hS1 => ?_)
  · rw [vp_cell_i] at hv
    have hi : i < n := by
      have := (Array.getElem?_eq_some_iff.mp hv).1
      rw [arrV_size] at this
      exact this
    rw [arrV_read _ _ hi] at hv
    cases hv
    exact hfit i (by omega) (by omega)
  have e1 : ([ws, fr] ++ [[(q, aI (g_k G t) n f)]]).flatten = [ws, fr].flatten ++ [(q, aI (g_k G t) n f)] := by simp
  have hP2 : g_P G ([ws, fr] ++ [[(q, aI (g_k G t) n f)]]) H1 := ⟨by rw [e1]; exact hP1, by rw [e1]; exact hD1⟩
  have hM2 := hM.push (a := q) (c := hA t n f) trivial
  rw [hAt ht] at hM2
  exact wm_push (k q _ (g_fresh2 hM hP2 hK.2.2.2.1) hM2) p e s m args below meth c H1 locs ls N hS1 hP2 hl
/-- getClass() of an Object[] -/
theorem wm_getC {a index : Nat} {o : Option Nat} (hM : Mrep G ws μ) (ho : o = some a) (hμ : (∃ n f, μ a = some (hQ 4 n f)) ∨ a = g_ad G 0) (hq1 : Cond.methodLink own index ⟨"java/lang/Object", "getClass", "()Ljava/lang/Class;"⟩ ∈ lw_all) (hq2 : Cond.selects "[Ljava/lang/Object;" ⟨"java/lang/Object", "getClass", "()Ljava/lang/Class;"⟩ ⟨"java/lang/Object", "getClass", "()Ljava/lang/Class;"⟩ ∈ lw_all) (hq3 : Cond.instanceMethod ⟨"java/lang/Object", "getClass", "()Ljava/lang/Class;"⟩ ∈ lw_all) (hq4 : Cond.native ⟨"java/lang/Object", "getClass", "()Ljava/lang/Class;"⟩ ∈ lw_all) (hd : 1 ≤ d) (hst9 : (st.map fun v => v.category).sum ≤ 16) (hdg : decode cc pc = .ok (.invokevirtual index, 3)) (k : WF G l cc own nL ret mn d mc ms F cells slots [ws, fr] (pc + 3) lv (va_rf (some (g_ad G 3)) :: st)) : WF G l cc own nL ret mn d mc ms F cells slots [ws, fr] pc lv (va_rf o :: st) := by
  subst ho
  intro p e s m args below meth c H locs ls N hS hP hl
  have hK := N.2.2.2.2.2.2.2.2
  have hX := hK.2.2.2.1
  refine va_getC N.1 N.2.1 (N.2.2.2.2.1.trans hl.1.symm) N.2.2.2.1 (N.2.2.1 _ hq1) (va_Dc.use hX.2.2.2.2.2.2.2.2.1.2.1) (N.2.2.1 _ hq2) (N.2.2.1 _ hq3) (N.2.2.1 _ hq4) hX.2.2.2.2.2.2.2.2.1.1 ?_ hd (show (st.map fun v => v.category).sum + 14 ≤ 100 * d by omega) hdg (k p e s m args below meth c H locs ls N hS hP hl)
  rcases hμ with ⟨n, f, hμ⟩ | ha
  · obtain ⟨j, hj⟩ := hM.at hμ trivial
    obtain ⟨q0, e0, -⟩ := flat_at (Ws := [ws, fr]) (k := 0) rfl hj
    exact ⟨_, hP.1 q0 _ e0, rfl, nm_O s hK.1⟩
  · subst ha
    obtain ⟨cell, t1, t2, t3, t4⟩ := hX.2.2.2.2.2.2.2.2.1.2.2
    exact ⟨cell, by rw [hS.2.1 _ (Array.getElem?_eq_some_iff.mp t1).1 t4]; exact t1, t2, t3⟩
end PROWS
