/-! COMPONENT AND JDK: rows of the printed walks, over the moving heap -/
set_option maxRecDepth 100000
theorem vI_cat (x : Int) : (vI x).category = 1 := rfl
theorem vL_cat (x : Int) : (vL x).category = 2 := rfl
theorem narrow_rf {t : FieldType} (h : refKind t = true) (x : Option Nat) : narrow t (va_rf x) = va_rf x := by
  cases x <;> cases t <;> first | rfl | exact absurd h (by decide)
theorem fits_rf {t : FieldType} (h : refKind t = true) (x : Option Nat) : fits t (va_rf x) = true := by
  cases x <;> cases t <;> first | rfl | exact absurd h (by decide)
theorem narrow_z {x : Int} (h : x = 0 ∨ x = 1) : narrow .boolean (vI x) = vI x := by
  rcases h with rfl | rfl <;> rfl
theorem fits_z {x : Int} (h : x = 0 ∨ x = 1) : fits .boolean (vI x) = true := by
  rcases h with rfl | rfl <;> rfl
theorem r_z {x : Int} (h : x = 0 ∨ x = 1) : rI x := ⟨by omega, by omega⟩
theorem narrow_b {x : Int} (h : -128 ≤ x ∧ x < 128) : narrow .byte (vI x) = vI x := by
  show Value.int ((Int32.ofInt x).toInt8.toInt32) = _
  rw [iI_byte]
  have e : x.bmod 256 = x := by rw [Int.bmod_def]; split <;> omega
  rw [e]; rfl
theorem fits_b {x : Int} (h : -128 ≤ x ∧ x < 128) : fits .byte (vI x) = true := by
  have h1 : rI x := ⟨by omega, by omega⟩
  have a := (iI_le (x := -128) (y := x) (by decide) h1).mpr h.1
  have b := (iI_le (x := x) (y := 127) h1 (by decide)).mpr (by omega)
  show (decide (-128 ≤ Int32.ofInt x) && decide (Int32.ofInt x ≤ 127)) = true
  simp only [Bool.and_eq_true, decide_eq_true_eq]
  exact ⟨a, b⟩
def bC (x : Int) : Int := ((Int32.ofInt x).toUInt32 % 65536).toInt32.toInt
theorem bC_of {x : Int} (h : 0 ≤ x ∧ x < 65536) : ((Int32.ofInt x).toUInt32 % 65536).toInt32 = Int32.ofInt x := by
  have e : (Int32.ofInt x).toUInt32 % 65536 = (Int32.ofInt x).toUInt32 := by
    apply UInt32.toNat_inj.mp
    rw [UInt32.toNat_mod]
    have e2 : (Int32.ofInt x).toUInt32.toNat = x.toNat := by
      show (Int32.ofInt x).toBitVec.toNat = _
      rw [Int32.toBitVec_ofInt, BitVec.toNat_ofInt]
      omega
    rw [e2]
    show x.toNat % 65536 = x.toNat
    omega
  rw [e]; rfl
theorem bC_eq {x : Int} (h : 0 ≤ x ∧ x < 65536) : bC x = x := by
  unfold bC
  rw [bC_of h]
  exact rI_toInt ⟨by omega, by omega⟩
theorem narrow_c {x : Int} (h : 0 ≤ x ∧ x < 65536) : narrow .char (vI x) = vI x := by
  show Value.int ((Int32.ofInt x).toUInt32 % 65536).toInt32 = _
  rw [bC_of h]; rfl
theorem r_c {x : Int} (h : 0 ≤ x ∧ x < 65536) : rI x := ⟨by omega, by omega⟩
theorem r_b {x : Int} (h : -128 ≤ x ∧ x < 128) : rI x := ⟨by omega, by omega⟩
theorem rI_bC (x : Int) : rI (bC x) := r32 _
/-- how contracts over the heap end -/
abbrev hR0 (P : HM → Prop) : Option Value → HM → Prop := fun r μ => r = none ∧ P μ
abbrev hR1 (P : Int → HM → Prop) : Option Value → HM → Prop := fun r μ => ∃ x, r = some (vI x) ∧ P x μ
abbrev hR2 (P : Int → HM → Prop) : Option Value → HM → Prop := fun r μ => ∃ x, r = some (vI x) ∧ (x = 0 ∨ x = 1) ∧ P x μ
abbrev hR3 (P : Int → HM → Prop) : Option Value → HM → Prop := fun r μ => ∃ x, r = some (vL x) ∧ P x μ
abbrev hR4 (P : Option Nat → HM → Prop) : Option Value → HM → Prop := fun r μ => ∃ x, r = some (va_rf x) ∧ P x μ
abbrev hR5 (P : Int → HM → Prop) : Option Value → HM → Prop := fun r μ => ∃ x, r = some (vI x) ∧ (-128 ≤ x ∧ x < 128) ∧ P x μ
abbrev hR6 (P : Int → HM → Prop) : Option Value → HM → Prop := fun r μ => ∃ x, r = some (vI x) ∧ (0 ≤ x ∧ x < 65536) ∧ P x μ
abbrev hMR (G : g_G) (R : Option Value → HM → Prop) : Option Value → va_W × HM → Prop := fun r u => Mrep G u.1 u.2 ∧ R r u.2
abbrev hMX (G : g_G) (X : Nat → String → HM → Prop) : Nat → String → va_W × HM → Prop := fun q E u => Mrep G u.1 u.2 ∧ X q E u.2
/-- contracts over the heap of what may throw -/
def CMX (G : g_G) (l : Launch) (y : MethodName) (cc : ByteArray) (nL : Nat) (ret : Option FieldType) (d mc ms : Nat) (as : List Value) (μ : HM) (R : Option Value → HM → Prop) (X : Nat → String → HM → Prop) : Prop :=
  ∀ ws, Mrep G ws μ → CX G l y cc nL ret d mc ms as [ws] (hMR G R) (fun u => [u.1]) (hMX G X) (fun u => [u.1])
def CMH (G : g_G) (l : Launch) (y : MethodName) (cc : ByteArray) (nL : Nat) (ret : Option FieldType) (hh : List (Nat × Nat × Nat × Nat)) (d mc ms : Nat) (as : List Value) (μ : HM) (R : Option Value → HM → Prop) (X : Nat → String → HM → Prop) : Prop :=
  ∀ ws, Mrep G ws μ → CXH G l y cc nL ret hh d mc ms as [ws] (hMR G R) (fun u => [u.1]) (hMX G X) (fun u => [u.1])
section CMROWS
variable {S : Type} {G : g_G} {l : Launch} {cc : ByteArray} {own : String} {nL : Nat} {ret : Option FieldType} {mn : String} {d mc ms : Nat} {R : Option Value → S → Prop} {sh : S → List va_W} {F : g_F} {cells slots : Nat} {pc : Nat} {lv : List (Nat × Value)} {st : List Value} {ws fr : va_W} {Ws : List va_W} {μ : HM} {RR : Option Value → HM → Prop} {XX : Nat → String → HM → Prop} {tb : List ExceptionTableEntry}
theorem ww_st1 {v : Value} (k : WF G l cc own nL ret mn d mc ms F cells slots Ws pc lv (v :: st)) : WF G l cc own nL ret mn d mc ms F cells slots Ws pc lv ((some v).toList ++ st) := k
theorem ww_st0 (k : WF G l cc own nL ret mn d mc ms F cells slots Ws pc lv st) : WF G l cc own nL ret mn d mc ms F cells slots Ws pc lv ((none : Option Value).toList ++ st) := k
theorem ww_nullQ (hdg : decode cc pc = .ok (.aconst_null, 1)) (k : WF G l cc own nL ret mn d mc ms F cells slots Ws (pc + 1) lv (va_rf none :: st)) : WF G l cc own nL ret mn d mc ms F cells slots Ws pc lv st := ww_null hdg k
theorem wm_of {y : MethodName} {as : List Value} (hy : plainName y.cls = true) {lvs : List (Nat × Value)} (hlen : (lg_sl as).length ≤ nL) (hav : lv_args 0 as = lvs) (body : ∀ (fr ws : va_W), Mrep G ws μ → WW G l cc y.cls nL ret y.name d mc ms (hMR G RR) (fun u => [u.1, fr]) 0 0 [ws, fr] 0 lvs []) : CM G l y cc nL ret d mc ms as μ RR :=
  by
  subst hav
  exact fun ws hM => ww_of hy hlen (fun fr => body fr ws hM)
theorem wm_ofX {y : MethodName} {as : List Value} (hy : plainName y.cls = true) {lvs : List (Nat × Value)} (hlen : (lg_sl as).length ≤ nL) (hav : lv_args 0 as = lvs) (body : ∀ (fr ws : va_W), Mrep G ws μ → WF G l cc y.cls nL ret y.name d mc ms (gFX G (hMR G RR) (fun u => [u.1, fr]) (hMX G XX) (fun u => [u.1, fr]) mc ms []) 0 0 [ws, fr] 0 lvs []) : CMX G l y cc nL ret d mc ms as μ RR XX :=
  by
  subst hav
  exact fun ws hM => wx_of hy hlen (fun fr => body fr ws hM)
theorem wm_ofH {y : MethodName} {as : List Value} {hh : List (Nat × Nat × Nat × Nat)} (hy : plainName y.cls = true) {lvs : List (Nat × Value)} (hlen : (lg_sl as).length ≤ nL) (hav : lv_args 0 as = lvs) (body : ∀ (fr ws : va_W), Mrep G ws μ → WF G l cc y.cls nL ret y.name d mc ms (gFX G (hMR G RR) (fun u => [u.1, fr]) (hMX G XX) (fun u => [u.1, fr]) mc ms (tableOf hh)) 0 0 [ws, fr] 0 lvs []) : CMH G l y cc nL ret hh d mc ms as μ RR XX :=
  by
  subst hav
  exact fun ws hM => wx_ofH hy hlen (fun fr => body fr ws hM)
theorem wm_ldcw {index : Nat} {v : Int32} {x : Int} (hdg : decode cc pc = .ok (.ldc_w index, 3)) (hq : Cond.constant own index v ∈ lw_all) (hv : Int32.ofInt x = v) (k : WF G l cc own nL ret mn d mc ms F cells slots Ws (pc + 3) lv (vI x :: st)) : WF G l cc own nL ret mn d mc ms F cells slots Ws pc lv (st) := by
  intro p e s m args below meth c H locs ls N hS hP hl
  have h := k p e s m args below meth c H locs ls N hS hP hl
  unfold vI at h
  rw [hv] at h
  exact lv_ldcw N.1 N.2.1 N.2.2.2.1 (N.2.2.1 _ hq) hdg h
def lbX (x y : Int) : Int := (Int64.ofInt x ^^^ Int64.ofInt y).toInt
theorem wm_lxor {x y : Int} (hdg : decode cc pc = .ok (.lxor, 1)) (k : WF G l cc own nL ret mn d mc ms F cells slots Ws (pc + 1) lv (vL (lbX x y) :: st)) : WF G l cc own nL ret mn d mc ms F cells slots Ws pc lv (vL y :: vL x :: st) := by
  intro p e s m args below meth c H locs ls N hS hP hl
  have h := k p e s m args below meth c H locs ls N hS hP hl
  have e1 : vL (lbX x y) = .long (Int64.ofInt x ^^^ Int64.ofInt y) := congrArg Value.long (Int64.ofInt_toInt _)
  rw [e1] at h
  exact lv_lxor N.1 N.2.1 hdg h
theorem wm_i2c {x : Int} (hdg : decode cc pc = .ok (.i2c, 1)) (k : WF G l cc own nL ret mn d mc ms F cells slots Ws (pc + 1) lv (vI (bC x) :: st)) : WF G l cc own nL ret mn d mc ms F cells slots Ws pc lv (vI x :: st) := by
  intro p e s m args below meth c H locs ls N hS hP hl
  exact lv_i2c N.1 N.2.1 hdg (Int32.ofInt_toInt _).symm (k p e s m args below meth c H locs ls N hS hP hl)
theorem ww_xret {x : Int} {ty : FieldType} (u : S) (hr : ret = some ty) (hx : narrow ty (vI x) = vI x) (hR : R (some (vI x)) u) (hw : Ws.flatten = (sh u).flatten) (hc : cells ≤ mc) (hs : slots ≤ ms) (hdg : decode cc pc = .ok (.ireturn, 1)) : WW G l cc own nL ret mn d mc ms R sh cells slots Ws pc lv [vI x] := by
  intro p e s m args below meth c H locs ls N hS hP hl
  refine W.widen hc hs ?_
  exact W.zret N.1 N.2.1 (N.2.2.2.2.2.1.trans hr) hx (fun t ht hW => ⟨⟨_, u, rfl, hR, by rw [ht]; exact hP.of hw⟩, hS.F ht⟩) hS.2.2 hdg (hlocks := N.2.2.2.2.2.2.1)
theorem wm_instN {index : Nat} (hdg : decode cc pc = .ok (.instanceof index, 3)) (k : WF G l cc own nL ret mn d mc ms F cells slots Ws (pc + 3) lv (vI 0 :: st)) : WF G l cc own nL ret mn d mc ms F cells slots Ws pc lv (va_rf none :: st) := by
  intro p e s m args below meth c H locs ls N hS hP hl
  exact lv_instN N.1 N.2.1 hdg (k p e s m args below meth c H locs ls N hS hP hl)
theorem wm_instS {a ci index : Nat} {C : String} {T : u_T} {Nf : Nat} (hM : Mrep G ws μ) (hg : gC μ a = some ci) (hc : vwCl[ci]? = some (C, T, Nf)) (hlink : Cond.classLink own index C ∈ lw_all) (hdg : decode cc pc = .ok (.instanceof index, 3)) (k : WF G l cc own nL ret mn d mc ms F cells slots [ws, fr] (pc + 3) lv (vI 1 :: st)) : WF G l cc own nL ret mn d mc ms F cells slots [ws, fr] pc lv (va_rf (some a) :: st) := by
  intro p e s m args below meth c H locs ls N hS hP hl
  have hK := N.2.2.2.2.2.2.2.2
  exact va_instS N.1 N.2.1 N.2.2.2.1 (N.2.2.1 _ hlink) (hK.1.1 ci _ hc).2 (wm_rc hM hg hc s H locs hK hS hP) hdg (k p e s m args below meth c H locs ls N hS hP hl)
theorem wm_callV {y : MethodName} {bytes : ByteArray} {ret2 : Option FieldType} {as : List Value} {mc2 ms2 d2 maxL2 n index : Nat} {R2 : Option Value → HM → Prop} {b ci : Nat} {o : Option Nat} {T : u_T} {Nf : Nat} {st0 : List Value} (hM : Mrep G ws μ) (hC : CM G l y bytes maxL2 ret2 d2 mc2 ms2 (.ref b :: as) μ R2) (ho : o = some b) (hgC : gC μ b = some ci) (hci : vwCl[ci]? = some (y.cls, T, Nf)) (hg : GoodIn lw_all (wsV own index y.cls y (ws_ y bytes maxL2 ret2))) (hd : y.cls ≠ "java/lang/invoke/MethodHandle" ∧ y.cls ≠ "java/lang/invoke/VarHandle" ∧ (parseMethodDescriptor y.desc).map (fun d => d.parameters.length) = some n) (hn : as.length = n) (hR : d2 + 1 ≤ d ∧ 16 + (maxL2 + 11) + 100 * d2 ≤ 100 * d) (hst0 : st0 = as.reverse ++ va_rf o :: st) (hst : (st.map fun v => v.category).sum ≤ 16) (hdg : decode cc pc = .ok (.invokevirtual index, 3)) (hf : cells + mc2 ≤ mc ∧ slots + ms2 ≤ ms) (k : ∀ (r : Option Value) (μ2 : HM) (ws2 : va_W), R2 r μ2 → Mrep G ws2 μ2 → WF G l cc own nL ret mn d mc ms F (cells + mc2) (slots + ms2) [ws2, fr] (pc + 3) lv (r.toList ++ st)) : WF G l cc own nL ret mn d mc ms F cells slots [ws, fr] pc lv st0 := by
  subst ho
  exact ww_callV2 (Wr := [fr]) (hC ws hM) hg hd hn hR rfl (wm_rc hM hgC hci) hst0 hst hdg hf (fun r u h => k r u.2 u.1 h.2 h.1)
theorem wm_callVN {y : MethodName} {bytes : ByteArray} {ret2 : Option FieldType} {as : List Value} {mc2 ms2 d2 maxL2 n index : Nat} {R2 : Option Value → HM → Prop} {b ci : Nat} {o : Option Nat} {T : u_T} {Nf : Nat} {st0 : List Value} {host : String} (hM : Mrep G ws μ) (hC : CM G l y bytes maxL2 ret2 d2 mc2 ms2 (.ref b :: as) μ R2) (ho : o = some b) (hgC : gC μ b = some ci) (hci : vwCl[ci]? = some (y.cls, T, Nf)) (hq0 : Cond.methodLinkNest own index y host ∈ lw_tbl) (hq1 : Cond.code y bytes maxL2 ret2 ∈ lw_all) (hq2 : Cond.initialized y.cls ∈ lw_all) (hq3 : Cond.instanceMethod y ∈ lw_all) (hq4 : Cond.selects y.cls y y ∈ lw_all) (hd : y.cls ≠ "java/lang/invoke/MethodHandle" ∧ y.cls ≠ "java/lang/invoke/VarHandle" ∧ (parseMethodDescriptor y.desc).map (fun d => d.parameters.length) = some n) (hn : as.length = n) (hR : d2 + 1 ≤ d ∧ 16 + (maxL2 + 11) + 100 * d2 ≤ 100 * d) (hst0 : st0 = as.reverse ++ va_rf o :: st) (hst : (st.map fun v => v.category).sum ≤ 8) (hdg : decode cc pc = .ok (.invokevirtual index, 3)) (hf : cells + mc2 ≤ mc ∧ slots + ms2 ≤ ms) (k : ∀ (r : Option Value) (μ2 : HM) (ws2 : va_W), R2 r μ2 → Mrep G ws2 μ2 → WF G l cc own nL ret mn d mc ms F (cells + mc2) (slots + ms2) [ws2, fr] (pc + 3) lv (r.toList ++ st)) : WF G l cc own nL ret mn d mc ms F cells slots [ws, fr] pc lv st0 := by
  subst ho
  exact ww_callVN (Wr := [fr]) (hC ws hM) hq0 hq1 hq2 hq3 hq4 hd hn hR rfl (wm_rc hM hgC hci) hst0 hst hdg hf (fun r u h => k r u.2 u.1 h.2 h.1)
theorem wm_callSU {y : MethodName} {bytes : ByteArray} {ret2 : Option FieldType} {as : List Value} {mc2 ms2 d2 maxL2 n index : Nat} {R2 : Option Value → HM → Prop} {b ci : Nat} {o : Option Nat} {T : u_T} {Nf : Nat} {st0 : List Value} {C : String} (hM : Mrep G ws μ) (hC : CM G l y bytes maxL2 ret2 d2 mc2 ms2 (.ref b :: as) μ R2) (ho : o = some b) (hgC : gC μ b = some ci) (hci : vwCl[ci]? = some (C, T, Nf)) (hg : GoodIn lw_all (va_wsSU own index y (ws_ y bytes maxL2 ret2))) (hd : y.name ≠ "<init>" ∧ (parseMethodDescriptor y.desc).map (fun d => d.parameters.length) = some n) (hn : as.length = n) (hR : d2 + 1 ≤ d ∧ 16 + (maxL2 + 11) + 100 * d2 ≤ 100 * d) (hst0 : st0 = as.reverse ++ va_rf o :: st) (hst : (st.map fun v => v.category).sum ≤ 8) (hdg : decode cc pc = .ok (.invokespecial index, 3)) (hf : cells + mc2 ≤ mc ∧ slots + ms2 ≤ ms) (k : ∀ (r : Option Value) (μ2 : HM) (ws2 : va_W), R2 r μ2 → Mrep G ws2 μ2 → WF G l cc own nL ret mn d mc ms F (cells + mc2) (slots + ms2) [ws2, fr] (pc + 3) lv (r.toList ++ st)) : WF G l cc own nL ret mn d mc ms F cells slots [ws, fr] pc lv st0 := by
  subst ho
  exact ww_callSU (Wr := [fr]) (hC ws hM) hg hci hd hn hR rfl (wm_rc hM hgC hci) hst0 hst hdg hf (fun r u h => k r u.2 u.1 h.2 h.1)
theorem wm_callF {y : MethodName} {bytes : ByteArray} {ret2 : Option FieldType} {as : List Value} {mc2 ms2 d2 maxL2 n index : Nat} {R2 : Option Value → HM → Prop} {b ci : Nat} {o : Option Nat} {T : u_T} {Nf : Nat} {st0 : List Value} {C : String} {x : MethodName} {count : Nat} (hM : Mrep G ws μ) (hC : CM G l y bytes maxL2 ret2 d2 mc2 ms2 (.ref b :: as) μ R2) (ho : o = some b) (hgC : gC μ b = some ci) (hci : vwCl[ci]? = some (C, T, Nf)) (hg : GoodIn lw_all (va_wsF own index C x y (ws_ y bytes maxL2 ret2))) (hfw : (C, x, y) ∈ g_fw) (hd : x.cls ≠ "java/lang/invoke/MethodHandle" ∧ x.cls ≠ "java/lang/invoke/VarHandle" ∧ (parseMethodDescriptor x.desc).map (fun d => d.parameters.length) = some n) (hn : as.length = n) (hR : d2 + 1 ≤ d ∧ 16 + (maxL2 + 11) + 100 * d2 ≤ 100 * d) (hst0 : st0 = as.reverse ++ va_rf o :: st) (hst : (st.map fun v => v.category).sum ≤ 8) (hdg : decode cc pc = .ok (.invokeinterface index count, 5)) (hf : cells + mc2 ≤ mc ∧ slots + ms2 ≤ ms) (k : ∀ (r : Option Value) (μ2 : HM) (ws2 : va_W), R2 r μ2 → Mrep G ws2 μ2 → WF G l cc own nL ret mn d mc ms F (cells + mc2) (slots + ms2) [ws2, fr] (pc + 5) lv (r.toList ++ st)) : WF G l cc own nL ret mn d mc ms F cells slots [ws, fr] pc lv st0 := by
  subst ho
  exact ww_callF (Wr := [fr]) (hC ws hM) hg hfw hci hd hn hR rfl (wm_rc hM hgC hci) hst0 hst hdg hf (fun r u h => k r u.2 u.1 h.2 h.1)
theorem wm_callU {y : MethodName} {bytes : ByteArray} {ret2 : Option FieldType} {as : List Value} {mc2 ms2 d2 maxL2 n index : Nat} {R2 : Option Value → HM → Prop} {b ci : Nat} {o : Option Nat} {T : u_T} {Nf : Nat} {st0 : List Value} {C owner : String} {x : MethodName} (hM : Mrep G ws μ) (hC : CM G l y bytes maxL2 ret2 d2 mc2 ms2 (.ref b :: as) μ R2) (ho : o = some b) (hgC : gC μ b = some ci) (hci : vwCl[ci]? = some (C, T, Nf)) (hg : GoodIn lw_all (va_wsU own index C owner x y (ws_ y bytes maxL2 ret2))) (hyx : y = ⟨owner, x.name, x.desc⟩) (hd : owner ≠ "java/lang/invoke/MethodHandle" ∧ owner ≠ "java/lang/invoke/VarHandle" ∧ (parseMethodDescriptor x.desc).map (fun d => d.parameters.length) = some n) (hn : as.length = n) (hR : d2 + 1 ≤ d ∧ 16 + (maxL2 + 11) + 100 * d2 ≤ 100 * d) (hst0 : st0 = as.reverse ++ va_rf o :: st) (hst : (st.map fun v => v.category).sum ≤ 8) (hdg : decode cc pc = .ok (.invokevirtual index, 3)) (hf : cells + mc2 ≤ mc ∧ slots + ms2 ≤ ms) (k : ∀ (r : Option Value) (μ2 : HM) (ws2 : va_W), R2 r μ2 → Mrep G ws2 μ2 → WF G l cc own nL ret mn d mc ms F (cells + mc2) (slots + ms2) [ws2, fr] (pc + 3) lv (r.toList ++ st)) : WF G l cc own nL ret mn d mc ms F cells slots [ws, fr] pc lv st0 := by
  subst ho
  exact ww_callU (Wr := [fr]) (hC ws hM) (fun s args h => va_cwU (n := n) h hg rfl rfl rfl hyx hd ⟨hR.1, (show 8 + (maxL2 + 11) + 100 * d2 ≤ 100 * d by omega)⟩) hn rfl (wm_rc hM hgC hci) hst0 hst hdg hf (fun r u h => k r u.2 u.1 h.2 h.1)
theorem wm_callO {y : MethodName} {bytes : ByteArray} {ret2 : Option FieldType} {as : List Value} {mc2 ms2 d2 maxL2 n index : Nat} {R2 : Option Value → HM → Prop} {b ci : Nat} {o : Option Nat} {T : u_T} {Nf : Nat} {st0 : List Value} {C owner : String} {x : MethodName} {b0 : ByteArray} {m0 : Nat} {r0 : Option FieldType} (hM : Mrep G ws μ) (hC : CM G l y bytes maxL2 ret2 d2 mc2 ms2 (.ref b :: as) μ R2) (ho : o = some b) (hgC : gC μ b = some ci) (hci : vwCl[ci]? = some (C, T, Nf)) (hg : GoodIn lw_all (va_wsO own index C owner x y (ws_ y bytes maxL2 ret2))) (h0 : Cond.code ⟨owner, x.name, x.desc⟩ b0 m0 r0 ∈ lw_all) (hd : owner ≠ "java/lang/invoke/MethodHandle" ∧ owner ≠ "java/lang/invoke/VarHandle" ∧ (parseMethodDescriptor x.desc).map (fun d => d.parameters.length) = some n) (hn : as.length = n) (hR : d2 + 1 ≤ d ∧ 16 + (maxL2 + 11) + 100 * d2 ≤ 100 * d) (hst0 : st0 = as.reverse ++ va_rf o :: st) (hst : (st.map fun v => v.category).sum ≤ 8) (hdg : decode cc pc = .ok (.invokevirtual index, 3)) (hf : cells + mc2 ≤ mc ∧ slots + ms2 ≤ ms) (k : ∀ (r : Option Value) (μ2 : HM) (ws2 : va_W), R2 r μ2 → Mrep G ws2 μ2 → WF G l cc own nL ret mn d mc ms F (cells + mc2) (slots + ms2) [ws2, fr] (pc + 3) lv (r.toList ++ st)) : WF G l cc own nL ret mn d mc ms F cells slots [ws, fr] pc lv st0 := by
  subst ho
  exact ww_callU (Wr := [fr]) (hC ws hM) (fun s args h => va_cwO (n := n) h hg rfl rfl rfl h0 hd ⟨hR.1, (show 8 + (maxL2 + 11) + 100 * d2 ≤ 100 * d by omega)⟩) hn rfl (wm_rc hM hgC hci) hst0 hst hdg hf (fun r u h => k r u.2 u.1 h.2 h.1)
theorem wm_callS {y : MethodName} {bytes : ByteArray} {ret2 : Option FieldType} {as : List Value} {mc2 ms2 d2 maxL2 n index : Nat} {R2 : Option Value → HM → Prop} {st0 : List Value} (hM : Mrep G ws μ) (hC : CM G l y bytes maxL2 ret2 d2 mc2 ms2 as μ R2) (hg : GoodIn lw_all (va_wsS own index y (ws_ y bytes maxL2 ret2))) (hd : y.cls ≠ "java/lang/invoke/MethodHandle" ∧ y.cls ≠ "java/lang/invoke/VarHandle" ∧ (parseMethodDescriptor y.desc).map (fun d => d.parameters.length) = some n) (hn : as.length = n) (hR : d2 + 1 ≤ d ∧ 16 + (maxL2 + 11) + 100 * d2 ≤ 100 * d) (hst0 : st0 = as.reverse ++ st) (hst : (st.map fun v => v.category).sum ≤ 16) (hdg : decode cc pc = .ok (.invokestatic index, 3)) (hf : cells + mc2 ≤ mc ∧ slots + ms2 ≤ ms) (k : ∀ (r : Option Value) (μ2 : HM) (ws2 : va_W), R2 r μ2 → Mrep G ws2 μ2 → WF G l cc own nL ret mn d mc ms F (cells + mc2) (slots + ms2) [ws2, fr] (pc + 3) lv (r.toList ++ st)) : WF G l cc own nL ret mn d mc ms F cells slots [ws, fr] pc lv st0 := by
  exact ww_callS (Wr := [fr]) (hC ws hM) hg hd hn hR rfl hst0 hst hdg hf (fun r u h => k r u.2 u.1 h.2 h.1)
theorem wm_callSN {y : MethodName} {bytes : ByteArray} {ret2 : Option FieldType} {as : List Value} {mc2 ms2 d2 maxL2 n index : Nat} {R2 : Option Value → HM → Prop} {st0 : List Value} {host : String} (hM : Mrep G ws μ) (hC : CM G l y bytes maxL2 ret2 d2 mc2 ms2 as μ R2) (hq0 : Cond.methodLinkNest own index y host ∈ lw_tbl) (hq1 : Cond.code y bytes maxL2 ret2 ∈ lw_all) (hq2 : Cond.initialized y.cls ∈ lw_all) (hq3 : Cond.static y ∈ lw_all) (hd : y.cls ≠ "java/lang/invoke/MethodHandle" ∧ y.cls ≠ "java/lang/invoke/VarHandle" ∧ (parseMethodDescriptor y.desc).map (fun d => d.parameters.length) = some n) (hn : as.length = n) (hR : d2 + 1 ≤ d ∧ 16 + (maxL2 + 11) + 100 * d2 ≤ 100 * d) (hst0 : st0 = as.reverse ++ st) (hst : (st.map fun v => v.category).sum ≤ 8) (hdg : decode cc pc = .ok (.invokestatic index, 3)) (hf : cells + mc2 ≤ mc ∧ slots + ms2 ≤ ms) (k : ∀ (r : Option Value) (μ2 : HM) (ws2 : va_W), R2 r μ2 → Mrep G ws2 μ2 → WF G l cc own nL ret mn d mc ms F (cells + mc2) (slots + ms2) [ws2, fr] (pc + 3) lv (r.toList ++ st)) : WF G l cc own nL ret mn d mc ms F cells slots [ws, fr] pc lv st0 := by
  exact ww_callSN (Wr := [fr]) (hC ws hM) hq0 hq1 hq2 hq3 hd hn hR rfl hst0 hst hdg hf (fun r u h => k r u.2 u.1 h.2 h.1)
theorem wm_callI {y : MethodName} {bytes : ByteArray} {as : List Value} {mc2 ms2 d2 maxL2 n index : Nat} {R2 : Option Value → HM → Prop} {b : Nat} {o : Option Nat} {st0 : List Value} (hM : Mrep G ws μ) (hC : CM G l y bytes maxL2 none d2 mc2 ms2 (.ref b :: as) μ R2) (ho : o = some b) (hg : Cond.code y bytes maxL2 none ∈ lw_all) (hq1 : Cond.initialized y.cls ∈ lw_all) (hq2 : Cond.methodLink own index y ∈ lw_all) (hq3 : Cond.instanceMethod y ∈ lw_all) (hy : y.name = "<init>") (hd : y.cls ≠ "java/lang/invoke/MethodHandle" ∧ y.cls ≠ "java/lang/invoke/VarHandle" ∧ (parseMethodDescriptor y.desc).map (fun d => d.parameters.length) = some n) (hn : as.length = n) (hR : d2 + 1 ≤ d ∧ 16 + (maxL2 + 11) + 100 * d2 ≤ 100 * d) (hst0 : st0 = as.reverse ++ va_rf o :: st) (hst : (st.map fun v => v.category).sum ≤ 16) (hdg : decode cc pc = .ok (.invokespecial index, 3)) (hf : cells + mc2 ≤ mc ∧ slots + ms2 ≤ ms) (k : ∀ (r : Option Value) (μ2 : HM) (ws2 : va_W), R2 r μ2 → Mrep G ws2 μ2 → WF G l cc own nL ret mn d mc ms F (cells + mc2) (slots + ms2) [ws2, fr] (pc + 3) lv (r.toList ++ st)) : WF G l cc own nL ret mn d mc ms F cells slots [ws, fr] pc lv st0 := by
  subst ho
  exact ww_callI (Wr := [fr]) (hC ws hM) hg hq1 hq2 hq3 hy hd hn hR rfl hst0 hst hdg hf (fun r u h => k r u.2 u.1 h.2 h.1)
theorem wm_callIN {y : MethodName} {bytes : ByteArray} {as : List Value} {mc2 ms2 d2 maxL2 n index : Nat} {R2 : Option Value → HM → Prop} {b : Nat} {o : Option Nat} {st0 : List Value} {host : String} (hM : Mrep G ws μ) (hC : CM G l y bytes maxL2 none d2 mc2 ms2 (.ref b :: as) μ R2) (ho : o = some b) (hq0 : Cond.methodLinkNest own index y host ∈ lw_tbl) (hq1 : Cond.code y bytes maxL2 none ∈ lw_all) (hq2 : Cond.initialized y.cls ∈ lw_all) (hq3 : Cond.instanceMethod y ∈ lw_all) (hy : y.name = "<init>") (hd : y.cls ≠ "java/lang/invoke/MethodHandle" ∧ y.cls ≠ "java/lang/invoke/VarHandle" ∧ (parseMethodDescriptor y.desc).map (fun d => d.parameters.length) = some n) (hn : as.length = n) (hR : d2 + 1 ≤ d ∧ 16 + (maxL2 + 11) + 100 * d2 ≤ 100 * d) (hst0 : st0 = as.reverse ++ va_rf o :: st) (hst : (st.map fun v => v.category).sum ≤ 8) (hdg : decode cc pc = .ok (.invokespecial index, 3)) (hf : cells + mc2 ≤ mc ∧ slots + ms2 ≤ ms) (k : ∀ (r : Option Value) (μ2 : HM) (ws2 : va_W), R2 r μ2 → Mrep G ws2 μ2 → WF G l cc own nL ret mn d mc ms F (cells + mc2) (slots + ms2) [ws2, fr] (pc + 3) lv (r.toList ++ st)) : WF G l cc own nL ret mn d mc ms F cells slots [ws, fr] pc lv st0 := by
  subst ho
  exact ww_callIN (Wr := [fr]) (hC ws hM) hq0 hq1 hq2 hq3 hy hd hn hR rfl hst0 hst hdg hf (fun r u h => k r u.2 u.1 h.2 h.1)
theorem wm_callX {y : MethodName} {bytes : ByteArray} {ret2 : Option FieldType} {as : List Value} {mc2 ms2 d2 maxL2 n index : Nat} {R2 : Option Value → HM → Prop} {b ci : Nat} {o : Option Nat} {T : u_T} {Nf : Nat} {st0 : List Value} {X2 : Nat → String → HM → Prop} (hM : Mrep G ws μ) (hC : CMX G l y bytes maxL2 ret2 d2 mc2 ms2 (.ref b :: as) μ R2 X2) (ho : o = some b) (hgC : gC μ b = some ci) (hci : vwCl[ci]? = some (y.cls, T, Nf)) (hg : GoodIn lw_all (wsV own index y.cls y (ws_ y bytes maxL2 ret2))) (hd : y.cls ≠ "java/lang/invoke/MethodHandle" ∧ y.cls ≠ "java/lang/invoke/VarHandle" ∧ (parseMethodDescriptor y.desc).map (fun d => d.parameters.length) = some n) (hn : as.length = n) (hR : d2 + 1 ≤ d ∧ 16 + (maxL2 + 11) + 100 * d2 ≤ 100 * d) (hst0 : st0 = as.reverse ++ va_rf o :: st) (hst : (st.map fun v => v.category).sum ≤ 8) (hdg : decode cc pc = .ok (.invokevirtual index, 3)) (hf : cells + mc2 ≤ mc ∧ slots + ms2 ≤ ms) (kx : ∀ (q : Nat) (E : String) (μ2 : HM) (ws2 : va_W), X2 q E μ2 → Mrep G ws2 μ2 → WU G l cc own nL ret mn d mc ms F (cells + mc2) (slots + ms2) [ws2, fr] pc lv st q E) (k : ∀ (r : Option Value) (μ2 : HM) (ws2 : va_W), R2 r μ2 → Mrep G ws2 μ2 → WF G l cc own nL ret mn d mc ms F (cells + mc2) (slots + ms2) [ws2, fr] (pc + 3) lv (r.toList ++ st)) : WF G l cc own nL ret mn d mc ms F cells slots [ws, fr] pc lv st0 := by
  subst ho
  exact wx_callV (Wr := [fr]) (hC ws hM) hg hd hn hR rfl (wm_rc hM hgC hci) hst0 hst hdg hf (fun q E u h => kx q E u.2 u.1 h.2 h.1) (fun r u h => k r u.2 u.1 h.2 h.1)
theorem wm_callXH {y : MethodName} {bytes : ByteArray} {ret2 : Option FieldType} {as : List Value} {mc2 ms2 d2 maxL2 n index : Nat} {R2 : Option Value → HM → Prop} {b ci : Nat} {o : Option Nat} {T : u_T} {Nf : Nat} {st0 : List Value} {hh : List (Nat × Nat × Nat × Nat)} {X2 : Nat → String → HM → Prop} (hM : Mrep G ws μ) (hC : CMH G l y bytes maxL2 ret2 hh d2 mc2 ms2 (.ref b :: as) μ R2 X2) (ho : o = some b) (hgC : gC μ b = some ci) (hci : vwCl[ci]? = some (y.cls, T, Nf)) (hg : GoodIn lw_all (wsV own index y.cls y (wsW_ y bytes maxL2 ret2 hh))) (hd : y.cls ≠ "java/lang/invoke/MethodHandle" ∧ y.cls ≠ "java/lang/invoke/VarHandle" ∧ (parseMethodDescriptor y.desc).map (fun d => d.parameters.length) = some n) (hn : as.length = n) (hR : d2 + 1 ≤ d ∧ 16 + (maxL2 + 11) + 100 * d2 ≤ 100 * d) (hst0 : st0 = as.reverse ++ va_rf o :: st) (hst : (st.map fun v => v.category).sum ≤ 8) (hdg : decode cc pc = .ok (.invokevirtual index, 3)) (hf : cells + mc2 ≤ mc ∧ slots + ms2 ≤ ms) (kx : ∀ (q : Nat) (E : String) (μ2 : HM) (ws2 : va_W), X2 q E μ2 → Mrep G ws2 μ2 → WU G l cc own nL ret mn d mc ms F (cells + mc2) (slots + ms2) [ws2, fr] pc lv st q E) (k : ∀ (r : Option Value) (μ2 : HM) (ws2 : va_W), R2 r μ2 → Mrep G ws2 μ2 → WF G l cc own nL ret mn d mc ms F (cells + mc2) (slots + ms2) [ws2, fr] (pc + 3) lv (r.toList ++ st)) : WF G l cc own nL ret mn d mc ms F cells slots [ws, fr] pc lv st0 := by
  subst ho
  exact wx_callVH (Wr := [fr]) (hC ws hM) hg hd hn hR rfl (wm_rc hM hgC hci) hst0 hst hdg hf (fun q E u h => kx q E u.2 u.1 h.2 h.1) (fun r u h => k r u.2 u.1 h.2 h.1)
end CMROWS
/-! shared rows -/
theorem r_cmp {x y : Int} : rI (if x < y then (-1 : Int) else if x = y then 0 else 1) := by
  by_cases h : x < y
  · rw [if_pos h]; decide
  · rw [if_neg h]
    by_cases h2 : x = y
    · rw [if_pos h2]; decide
    · rw [if_neg h2]; decide
theorem cmp_lt {x y : Int} : (if x < y then (-1 : Int) else if x = y then 0 else 1) < 0 ↔ x < y := by
  by_cases h : x < y
  · rw [if_pos h]; omega
  · rw [if_neg h]
    by_cases h2 : x = y
    · rw [if_pos h2]; omega
    · rw [if_neg h2]; omega
theorem cmp_ltn {x y : Int} : ¬ (if x < y then (-1 : Int) else if x = y then 0 else 1) < 0 ↔ y ≤ x := by
  by_cases h : x < y
  · rw [if_pos h]; omega
  · rw [if_neg h]
    by_cases h2 : x = y
    · rw [if_pos h2]; omega
    · rw [if_neg h2]; omega
theorem cmp_ge {x y : Int} : 0 ≤ (if x < y then (-1 : Int) else if x = y then 0 else 1) ↔ y ≤ x := by
  by_cases h : x < y
  · rw [if_pos h]; omega
  · rw [if_neg h]
    by_cases h2 : x = y
    · rw [if_pos h2]; omega
    · rw [if_neg h2]; omega
theorem cmp_gen {x y : Int} : ¬ 0 ≤ (if x < y then (-1 : Int) else if x = y then 0 else 1) ↔ x < y := by
  by_cases h : x < y
  · rw [if_pos h]; omega
  · rw [if_neg h]
    by_cases h2 : x = y
    · rw [if_pos h2]; omega
    · rw [if_neg h2]; omega
theorem cmp_gt {x y : Int} : 0 < (if x < y then (-1 : Int) else if x = y then 0 else 1) ↔ y < x := by
  by_cases h : x < y
  · rw [if_pos h]; omega
  · rw [if_neg h]
    by_cases h2 : x = y
    · rw [if_pos h2]; omega
    · rw [if_neg h2]; omega
theorem cmp_gtn {x y : Int} : ¬ 0 < (if x < y then (-1 : Int) else if x = y then 0 else 1) ↔ x ≤ y := by
  by_cases h : x < y
  · rw [if_pos h]; omega
  · rw [if_neg h]
    by_cases h2 : x = y
    · rw [if_pos h2]; omega
    · rw [if_neg h2]; omega
theorem cmp_le {x y : Int} : (if x < y then (-1 : Int) else if x = y then 0 else 1) ≤ 0 ↔ x ≤ y := by
  by_cases h : x < y
  · rw [if_pos h]; omega
  · rw [if_neg h]
    by_cases h2 : x = y
    · rw [if_pos h2]; omega
    · rw [if_neg h2]; omega
theorem cmp_len {x y : Int} : ¬ (if x < y then (-1 : Int) else if x = y then 0 else 1) ≤ 0 ↔ y < x := by
  by_cases h : x < y
  · rw [if_pos h]; omega
  · rw [if_neg h]
    by_cases h2 : x = y
    · rw [if_pos h2]; omega
    · rw [if_neg h2]; omega
theorem cmp_eq {x y : Int} : (if x < y then (-1 : Int) else if x = y then 0 else 1) = 0 ↔ x = y := by
  by_cases h : x < y
  · rw [if_pos h]; omega
  · rw [if_neg h]
    by_cases h2 : x = y
    · rw [if_pos h2]; omega
    · rw [if_neg h2]; omega
theorem cmp_eqn {x y : Int} : ¬ (if x < y then (-1 : Int) else if x = y then 0 else 1) = 0 ↔ ¬ x = y := by
  by_cases h : x < y
  · rw [if_pos h]; omega
  · rw [if_neg h]
    by_cases h2 : x = y
    · rw [if_pos h2]; omega
    · rw [if_neg h2]; omega
theorem cmp_ne {x y : Int} : ¬ (if x < y then (-1 : Int) else if x = y then 0 else 1) = 0 ↔ ¬ x = y := by
  by_cases h : x < y
  · rw [if_pos h]; omega
  · rw [if_neg h]
    by_cases h2 : x = y
    · rw [if_pos h2]; omega
    · rw [if_neg h2]; omega
theorem cmp_nen {x y : Int} : (if x < y then (-1 : Int) else if x = y then 0 else 1) = 0 ↔ x = y := by
  by_cases h : x < y
  · rw [if_pos h]; omega
  · rw [if_neg h]
    by_cases h2 : x = y
    · rw [if_pos h2]; omega
    · rw [if_neg h2]; omega
theorem rI_L {x : Int} (h : rI x) : rL x := ⟨by have := h.1; omega, by have := h.2; omega⟩
theorem b8 (x : Int) : -128 ≤ x.bmod 256 ∧ x.bmod 256 < 128 := ⟨by have := Int.le_bmod (x := x) (m := 256) (by decide); omega, by have := Int.bmod_lt (x := x) (m := 256) (by decide); omega⟩
theorem rI_b8 (x : Int) : rI (x.bmod 256) := ⟨by have := b8 x; omega, by have := b8 x; omega⟩
theorem z01 {x : Int} (h : x = 0 ∨ x = 1) : rI x := ⟨by omega, by omega⟩
theorem ww_nmI {G : g_G} {l : Launch} {cc : ByteArray} {own : String} {nL : Nat} {ret : Option FieldType} {mn : String} {d mc ms : Nat} {F : g_F} {cells slots : Nat} {Ws : List va_W} {pc : Nat} {lv : List (Nat × Value)} {st : List Value} {x : Int} (k : ∀ t : Int, t = x → WF G l cc own nL ret mn d mc ms F cells slots Ws pc lv (vI t :: st)) : WF G l cc own nL ret mn d mc ms F cells slots Ws pc lv (vI x :: st) := k x rfl
theorem ww_nmL {G : g_G} {l : Launch} {cc : ByteArray} {own : String} {nL : Nat} {ret : Option FieldType} {mn : String} {d mc ms : Nat} {F : g_F} {cells slots : Nat} {Ws : List va_W} {pc : Nat} {lv : List (Nat × Value)} {st : List Value} {x : Int} (k : ∀ t : Int, t = x → WF G l cc own nL ret mn d mc ms F cells slots Ws pc lv (vL t :: st)) : WF G l cc own nL ret mn d mc ms F cells slots Ws pc lv (vL x :: st) := k x rfl
abbrev hN0 (μ : HM) (P : Prop) : Option Value → HM → Prop := fun r μ2 => μ = μ2 ∧ r = none ∧ P
abbrev hN1 (μ : HM) (P : Int → Prop) : Option Value → HM → Prop := fun r μ2 => μ = μ2 ∧ ∃ x, r = some (vI x) ∧ P x
abbrev hN2 (μ : HM) (P : Int → Prop) : Option Value → HM → Prop := fun r μ2 => μ = μ2 ∧ ∃ x, r = some (vI x) ∧ (x = 0 ∨ x = 1) ∧ P x
abbrev hN3 (μ : HM) (P : Int → Prop) : Option Value → HM → Prop := fun r μ2 => μ = μ2 ∧ ∃ x, r = some (vL x) ∧ P x
abbrev hN4 (μ : HM) (P : Option Nat → Prop) : Option Value → HM → Prop := fun r μ2 => μ = μ2 ∧ ∃ x, r = some (va_rf x) ∧ P x
abbrev hN5 (μ : HM) (P : Int → Prop) : Option Value → HM → Prop := fun r μ2 => μ = μ2 ∧ ∃ x, r = some (vI x) ∧ (-128 ≤ x ∧ x < 128) ∧ P x
abbrev hN6 (μ : HM) (P : Int → Prop) : Option Value → HM → Prop := fun r μ2 => μ = μ2 ∧ ∃ x, r = some (vI x) ∧ (0 ≤ x ∧ x < 65536) ∧ P x
theorem wm_ldcS {G : g_G} {l : Launch} {cc : ByteArray} {own : String} {nL : Nat} {ret : Option FieldType} {mn : String} {d mc ms : Nat} {F : g_F} {cells slots : Nat} {Ws : List va_W} {pc : Nat} {lv : List (Nat × Value)} {st : List Value} {index i : Nat} (j : Nat) (hj : g_lit[j]? = some (own, index, i)) (hdg : decode cc pc = .ok (.ldc index, 2)) (k : WF G l cc own nL ret mn d mc ms F cells slots Ws (pc + 2) lv (va_rf (some (g_ad G (10 + i))) :: st)) : WF G l cc own nL ret mn d mc ms F cells slots Ws pc lv st := by
  intro p e s m args below meth c H locs ls N hS hP hl
  have h8 := N.2.2.2.2.2.2.2.2.2.2.2.1.2.2.2.2.2.2.2.1 _ (List.mem_of_getElem? hj)
  exact va_ldcS N.1 N.2.1 N.2.2.2.1 h8 hdg (k p e s m args below meth c H locs ls N hS hP hl)
theorem wm_cast {G : g_G} {l : Launch} {cc : ByteArray} {own : String} {nL : Nat} {ret : Option FieldType} {mn : String} {d mc ms : Nat} {F : g_F} {cells slots : Nat} {pc : Nat} {lv : List (Nat × Value)} {st : List Value} {ws fr : va_W} {μ : HM} {index : Nat} {o : Option Nat} {nm : String} {Pc : Nat → Prop} (hM : Mrep G ws μ) (hok : ∀ z : Nat, o = some z → ∃ ci, gC μ z = some ci ∧ Pc ci) (hP : ∀ ci, Pc ci → ∃ C T Nf, vwCl[ci]? = some (C, T, Nf) ∧ (Cond.castable C nm ∈ lw_tbl ∨ C = nm)) (hlink : Cond.classLink own index nm ∈ lw_all) (hdg : decode cc pc = .ok (.checkcast index, 3)) (k : WF G l cc own nL ret mn d mc ms F cells slots [ws, fr] (pc + 3) lv (va_rf o :: st)) : WF G l cc own nL ret mn d mc ms F cells slots [ws, fr] pc lv (va_rf o :: st) := by
  cases o with
  | none => exact wm_castN hdg k
  | some z =>
    obtain ⟨ci, h1, h2⟩ := hok z rfl
    obtain ⟨C, T, Nf, h3, h4⟩ := hP ci h2
    rcases h4 with h4 | h4
    · exact wm_castY hM h1 h3 hlink h4 hdg k
    · subst h4
      exact wm_castS hM h1 h3 hlink hdg k
theorem wm_labI {G : g_G} {l : Launch} {cc : ByteArray} {own : String} {nL : Nat} {ret : Option FieldType} {mn : String} {d mc ms : Nat} {F : g_F} {cells slots : Nat} {pc : Nat} {lv : List (Nat × Value)} {st : List Value} {ws fr : va_W} {μ : HM} {ref : String} {index a ci : Nat} {o : Option Nat} {x : Int} (hci : ci = 7 ∨ ci = 8 ∨ ci = 9) (hM : Mrep G ws μ) (ho : o = some a) (hg : gI μ a ci 1 = some x) (hlink : Cond.fieldLink own index ref "number" "I" ∈ lw_all) (hsame : ∀ (s : State) x, s.fieldFound? "HoloNet$Labelled" "number" "I" = some x → s.fieldFound? ref "number" "I" = some x) (hdg : decode cc pc = .ok (.getfield index, 3)) (k : WF G l cc own nL ret mn d mc ms F cells slots [ws, fr] (pc + 3) lv (vI x :: st)) : WF G l cc own nL ret mn d mc ms F cells slots [ws, fr] pc lv (va_rf o :: st) := by
  rcases hci with rfl | rfl | rfl
  · exact wm_getI hM ho in_X9 (ci := 7) rfl (by decide) 1 (Nat.le_of_ble_eq_true rfl) hg (fun _ _ => rfl) hlink hsame hdg k
  · exact wm_getI hM ho in_X11 (ci := 8) rfl (by decide) 1 (Nat.le_of_ble_eq_true rfl) hg (fun _ _ => rfl) hlink hsame hdg k
  · exact wm_getI hM ho in_X12 (ci := 9) rfl (by decide) 1 (Nat.le_of_ble_eq_true rfl) hg (fun _ _ => rfl) hlink hsame hdg k
theorem wm_labQ {G : g_G} {l : Launch} {cc : ByteArray} {own : String} {nL : Nat} {ret : Option FieldType} {mn : String} {d mc ms : Nat} {F : g_F} {cells slots : Nat} {pc : Nat} {lv : List (Nat × Value)} {st : List Value} {ws fr : va_W} {μ : HM} {ref : String} {index a ci : Nat} {o x : Option Nat} (hci : ci = 7 ∨ ci = 8 ∨ ci = 9) (hM : Mrep G ws μ) (ho : o = some a) (hg : gQ μ a ci 0 = some x) (hlink : Cond.fieldLink own index ref "name" "Ljava/lang/String;" ∈ lw_all) (hsame : ∀ (s : State) x, s.fieldFound? "HoloNet$Labelled" "name" "Ljava/lang/String;" = some x → s.fieldFound? ref "name" "Ljava/lang/String;" = some x) (hdg : decode cc pc = .ok (.getfield index, 3)) (k : WF G l cc own nL ret mn d mc ms F cells slots [ws, fr] (pc + 3) lv (va_rf x :: st)) : WF G l cc own nL ret mn d mc ms F cells slots [ws, fr] pc lv (va_rf o :: st) := by
  rcases hci with rfl | rfl | rfl
  · exact wm_getQ hM ho in_X9 (ci := 7) rfl (by decide) 0 (Nat.le_of_ble_eq_true rfl) hg (fun _ _ => rfl) hlink hsame hdg k
  · exact wm_getQ hM ho in_X11 (ci := 8) rfl (by decide) 0 (Nat.le_of_ble_eq_true rfl) hg (fun _ _ => rfl) hlink hsame hdg k
  · exact wm_getQ hM ho in_X12 (ci := 9) rfl (by decide) 0 (Nat.le_of_ble_eq_true rfl) hg (fun _ _ => rfl) hlink hsame hdg k

theorem lw_U {own : String} {idx : Nat} {C owner : String} {x y : MethodName} {b : ByteArray} {L : Nat} {r : Option FieldType} (h1 : Cond.methodLink own idx x ∈ lw_all) (h2 : Cond.sameMethod x.cls owner x.name x.desc ∈ lw_all) (h3 : Cond.selects C x y ∈ lw_all) (h4 : Cond.instanceMethod y ∈ lw_all) (h5 : Cond.initialized y.cls ∈ lw_all) (hc : Cond.code y b L r ∈ lw_all) : GoodIn lw_all (va_wsU own idx C owner x y (ws_ y b L r)) := by
  refine lw_app ?_ (lw_meth hc)
  intro w hw
  simp only [List.mem_cons, List.not_mem_nil, or_false] at hw
  rcases hw with e | e | e | e | e
  · rw [e]; exact h1
  · rw [e]; exact h2
  · rw [e]; exact h3
  · rw [e]; exact h4
  · rw [e]; exact h5
theorem lw_O {own : String} {idx : Nat} {C owner : String} {x y : MethodName} {b : ByteArray} {L : Nat} {r : Option FieldType} (h1 : Cond.methodLink own idx x ∈ lw_all) (h2 : Cond.sameMethod x.cls owner x.name x.desc ∈ lw_all) (h3 : Cond.instanceMethod ⟨owner, x.name, x.desc⟩ ∈ lw_all) (h4 : Cond.selects C x y ∈ lw_all) (h5 : Cond.instanceMethod y ∈ lw_all) (h6 : Cond.initialized y.cls ∈ lw_all) (hc : Cond.code y b L r ∈ lw_all) : GoodIn lw_all (va_wsO own idx C owner x y (ws_ y b L r)) := by
  refine lw_app ?_ (lw_meth hc)
  intro w hw
  simp only [List.mem_cons, List.not_mem_nil, or_false] at hw
  rcases hw with e | e | e | e | e | e
  · rw [e]; exact h1
  · rw [e]; exact h2
  · rw [e]; exact h3
  · rw [e]; exact h4
  · rw [e]; exact h5
  · rw [e]; exact h6
theorem lw_F {own : String} {idx : Nat} {C : String} {x y : MethodName} {b : ByteArray} {L : Nat} {r : Option FieldType} (h1 : Cond.methodLink own idx x ∈ lw_all) (h2 : Cond.selects C x y ∈ lw_all) (h3 : Cond.instanceMethod y ∈ lw_all) (h4 : Cond.initialized y.cls ∈ lw_all) (hc : Cond.code y b L r ∈ lw_all) : GoodIn lw_all (va_wsF own idx C x y (ws_ y b L r)) := by
  refine lw_app ?_ (lw_meth hc)
  intro w hw
  simp only [List.mem_cons, List.not_mem_nil, or_false] at hw
  rcases hw with e | e | e | e
  · rw [e]; exact h1
  · rw [e]; exact h2
  · rw [e]; exact h3
  · rw [e]; exact h4
theorem lw_SU {own : String} {idx : Nat} {y : MethodName} {b : ByteArray} {L : Nat} {r : Option FieldType} (h1 : Cond.methodLink own idx y ∈ lw_all) (h2 : Cond.sameMethod y.cls y.cls y.name y.desc ∈ lw_all) (h3 : Cond.superclass own y.cls ∈ lw_all) (h4 : Cond.instanceMethod y ∈ lw_all) (h5 : Cond.initialized y.cls ∈ lw_all) (hc : Cond.code y b L r ∈ lw_all) : GoodIn lw_all (va_wsSU own idx y (ws_ y b L r)) := by
  refine lw_app ?_ (lw_meth hc)
  intro w hw
  simp only [List.mem_cons, List.not_mem_nil, or_false] at hw
  rcases hw with e | e | e | e | e
  · rw [e]; exact h1
  · rw [e]; exact h2
  · rw [e]; exact h3
  · rw [e]; exact h4
  · rw [e]; exact h5
theorem wm_objInit {G : g_G} {l : Launch} {cc : ByteArray} {own : String} {nL : Nat} {ret : Option FieldType} {mn : String} {d mc ms : Nat} {F : g_F} {cells slots : Nat} {Ws : List va_W} {pc : Nat} {lv : List (Nat × Value)} {st : List Value} {b idx : Nat} {o : Option Nat} (ho : o = some b) (q1 : Cond.methodLink own idx Lib.objectInit ∈ lw_all) (q2 : Cond.instanceMethod Lib.objectInit ∈ lw_all) (q3 : Cond.code Lib.objectInit ⟨#[0xb1]⟩ 1 none ∈ lw_all) (hd : 1 ≤ d) (hst : (st.map fun v => v.category).sum ≤ 16) (hdg : decode cc pc = .ok (.invokespecial idx, 3)) (k : WF G l cc own nL ret mn d mc ms F cells slots Ws (pc + 3) lv st) : WF G l cc own nL ret mn d mc ms F cells slots Ws pc lv (va_rf o :: st) := by
  subst ho
  intro p e s m args below meth c H locs ls N hS hP hl
  refine W.objInit N.1 N.2.1 N.2.2.2.1 (N.2.2.1 _ q1) (N.2.2.1 _ q2) (N.2.2.1 _ q3) rfl (hl.1.trans N.2.2.2.2.1.symm) rfl hdg hd ?_ (k p e s m args below meth c H locs ls N hS hP hl)
  have h1 : (F0 m pc ls (va_rf (some b) :: st)).monitorRoom = 0 := rfl
  rw [h1]
  show 2 * 0 + (st.map fun v => v.category).sum + 12 ≤ 100 * d
  omega
theorem ref_cat (b : Nat) : (Value.ref b).category = 1 := rfl
theorem rf_some (b : Nat) : va_rf (some b) = Value.ref b := rfl
theorem g_ofWF {l : Launch} {y : MethodName} {ws ws' : List Cond} {rm : Room} {Pc : Array Value → State → Prop} {Qc : Array Value → State → Outcome → State → Prop} {mc ms : Nat} {free : Addr → Prop} {cc : ByteArray} {maxL : Nat} {ret : Option FieldType}
    (hy : plainFor y = true) (hw : ws = Cond.code y cc maxL ret :: ws')
    (body : ∀ p e s m args below meth c s₁, BodyLoose p l y (headSpec ws rm) cc maxL ret e s m args below meth c s₁ → c.maxLocals = maxL → Pc args s →
      W p l e (headSpec ws rm).room s m args below meth c s.heap [] 0 0 (MQ below Qc args s mc ms free) (entryFrame m args maxL)) : Met l y ws rm Pc Qc mc ms free := by
  refine MetFree.of_bodySF (code := cc) (maxLocals := maxL) (ret := ret) hy ?_ ?_
  · intro args s m h hn
    obtain ⟨meth, c, h1, h2, h3, h4, h5, h6, -, -⟩ := Cond.code_spec hn (atoms_spec (ws := ws) h _ (by rw [hw]; exact List.mem_cons_self))
    exact ⟨meth, c, h1, h2, h3, h4, h5, h6⟩
  · intro p e s m args below meth c s₁ B hml hP _
    have hh0 : s₁.heap = s.heap := by rw [B.state]; rfl
    obtain ⟨t, a1, o, b1, b2, b3⟩ := body p e s m args below meth c s₁ B hml hP s₁ hh0 (Stand.of_body B)
    exact ⟨t, o, a1, b1, b2, ⟨b3.1, b3.2⟩⟩
theorem ww_ofF {S : Type} {G : g_G} {l : Launch} {cc : ByteArray} {nL : Nat} {ret : Option FieldType} {d mc ms : Nat} {R : Option Value → S → Prop} {sh : S → List va_W} {Ws : List va_W} {y : MethodName} {as : List Value} (hy : plainFor y = true) (hlen : (lg_sl as).length ≤ nL) (body : ∀ fr : va_W, WW G l cc y.cls nL ret y.name d mc ms R (fun u => sh u ++ [fr]) 0 0 (Ws ++ [fr]) 0 (lv_args 0 as) []) : CT G l y cc nL ret d mc ms as Ws R sh := by
  intro fr
  refine g_ofWF (cc := cc) (maxL := nL) (ret := ret) hy rfl ?_
  intro p e s m args below meth c s₁ B hml hv
  obtain ⟨rfl, hK, hP⟩ := hv
  have hts := atoms_spec (ws := ws_ y cc nL ret) B.pre
  have hts : ∀ w ∈ lw_all, w.before _ s = true := fun w h => hts w (List.mem_cons_of_mem _ h)
  have hown : s.vm.findClass y.cls = some m.cls := findClass_of_methodNamed B.named
  have hl := lv_entry as hlen
  rw [lg_entry_eq]
  exact body fr p e s m _ below meth c s.heap [] _ ⟨B.exec, B.bytes, hts, hown, hml, B.returns, B.notSynchronized, ⟨(name_of_methodNamed B.named B.method).1, trivial⟩, hK⟩ va_S.rf hP hl
theorem wm_ofF {G : g_G} {l : Launch} {cc : ByteArray} {nL : Nat} {ret : Option FieldType} {d mc ms : Nat} {μ : HM} {RR : Option Value → HM → Prop} {y : MethodName} {as : List Value} {lvs : List (Nat × Value)} (hlen : (lg_sl as).length ≤ nL) (hav : lv_args 0 as = lvs) (hy : plainFor y = true) (body : ∀ (fr ws : va_W), Mrep G ws μ → WW G l cc y.cls nL ret y.name d mc ms (hMR G RR) (fun u => [u.1, fr]) 0 0 [ws, fr] 0 lvs []) : CM G l y cc nL ret d mc ms as μ RR := by
  subst hav
  exact fun ws hM => ww_ofF hy hlen (fun fr => body fr ws hM)
