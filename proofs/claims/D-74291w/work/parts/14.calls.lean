/-! CALLS over the moving heap: any receiver, inherited, through an interface, of a nest mate; new cells; constants -/
set_option maxRecDepth 100000
section CROWS
variable {S : Type} {G : g_G} {l : Launch} {cc : ByteArray} {own : String} {nL : Nat} {ret : Option FieldType} {mn : String} {d mc ms : Nat} {R : Option Value → S → Prop} {sh : S → List va_W} {F : g_F} {cells slots : Nat} {Ws : List va_W} {pc : Nat} {lv : List (Nat × Value)} {st : List Value}
/-- the receiver is an object of class C -/
def g_rc (G : g_G) (l : Launch) (Ws : List va_W) (b : Nat) (C : String) : Prop := ∀ (s : State) (H : Heap) (locs : List Loc), g_K G l s → va_S (g_A G) s.heap H locs → g_P G Ws H → ∃ cellB : Cell, H[b]? = some cellB ∧ cellB.vm.isStatics = false ∧ s.vm.findClass C = some cellB.cls
theorem ww_callV2 {S2 : Type} {R2 : Option Value → S2 → Prop} {sh2 : S2 → List va_W} {mc2 ms2 d2 maxL2 n index b : Nat} {Wc Wr : List va_W} {st0 as : List Value} {y : MethodName} {bytes : ByteArray} {ret2 : Option FieldType} (hM : CT G l y bytes maxL2 ret2 d2 mc2 ms2 (.ref b :: as) Wc R2 sh2) (hg : GoodIn lw_all (wsV own index y.cls y (ws_ y bytes maxL2 ret2)))
    (hd : y.cls ≠ "java/lang/invoke/MethodHandle" ∧ y.cls ≠ "java/lang/invoke/VarHandle" ∧ (parseMethodDescriptor y.desc).map (fun d => d.parameters.length) = some n) (hn : as.length = n) (hR : d2 + 1 ≤ d ∧ 16 + (maxL2 + 11) + 100 * d2 ≤ 100 * d) (hw : Ws.flatten = (Wc ++ Wr).flatten)
    (hrc : g_rc G l Ws b y.cls) (hst0 : st0 = as.reverse ++ .ref b :: st) (hst : (st.map fun v => v.category).sum ≤ 16) (hdg : decode cc pc = .ok (.invokevirtual index, 3)) (hf : cells + mc2 ≤ mc ∧ slots + ms2 ≤ ms)
    (k : ∀ (r : Option Value) (u : S2), R2 r u → WF G l cc own nL ret mn d mc ms F (cells + mc2) (slots + ms2) (sh2 u ++ Wr) (pc + 3) lv (r.toList ++ st)) : WF G l cc own nL ret mn d mc ms F cells slots Ws pc lv st0 := by
  refine ww_run (R2 := R2) (Wr := Wr) (a := (Value.ref b :: as).toArray) ?_ k
  intro p e s m args below meth c H locs ls N hS hP hl
  have hK := N.2.2.2.2.2.2.2.2
  exact g_runV (nL := nL) (As := as) (rest := st) ⟨N.1, N.2.1, N.2.2.2.2.1, N.2.2.2.1, N.2.2.1⟩ (hM Wr.flatten) (cwV n N.2.2.1 hg rfl rfl rfl ⟨rfl, hd⟩ ⟨hR.1, (show 8 + (maxL2 + 11) + 100 * d2 ≤ 100 * d by omega)⟩) hR.2 ⟨g_blind, hrc s H locs hK hS hP, fun U hU hW => ⟨rfl, g_pre hK hS hU hW, by rw [hU]; exact hP.of (by rw [hw]; simp)⟩⟩ rfl hn hl.1 hst0 (g_room16 hst) hdg hf
/-- an inherited or overriding method: x is named, y runs, the receiver's class is C -/
theorem ww_callU {S2 : Type} {R2 : Option Value → S2 → Prop} {sh2 : S2 → List va_W} {mc2 ms2 d2 maxL2 n index b : Nat} {Wc Wr : List va_W} {st0 as : List Value} {x y : MethodName} {C owner : String} {bytes : ByteArray} {ret2 : Option FieldType} (hM : CT G l y bytes maxL2 ret2 d2 mc2 ms2 (.ref b :: as) Wc R2 sh2)
    (hcw : ∀ (s : State) (args : Array Value), (∀ w ∈ lw_all, w.before args s = true) → va_CU (g_rm d mc ms) s args own C owner index x y bytes maxL2 ret2 (ws_ y bytes maxL2 ret2) (g_rm d2 mc2 ms2) mc2 ms2 n) (hn : as.length = n) (hw : Ws.flatten = (Wc ++ Wr).flatten)
    (hrc : g_rc G l Ws b C) (hst0 : st0 = as.reverse ++ .ref b :: st) (hst : (st.map fun v => v.category).sum ≤ 8) (hdg : decode cc pc = .ok (.invokevirtual index, 3)) (hf : cells + mc2 ≤ mc ∧ slots + ms2 ≤ ms)
    (k : ∀ (r : Option Value) (u : S2), R2 r u → WF G l cc own nL ret mn d mc ms F (cells + mc2) (slots + ms2) (sh2 u ++ Wr) (pc + 3) lv (r.toList ++ st)) : WF G l cc own nL ret mn d mc ms F cells slots Ws pc lv st0 := by
  refine ww_run (R2 := R2) (Wr := Wr) (a := (Value.ref b :: as).toArray) ?_ k
  intro p e s m args below meth c H locs ls N hS hP hl
  have hK := N.2.2.2.2.2.2.2.2
  exact va_runU (nL := nL) (As := as) (rest := st) ⟨N.1, N.2.1, N.2.2.2.2.1, N.2.2.2.1, N.2.2.1⟩ (hM Wr.flatten) (hcw s args N.2.2.1) ⟨g_blind, hrc s H locs hK hS hP, fun U hU hW => ⟨rfl, g_pre hK hS hU hW, by rw [hU]; exact hP.of (by rw [hw]; simp)⟩⟩ rfl hn hl.1 hst0 (lv_room hst) hdg hf
/-- a private method of a nest mate -/
theorem ww_callVN {S2 : Type} {R2 : Option Value → S2 → Prop} {sh2 : S2 → List va_W} {mc2 ms2 d2 maxL2 n index b : Nat} {Wc Wr : List va_W} {st0 as : List Value} {y : MethodName} {host : String} {bytes : ByteArray} {ret2 : Option FieldType} (hM : CT G l y bytes maxL2 ret2 d2 mc2 ms2 (.ref b :: as) Wc R2 sh2) (hq0 : Cond.methodLinkNest own index y host ∈ lw_tbl) (hq1 : Cond.code y bytes maxL2 ret2 ∈ lw_all) (hq2 : Cond.initialized y.cls ∈ lw_all) (hq3 : Cond.instanceMethod y ∈ lw_all) (hq4 : Cond.selects y.cls y y ∈ lw_all)
    (hd : y.cls ≠ "java/lang/invoke/MethodHandle" ∧ y.cls ≠ "java/lang/invoke/VarHandle" ∧ (parseMethodDescriptor y.desc).map (fun d => d.parameters.length) = some n) (hn : as.length = n) (hR : d2 + 1 ≤ d ∧ 16 + (maxL2 + 11) + 100 * d2 ≤ 100 * d) (hw : Ws.flatten = (Wc ++ Wr).flatten)
    (hrc : g_rc G l Ws b y.cls) (hst0 : st0 = as.reverse ++ .ref b :: st) (hst : (st.map fun v => v.category).sum ≤ 8) (hdg : decode cc pc = .ok (.invokevirtual index, 3)) (hf : cells + mc2 ≤ mc ∧ slots + ms2 ≤ ms)
    (k : ∀ (r : Option Value) (u : S2), R2 r u → WF G l cc own nL ret mn d mc ms F (cells + mc2) (slots + ms2) (sh2 u ++ Wr) (pc + 3) lv (r.toList ++ st)) : WF G l cc own nL ret mn d mc ms F cells slots Ws pc lv st0 := by
  refine ww_run (R2 := R2) (Wr := Wr) (a := (Value.ref b :: as).toArray) ?_ k
  intro p e s m args below meth c H locs ls N hS hP hl
  have hK := N.2.2.2.2.2.2.2.2
  exact va_runVN (nL := nL) (As := as) (rest := st) ⟨N.1, N.2.1, N.2.2.2.2.1, N.2.2.2.1, N.2.2.1⟩ (hM Wr.flatten) ⟨va_cnB n N.2.2.1 (lw_meth hq1) rfl rfl rfl (hK.2.2.1 _ hq0 rfl) (N.2.2.1 _ hq2) hd ⟨hR.1, (show 8 + (maxL2 + 11) + 100 * d2 ≤ 100 * d by omega)⟩, N.2.2.1 _ hq3, N.2.2.1 _ hq4⟩ ⟨g_blind, hrc s H locs hK hS hP, fun U hU hW => ⟨rfl, g_pre hK hS hU hW, by rw [hU]; exact hP.of (by rw [hw]; simp)⟩⟩ rfl hn hl.1 hst0 (lv_room hst) hdg hf
theorem ww_callSN {S2 : Type} {R2 : Option Value → S2 → Prop} {sh2 : S2 → List va_W} {mc2 ms2 d2 maxL2 n index : Nat} {Wc Wr : List va_W} {st0 as : List Value} {y : MethodName} {host : String} {bytes : ByteArray} {ret2 : Option FieldType} (hM : CT G l y bytes maxL2 ret2 d2 mc2 ms2 as Wc R2 sh2) (hq0 : Cond.methodLinkNest own index y host ∈ lw_tbl) (hq1 : Cond.code y bytes maxL2 ret2 ∈ lw_all) (hq2 : Cond.initialized y.cls ∈ lw_all) (hq3 : Cond.static y ∈ lw_all)
    (hd : y.cls ≠ "java/lang/invoke/MethodHandle" ∧ y.cls ≠ "java/lang/invoke/VarHandle" ∧ (parseMethodDescriptor y.desc).map (fun d => d.parameters.length) = some n) (hn : as.length = n) (hR : d2 + 1 ≤ d ∧ 16 + (maxL2 + 11) + 100 * d2 ≤ 100 * d) (hw : Ws.flatten = (Wc ++ Wr).flatten)
    (hst0 : st0 = as.reverse ++ st) (hst : (st.map fun v => v.category).sum ≤ 8) (hdg : decode cc pc = .ok (.invokestatic index, 3)) (hf : cells + mc2 ≤ mc ∧ slots + ms2 ≤ ms)
    (k : ∀ (r : Option Value) (u : S2), R2 r u → WF G l cc own nL ret mn d mc ms F (cells + mc2) (slots + ms2) (sh2 u ++ Wr) (pc + 3) lv (r.toList ++ st)) : WF G l cc own nL ret mn d mc ms F cells slots Ws pc lv st0 := by
  refine ww_run (R2 := R2) (Wr := Wr) (a := as.toArray) ?_ k
  intro p e s m args below meth c H locs ls N hS hP hl
  have hK := N.2.2.2.2.2.2.2.2
  exact va_runSN (nL := nL) (As := as) (rest := st) ⟨N.1, N.2.1, N.2.2.2.2.1, N.2.2.2.1, N.2.2.1⟩ (hM Wr.flatten) ⟨va_cnB n N.2.2.1 (lw_meth hq1) rfl rfl rfl (hK.2.2.1 _ hq0 rfl) (N.2.2.1 _ hq2) hd ⟨hR.1, (show 8 + (maxL2 + 11) + 100 * d2 ≤ 100 * d by omega)⟩, N.2.2.1 _ hq3, trivial⟩ ⟨g_blind, fun U hU hW => ⟨rfl, g_pre hK hS hU hW, by rw [hU]; exact hP.of (by rw [hw]; simp)⟩⟩ rfl hn hl.1 hst0 (lv_room hst) hdg hf
theorem ww_callIN {S2 : Type} {R2 : Option Value → S2 → Prop} {sh2 : S2 → List va_W} {mc2 ms2 d2 maxL2 n index b : Nat} {Wc Wr : List va_W} {st0 as : List Value} {y : MethodName} {host : String} {bytes : ByteArray} (hM : CT G l y bytes maxL2 none d2 mc2 ms2 (.ref b :: as) Wc R2 sh2) (hq0 : Cond.methodLinkNest own index y host ∈ lw_tbl) (hq1 : Cond.code y bytes maxL2 none ∈ lw_all) (hq2 : Cond.initialized y.cls ∈ lw_all) (hq3 : Cond.instanceMethod y ∈ lw_all) (hy : y.name = "<init>")
    (hd : y.cls ≠ "java/lang/invoke/MethodHandle" ∧ y.cls ≠ "java/lang/invoke/VarHandle" ∧ (parseMethodDescriptor y.desc).map (fun d => d.parameters.length) = some n) (hn : as.length = n) (hR : d2 + 1 ≤ d ∧ 16 + (maxL2 + 11) + 100 * d2 ≤ 100 * d) (hw : Ws.flatten = (Wc ++ Wr).flatten)
    (hst0 : st0 = as.reverse ++ .ref b :: st) (hst : (st.map fun v => v.category).sum ≤ 8) (hdg : decode cc pc = .ok (.invokespecial index, 3)) (hf : cells + mc2 ≤ mc ∧ slots + ms2 ≤ ms)
    (k : ∀ (r : Option Value) (u : S2), R2 r u → WF G l cc own nL ret mn d mc ms F (cells + mc2) (slots + ms2) (sh2 u ++ Wr) (pc + 3) lv (r.toList ++ st)) : WF G l cc own nL ret mn d mc ms F cells slots Ws pc lv st0 := by
  refine ww_run (R2 := R2) (Wr := Wr) (a := (Value.ref b :: as).toArray) ?_ k
  intro p e s m args below meth c H locs ls N hS hP hl
  have hK := N.2.2.2.2.2.2.2.2
  exact va_runIN (nL := nL) (As := as) (rest := st) ⟨N.1, N.2.1, N.2.2.2.2.1, N.2.2.2.1, N.2.2.1⟩ (hM Wr.flatten) ⟨va_cnB n N.2.2.1 (lw_meth hq1) rfl rfl rfl (hK.2.2.1 _ hq0 rfl) (N.2.2.1 _ hq2) hd ⟨hR.1, (show 8 + (maxL2 + 11) + 100 * d2 ≤ 100 * d by omega)⟩, hy, N.2.2.1 _ hq3⟩ ⟨g_blind, fun U hU hW => ⟨rfl, g_pre hK hS hU hW, by rw [hU]; exact hP.of (by rw [hw]; simp)⟩⟩ rfl hn hl.1 hst0 (lv_room hst) hdg hf
/-- super.m(..) -/
theorem ww_callSU {S2 : Type} {R2 : Option Value → S2 → Prop} {sh2 : S2 → List va_W} {mc2 ms2 d2 maxL2 n index b ci : Nat} {Wc Wr : List va_W} {st0 as : List Value} {y : MethodName} {C : String} {T : u_T} {Nf : Nat} {bytes : ByteArray} {ret2 : Option FieldType} (hM : CT G l y bytes maxL2 ret2 d2 mc2 ms2 (.ref b :: as) Wc R2 sh2) (hg : GoodIn lw_all (va_wsSU own index y (ws_ y bytes maxL2 ret2)))
    (hci : vwCl[ci]? = some (C, T, Nf)) (hd : y.name ≠ "<init>" ∧ (parseMethodDescriptor y.desc).map (fun d => d.parameters.length) = some n) (hn : as.length = n) (hR : d2 + 1 ≤ d ∧ 16 + (maxL2 + 11) + 100 * d2 ≤ 100 * d) (hw : Ws.flatten = (Wc ++ Wr).flatten)
    (hrc : g_rc G l Ws b C) (hst0 : st0 = as.reverse ++ .ref b :: st) (hst : (st.map fun v => v.category).sum ≤ 8) (hdg : decode cc pc = .ok (.invokespecial index, 3)) (hf : cells + mc2 ≤ mc ∧ slots + ms2 ≤ ms)
    (k : ∀ (r : Option Value) (u : S2), R2 r u → WF G l cc own nL ret mn d mc ms F (cells + mc2) (slots + ms2) (sh2 u ++ Wr) (pc + 3) lv (r.toList ++ st)) : WF G l cc own nL ret mn d mc ms F cells slots Ws pc lv st0 := by
  refine ww_run (R2 := R2) (Wr := Wr) (a := (Value.ref b :: as).toArray) ?_ k
  intro p e s m args below meth c H locs ls N hS hP hl
  have hK := N.2.2.2.2.2.2.2.2
  exact va_runSU (nL := nL) (As := as) (rest := st) (hK.1.1 ci _ hci).2 ⟨N.1, N.2.1, N.2.2.2.2.1, N.2.2.2.1, N.2.2.1⟩ (hM Wr.flatten) (va_cwSU n N.2.2.1 hg rfl rfl rfl hd ⟨hR.1, (show 8 + (maxL2 + 11) + 100 * d2 ≤ 100 * d by omega)⟩) ⟨g_blind, hrc s H locs hK hS hP, fun U hU hW => ⟨rfl, g_pre hK hS hU hW, by rw [hU]; exact hP.of (by rw [hw]; simp)⟩⟩ rfl hn hl.1 hst0 (lv_room hst) hdg hf
/-- through an interface -/
theorem ww_callF {S2 : Type} {R2 : Option Value → S2 → Prop} {sh2 : S2 → List va_W} {mc2 ms2 d2 maxL2 n index count b ci : Nat} {Wc Wr : List va_W} {st0 as : List Value} {x y : MethodName} {C : String} {T : u_T} {Nf : Nat} {bytes : ByteArray} {ret2 : Option FieldType} (hM : CT G l y bytes maxL2 ret2 d2 mc2 ms2 (.ref b :: as) Wc R2 sh2) (hg : GoodIn lw_all (va_wsF own index C x y (ws_ y bytes maxL2 ret2))) (hfw : (C, x, y) ∈ g_fw)
    (hci : vwCl[ci]? = some (C, T, Nf)) (hd : x.cls ≠ "java/lang/invoke/MethodHandle" ∧ x.cls ≠ "java/lang/invoke/VarHandle" ∧ (parseMethodDescriptor x.desc).map (fun d => d.parameters.length) = some n) (hn : as.length = n) (hR : d2 + 1 ≤ d ∧ 16 + (maxL2 + 11) + 100 * d2 ≤ 100 * d) (hw : Ws.flatten = (Wc ++ Wr).flatten)
    (hrc : g_rc G l Ws b C) (hst0 : st0 = as.reverse ++ .ref b :: st) (hst : (st.map fun v => v.category).sum ≤ 8) (hdg : decode cc pc = .ok (.invokeinterface index count, 5)) (hf : cells + mc2 ≤ mc ∧ slots + ms2 ≤ ms)
    (k : ∀ (r : Option Value) (u : S2), R2 r u → WF G l cc own nL ret mn d mc ms F (cells + mc2) (slots + ms2) (sh2 u ++ Wr) (pc + 5) lv (r.toList ++ st)) : WF G l cc own nL ret mn d mc ms F cells slots Ws pc lv st0 := by
  intro p e s m args below meth c H locs ls N hS hP hl
  have hK := N.2.2.2.2.2.2.2.2
  have run := va_runF (nL := nL) (As := as) (rest := st) (g := F0 m pc ls st0) (cells := cells) (slots := slots) (locs := locs) (H := H) (below := below) (R := g_rm d mc ms) (e := e) (meth := meth) (hK.1.1 ci _ hci).2 ⟨N.1, N.2.1, N.2.2.2.2.1, N.2.2.2.1, N.2.2.1⟩ (hM Wr.flatten) (va_cwF n N.2.2.1 hg rfl rfl rfl (hK.2.2.2.1.2.2.2.2.2.2.2.2.2.2 _ hfw) hd ⟨hR.1, (show 8 + (maxL2 + 11) + 100 * d2 ≤ 100 * d by omega)⟩) ⟨g_blind, hrc s H locs hK hS hP, fun U hU hW => ⟨rfl, g_pre hK hS hU hW, by rw [hU]; exact hP.of (by rw [hw]; simp)⟩⟩ rfl hn hl.1 hst0 (lv_room hst) hdg hf
  intro T hT X
  obtain ⟨v, st₀, t, T', L, h0, X', hL, e1, e2, ⟨⟨r, u, hv, hR, hP1⟩, hz, hk⟩, go⟩ := run T hT X
  cases hv
  rw [h0] at hz hk
  have hP2 : g_P G (sh2 u ++ Wr) T'.heap := by
    rw [e1]
    exact hP1.of (by simp)
  have hS2 : va_S (g_A G) s.heap T'.heap (locs ++ L) := ⟨Nat.le_trans hS.1 (by rw [e1]; exact hz), fun q h1 h2 => by rw [e1, hk q (Nat.lt_of_lt_of_le h1 hS.1) h2]; exact hS.2.1 q h1 h2, fun q hq => by
    rcases List.mem_append.mp hq with h | h
    · exact hS.2.2 q h
    · exact hL q h⟩
  obtain ⟨t2, a1, b1⟩ := k v u hR p e s m args below meth c T'.heap (locs ++ L) ls N hS2 hP2 hl T' rfl X'
  exact ⟨t2, go t2 a1, b1⟩
end CROWS
/-- a contract over the moving heap -/
def CM (G : g_G) (l : Launch) (y : MethodName) (cc : ByteArray) (nL : Nat) (ret : Option FieldType) (d mc ms : Nat) (as : List Value) (μ : HM) (R : Option Value → HM → Prop) : Prop :=
  ∀ ws, Mrep G ws μ → CT G l y cc nL ret d mc ms as [ws] (fun r (u : va_W × HM) => Mrep G u.1 u.2 ∧ R r u.2) (fun u => [u.1])
/-- a contract that asks and changes nothing of the heap -/
def CN (G : g_G) (l : Launch) (y : MethodName) (cc : ByteArray) (nL : Nat) (ret : Option FieldType) (d mc ms : Nat) (as : List Value) (R : Option Value → Prop) : Prop :=
  CT G l y cc nL ret d mc ms as [] (fun r (_ : Unit) => R r) (fun _ => [])
theorem wm_rc {G : g_G} {l : Launch} {ws fr : va_W} {μ : HM} {b ci : Nat} {C : String} {T : u_T} {Nf : Nat} (hM : Mrep G ws μ) (hg : gC μ b = some ci) (hc : vwCl[ci]? = some (C, T, Nf)) : g_rc G l [ws, fr] b C := by
  intro s H locs hK hS hP
  unfold gC at hg
  split at hg
  · rename_i c fi fq he
    cases hg
    obtain ⟨j, hj⟩ := hM.at (c := hO ci fi fq) he trivial
    obtain ⟨q0, h1, -⟩ := flat_at (Ws := [ws, fr]) (k := 0) rfl hj
    exact va_recv hK.1 hP.1 hc h1
  · rename_i i x he
    split at hg
    · rename_i hi
      cases hg
      obtain ⟨ha, -⟩ := hM _ _ he
      subst ha
      obtain ⟨i, rfl⟩ : ∃ z, i = 10 + z := ⟨i - 10, by omega⟩
      have h22 : C = "java/lang/String" := by
        have e : vwCl[22]? = some (RJ7, TJ7, 4) := rfl
        rw [e] at hc
        cases hc
        rfl
      subst h22
      exact vk_recv (i := i) hK.2.2.2.1.2.2.2.2.2.1 (by omega) hS
    · cases hg
  · cases hg
