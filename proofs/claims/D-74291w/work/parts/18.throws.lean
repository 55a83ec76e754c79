/-! EXCEPTIONS over the clean layer -/
set_option maxRecDepth 100000
/-- how a method ends by throwing: the cell thrown, its class, the world -/
def gx {SX : Type} (G : g_G) (X : Nat → String → SX → Prop) (shX : SX → List va_W) : Addr → String → State → State → Prop := fun q E st t => ∃ u : SX, X q E u ∧ g_P G (shX u) t.heap ∧ va_F (g_A G) st t
def gFX {S SX : Type} (G : g_G) (R : Option Value → S → Prop) (sh : S → List va_W) (X : Nat → String → SX → Prop) (shX : SX → List va_W) (mc ms : Nat) (tb : List ExceptionTableEntry) : g_F := (fun below args s => vx_MQ below (g_Q G R sh) (gx G X shX) args s mc ms (g_A G), fun c => c.exceptionTable.toList = tb)
/-- unwinding: q of class E is on its way out at pc -/
def WU (G : g_G) (l : Launch) (cc : ByteArray) (own : String) (nL : Nat) (ret : Option FieldType) (mn : String) (d mc ms : Nat) (F : g_F) (cells slots : Nat) (Ws : List va_W) (pc : Nat) (lv : List (Nat × Value)) (st : List Value) (q : Nat) (E : String) : Prop :=
  ∀ (p : Program) (e : Env) (s : State) (m : MethodId) (args : Array Value) (below : List Frame) (meth : Method) (c : Code) (H : Heap) (locs : List Loc) (ls : Array Slot),
    g_N G l cc own nL ret mn F.2 p s m args meth c → va_S (g_A G) s.heap H locs → g_P G Ws H → lv_has ls nL lv → (∃ ce : Cell, H[q]? = some ce ∧ ce.vm = .none ∧ s.vm.findClass E = some ce.cls) →
    vx_W p l e (g_rm d mc ms) s m args below meth c H locs cells slots (F.1 below args s) (F0 m pc ls st) q
/-- contracts of methods that may throw; of those with handlers -/
def CX {S SX : Type} (G : g_G) (l : Launch) (y : MethodName) (cc : ByteArray) (nL : Nat) (ret : Option FieldType) (d mc ms : Nat) (args : List Value) (Ws : List va_W) (R : Option Value → S → Prop) (sh : S → List va_W) (X : Nat → String → SX → Prop) (shX : SX → List va_W) : Prop :=
  ∀ fr : va_W, vx_Met l y (ws_ y cc nL ret) (g_rm d mc ms) (va_Pc args (fun U => g_K G l U ∧ g_P G (Ws ++ [fr]) U.heap)) (g_Q G R (fun u => sh u ++ [fr])) (gx G X (fun u => shX u ++ [fr])) mc ms (g_A G)
def CXH {S SX : Type} (G : g_G) (l : Launch) (y : MethodName) (cc : ByteArray) (nL : Nat) (ret : Option FieldType) (hh : List (Nat × Nat × Nat × Nat)) (d mc ms : Nat) (args : List Value) (Ws : List va_W) (R : Option Value → S → Prop) (sh : S → List va_W) (X : Nat → String → SX → Prop) (shX : SX → List va_W) : Prop :=
  ∀ fr : va_W, vx_Met l y (wsW_ y cc nL ret hh) (g_rm d mc ms) (va_Pc args (fun U => g_K G l U ∧ g_P G (Ws ++ [fr]) U.heap)) (g_Q G R (fun u => sh u ++ [fr])) (gx G X (fun u => shX u ++ [fr])) mc ms (g_A G)
section XROWS
variable {S SX : Type} {G : g_G} {l : Launch} {cc : ByteArray} {own : String} {nL : Nat} {ret : Option FieldType} {mn : String} {d mc ms : Nat} {R : Option Value → S → Prop} {sh : S → List va_W} {X : Nat → String → SX → Prop} {shX : SX → List va_W} {tb : List ExceptionTableEntry} {F : g_F} {cells slots : Nat} {Ws : List va_W} {pc : Nat} {lv : List (Nat × Value)} {st : List Value}
theorem wx_lift (k : WW G l cc own nL ret mn d mc ms R sh cells slots Ws pc lv st) : WF G l cc own nL ret mn d mc ms (gFX G R sh X shX mc ms tb) cells slots Ws pc lv st := by
  intro p e s m args below meth c H locs ls N hS hP hl
  obtain ⟨n1, n2, n3, n4, n5, n6, n7, ⟨n8, -⟩, n9⟩ := N
  exact vx_ret (k p e s m args below meth c H locs ls ⟨n1, n2, n3, n4, n5, n6, n7, ⟨n8, trivial⟩, n9⟩ hS hP hl)
theorem wx_of {y : MethodName} {as : List Value} (hy : plainName y.cls = true) (hlen : (lg_sl as).length ≤ nL) (body : ∀ fr : va_W, WF G l cc y.cls nL ret y.name d mc ms (gFX G R (fun u => sh u ++ [fr]) X (fun u => shX u ++ [fr]) mc ms []) 0 0 (Ws ++ [fr]) 0 (lv_args 0 as) []) : CX G l y cc nL ret d mc ms as Ws R sh X shX := by
  intro fr
  refine vx_ofW (cc := cc) (maxL := nL) (ret := ret) hy rfl ?_
  intro p e s m args below meth c s₁ B hml htb hv
  obtain ⟨rfl, hK, hP⟩ := hv
  have hts := atoms_spec (ws := ws_ y cc nL ret) B.pre
  have hts : ∀ w ∈ lw_all, w.before _ s = true := fun w h => hts w (List.mem_cons_of_mem _ h)
  have hown : s.vm.findClass y.cls = some m.cls := findClass_of_methodNamed B.named
  have hl := lv_entry as hlen
  rw [lg_entry_eq]
  exact body fr p e s m _ below meth c s.heap [] _ ⟨B.exec, B.bytes, hts, hown, hml, B.returns, B.notSynchronized, ⟨(name_of_methodNamed B.named B.method).1, List.eq_nil_iff_forall_not_mem.mpr htb⟩, hK⟩ va_S.rf hP hl
theorem wx_ofH {y : MethodName} {as : List Value} {hh : List (Nat × Nat × Nat × Nat)} (hy : plainName y.cls = true) (hlen : (lg_sl as).length ≤ nL) (body : ∀ fr : va_W, WF G l cc y.cls nL ret y.name d mc ms (gFX G R (fun u => sh u ++ [fr]) X (fun u => shX u ++ [fr]) mc ms (tableOf hh)) 0 0 (Ws ++ [fr]) 0 (lv_args 0 as) []) : CXH G l y cc nL ret hh d mc ms as Ws R sh X shX := by
  intro fr
  refine vx_ofWH (cc := cc) (maxL := nL) (ret := ret) (hh := hh) hy rfl ?_
  intro p e s m args below meth c s₁ B hml hv
  obtain ⟨rfl, hK, hP⟩ := hv
  have hts0 := atoms_spec (ws := wsW_ y cc nL ret hh) B.pre
  have hts : ∀ w ∈ lw_all, w.before _ s = true := fun w h => hts0 w (List.mem_cons_of_mem _ h)
  have hown : s.vm.findClass y.cls = some m.cls := findClass_of_methodNamed B.named
  have hl := lv_entry as hlen
  rw [lg_entry_eq]
  exact body fr p e s m _ below meth c s.heap [] _ ⟨B.exec, B.bytes, hts, hown, hml, B.returns, B.notSynchronized, ⟨(name_of_methodNamed B.named B.method).1, vx_table (x := y) B (hts0 _ List.mem_cons_self)⟩, hK⟩ va_S.rf hP hl
/-- throw -/
theorem wx_athrow {ws fr : va_W} {μ : HM} {q ci : Nat} {o : Option Nat} {fi : Nat → Int} {fq : Nat → Option Nat} {C : String} {T : u_T} {Nf : Nat} (hM : Mrep G ws μ) (ho : o = some q) (hμ : μ q = some (hO ci fi fq)) (hc : vwCl[ci]? = some (C, T, Nf)) (hdg : decode cc pc = .ok (.athrow, 1)) (k : WU G l cc own nL ret mn d mc ms F cells slots [ws, fr] pc lv st q C) : WF G l cc own nL ret mn d mc ms F cells slots [ws, fr] pc lv (va_rf o :: st) := by
  subst ho
  intro p e s m args below meth c H locs ls N hS hP hl
  have hK := N.2.2.2.2.2.2.2.2
  obtain ⟨j, hj⟩ := hM.at hμ trivial
  obtain ⟨q0, e0, -⟩ := flat_at (Ws := [ws, fr]) (k := 0) rfl hj
  obtain ⟨r, hr, cell, g1, g2, g3, -⟩ := hP.1 q0 _ e0
  cases hc.symm.trans hr
  have hcls := (hK.1.1 ci _ hc).2.1
  exact vx_athrow N.1 N.2.1 hdg (k p e s m args below meth c H locs ls N hS hP hl ⟨cell, g1, g3, by rw [g2]; exact hcls⟩)
/-- it leaves the method -/
theorem wx_out {q : Nat} {E : String} (htb : ∀ z ∈ tb, covers z pc = false) (u : SX) (hX : X q E u) (hw : Ws.flatten = (shX u).flatten) (hc : cells ≤ mc) (hs : slots ≤ ms) : WU G l cc own nL ret mn d mc ms (gFX G R sh X shX mc ms tb) cells slots Ws pc lv st q E := by
  intro p e s m args below meth c H locs ls N hS hP hl hce
  obtain ⟨ce, h1, h2, h3⟩ := hce
  have hZ : c.exceptionTable.toList = tb := N.2.2.2.2.2.2.2.1.2
  exact vx_out (by rw [hZ]; exact htb) N.2.2.2.2.2.2.1 h1 h2 h3 (fun t ht _ => ⟨u, hX, by rw [ht]; exact hP.of hw, hS.F ht⟩) hS.2.2 hc hs
/-- a handler takes it -/
theorem wx_catch {q : Nat} {E name : String} {x : ExceptionTableEntry} (hx : covers x pc = true) (h0 : x.catchType ≠ 0) (hlink : Cond.classLink own x.catchType name ∈ lw_all) (hcast : Cond.castable E name ∈ lw_tbl) (k : WF G l cc own nL ret mn d mc ms (gFX G R sh X shX mc ms [x]) cells slots Ws x.handlerPc lv [va_rf (some q)]) : WU G l cc own nL ret mn d mc ms (gFX G R sh X shX mc ms [x]) cells slots Ws pc lv st q E := by
  intro p e s m args below meth c H locs ls N hS hP hl hce
  obtain ⟨ce, h1, h2, h3⟩ := hce
  have hZ : c.exceptionTable.toList = [x] := N.2.2.2.2.2.2.2.1.2
  exact vx_catch N.2.2.2.1 [] x [] hZ (fun z hz => nomatch hz) hx h0 (N.2.2.1 _ hlink) (va_Nw.use rfl (N.2.2.2.2.2.2.2.2.2.2.1 _ hcast rfl)) h1 h2 h3 (k p e s m args below meth c H locs ls N hS hP hl)
/-- calls of what may throw -/
theorem wx_run {S2 SX2 : Type} {R2 : Option Value → S2 → Prop} {sh2 : S2 → List va_W} {X2 : Nat → String → SX2 → Prop} {shX2 : SX2 → List va_W} {mc2 ms2 : Nat} {Wr : List va_W} {st0 : List Value} {a : Array Value}
    (hr : ∀ (p : Program) (e : Env) (s : State) (m : MethodId) (args : Array Value) (below : List Frame) (meth : Method) (c : Code) (H : Heap) (locs : List Loc) (ls : Array Slot), g_N G l cc own nL ret mn F.2 p s m args meth c → va_S (g_A G) s.heap H locs → g_P G Ws H → lv_has ls nL lv →
      vx_Run p l e (g_rm d mc ms) s m args below meth c H locs cells slots mc2 ms2 (F0 m pc ls st0) st (g_Q G R2 (fun u => sh2 u ++ [Wr.flatten]) a) (gx G X2 (fun u => shX2 u ++ [Wr.flatten])) (g_A G))
    (kx : ∀ (q : Nat) (E : String) (u : SX2), X2 q E u → WU G l cc own nL ret mn d mc ms F (cells + mc2) (slots + ms2) (shX2 u ++ Wr) pc lv st q E)
    (k : ∀ (r : Option Value) (u : S2), R2 r u → WF G l cc own nL ret mn d mc ms F (cells + mc2) (slots + ms2) (sh2 u ++ Wr) (pc + 3) lv (r.toList ++ st)) : WF G l cc own nL ret mn d mc ms F cells slots Ws pc lv st0 := by
  intro p e s m args below meth c H locs ls N hS hP hl
  intro T hT X
  have keep : ∀ (T' : State) (t : State) (L : List Loc), T'.heap = t.heap → H.size ≤ t.heap.size → (∀ q : Nat, q < H.size → ¬ g_A G q → t.heap[q]? = H[q]?) → (∀ q ∈ L, g_A G q.base) → va_S (g_A G) s.heap T'.heap (locs ++ L) := by
    intro T' t L e1 hz hk hL
    exact ⟨Nat.le_trans hS.1 (by rw [e1]; exact hz), fun q h1 h2 => by rw [e1, hk q (Nat.lt_of_lt_of_le h1 hS.1) h2]; exact hS.2.1 q h1 h2, fun q hq => by
      rcases List.mem_append.mp hq with h | h
      · exact hS.2.2 q h
      · exact hL q h⟩
  rcases hr p e s m args below meth c H locs ls N hS hP hl T hT X with ⟨v, st₀, t, T', L, h0, X', hL, e1, e2, ⟨⟨r, u, hv, hR, hP1⟩, hz, hk⟩, go⟩ | ⟨q, st₀, t, T', L, E, ce, h0, X', hL, e1, e2, ⟨u, hX, hP1, hz, hk⟩, hce, hcv, hcc, go⟩
  · cases hv
    rw [h0] at hz hk
    have hP2 : g_P G (sh2 u ++ Wr) T'.heap := by rw [e1]; exact hP1.of (by simp)
    obtain ⟨t2, a1, b1⟩ := k v u hR p e s m args below meth c T'.heap (locs ++ L) ls N (keep T' t L e1 hz hk hL) hP2 hl T' rfl X'
    exact ⟨t2, go t2 a1, b1⟩
  · rw [h0] at hz hk
    have hP2 : g_P G (shX2 u ++ Wr) T'.heap := by rw [e1]; exact hP1.of (by simp)
    obtain ⟨t2, a1, b1⟩ := kx q E u hX p e s m args below meth c T'.heap (locs ++ L) ls N (keep T' t L e1 hz hk hL) hP2 hl ⟨ce, by rw [e1]; exact hce, hcv, hcc⟩ T' rfl X'
    exact ⟨t2, go.trans a1, b1⟩
theorem wx_callV {S2 SX2 : Type} {R2 : Option Value → S2 → Prop} {sh2 : S2 → List va_W} {X2 : Nat → String → SX2 → Prop} {shX2 : SX2 → List va_W} {mc2 ms2 d2 maxL2 n index b : Nat} {Wc Wr : List va_W} {st0 as : List Value} {y : MethodName} {bytes : ByteArray} {ret2 : Option FieldType} (hM : CX G l y bytes maxL2 ret2 d2 mc2 ms2 (.ref b :: as) Wc R2 sh2 X2 shX2) (hg : GoodIn lw_all (wsV own index y.cls y (ws_ y bytes maxL2 ret2)))
    (hd : y.cls ≠ "java/lang/invoke/MethodHandle" ∧ y.cls ≠ "java/lang/invoke/VarHandle" ∧ (parseMethodDescriptor y.desc).map (fun d => d.parameters.length) = some n) (hn : as.length = n) (hR : d2 + 1 ≤ d ∧ 16 + (maxL2 + 11) + 100 * d2 ≤ 100 * d) (hw : Ws.flatten = (Wc ++ Wr).flatten)
    (hrc : g_rc G l Ws b y.cls) (hst0 : st0 = as.reverse ++ .ref b :: st) (hst : (st.map fun v => v.category).sum ≤ 8) (hdg : decode cc pc = .ok (.invokevirtual index, 3)) (hf : cells + mc2 ≤ mc ∧ slots + ms2 ≤ ms)
    (kx : ∀ (q : Nat) (E : String) (u : SX2), X2 q E u → WU G l cc own nL ret mn d mc ms F (cells + mc2) (slots + ms2) (shX2 u ++ Wr) pc lv st q E)
    (k : ∀ (r : Option Value) (u : S2), R2 r u → WF G l cc own nL ret mn d mc ms F (cells + mc2) (slots + ms2) (sh2 u ++ Wr) (pc + 3) lv (r.toList ++ st)) : WF G l cc own nL ret mn d mc ms F cells slots Ws pc lv st0 := by
  refine wx_run (R2 := R2) (X2 := X2) (shX2 := shX2) (Wr := Wr) (a := (Value.ref b :: as).toArray) ?_ kx k
  intro p e s m args below meth c H locs ls N hS hP hl
  have hK := N.2.2.2.2.2.2.2.2
  exact vx_runV (nL := nL) (As := as) (rest := st) ⟨N.1, N.2.1, N.2.2.2.2.1, N.2.2.2.1, N.2.2.1⟩ (hM Wr.flatten) (cwV n N.2.2.1 hg rfl rfl rfl ⟨rfl, hd⟩ ⟨hR.1, (show 8 + (maxL2 + 11) + 100 * d2 ≤ 100 * d by omega)⟩) ⟨g_blind, hrc s H locs hK hS hP, fun U hU hW => ⟨rfl, g_pre hK hS hU hW, by rw [hU]; exact hP.of (by rw [hw]; simp)⟩⟩ rfl hn hl.1 hst0 (lv_room hst) hdg hf
theorem wx_callVH {S2 SX2 : Type} {R2 : Option Value → S2 → Prop} {sh2 : S2 → List va_W} {X2 : Nat → String → SX2 → Prop} {shX2 : SX2 → List va_W} {hh : List (Nat × Nat × Nat × Nat)} {mc2 ms2 d2 maxL2 n index b : Nat} {Wc Wr : List va_W} {st0 as : List Value} {y : MethodName} {bytes : ByteArray} {ret2 : Option FieldType} (hM : CXH G l y bytes maxL2 ret2 hh d2 mc2 ms2 (.ref b :: as) Wc R2 sh2 X2 shX2) (hg : GoodIn lw_all (wsV own index y.cls y (wsW_ y bytes maxL2 ret2 hh)))
    (hd : y.cls ≠ "java/lang/invoke/MethodHandle" ∧ y.cls ≠ "java/lang/invoke/VarHandle" ∧ (parseMethodDescriptor y.desc).map (fun d => d.parameters.length) = some n) (hn : as.length = n) (hR : d2 + 1 ≤ d ∧ 16 + (maxL2 + 11) + 100 * d2 ≤ 100 * d) (hw : Ws.flatten = (Wc ++ Wr).flatten)
    (hrc : g_rc G l Ws b y.cls) (hst0 : st0 = as.reverse ++ .ref b :: st) (hst : (st.map fun v => v.category).sum ≤ 8) (hdg : decode cc pc = .ok (.invokevirtual index, 3)) (hf : cells + mc2 ≤ mc ∧ slots + ms2 ≤ ms)
    (kx : ∀ (q : Nat) (E : String) (u : SX2), X2 q E u → WU G l cc own nL ret mn d mc ms F (cells + mc2) (slots + ms2) (shX2 u ++ Wr) pc lv st q E)
    (k : ∀ (r : Option Value) (u : S2), R2 r u → WF G l cc own nL ret mn d mc ms F (cells + mc2) (slots + ms2) (sh2 u ++ Wr) (pc + 3) lv (r.toList ++ st)) : WF G l cc own nL ret mn d mc ms F cells slots Ws pc lv st0 := by
  refine wx_run (R2 := R2) (X2 := X2) (shX2 := shX2) (Wr := Wr) (a := (Value.ref b :: as).toArray) ?_ kx k
  intro p e s m args below meth c H locs ls N hS hP hl
  have hK := N.2.2.2.2.2.2.2.2
  exact vx_runVX (nL := nL) (As := as) (rest := st) ⟨N.1, N.2.1, N.2.2.2.2.1, N.2.2.2.1, N.2.2.1⟩ (hM Wr.flatten) (vx_cwVW n N.2.2.1 hg rfl rfl rfl ⟨rfl, hd⟩ ⟨hR.1, (show 8 + (maxL2 + 11) + 100 * d2 ≤ 100 * d by omega)⟩) ⟨g_blind, hrc s H locs hK hS hP, fun U hU hW => ⟨rfl, g_pre hK hS hU hW, by rw [hU]; exact hP.of (by rw [hw]; simp)⟩⟩ rfl hn hl.1 hst0 (lv_room hst) hdg hf
theorem wx_callSH {S2 SX2 : Type} {R2 : Option Value → S2 → Prop} {sh2 : S2 → List va_W} {X2 : Nat → String → SX2 → Prop} {shX2 : SX2 → List va_W} {hh : List (Nat × Nat × Nat × Nat)} {mc2 ms2 d2 maxL2 n index : Nat} {Wc Wr : List va_W} {st0 as : List Value} {y : MethodName} {bytes : ByteArray} {ret2 : Option FieldType} (hM : CXH G l y bytes maxL2 ret2 hh d2 mc2 ms2 as Wc R2 sh2 X2 shX2) (hg : GoodIn lw_all (va_wsS own index y (wsW_ y bytes maxL2 ret2 hh)))
    (hd : y.cls ≠ "java/lang/invoke/MethodHandle" ∧ y.cls ≠ "java/lang/invoke/VarHandle" ∧ (parseMethodDescriptor y.desc).map (fun d => d.parameters.length) = some n) (hn : as.length = n) (hR : d2 + 1 ≤ d ∧ 16 + (maxL2 + 11) + 100 * d2 ≤ 100 * d) (hw : Ws.flatten = (Wc ++ Wr).flatten)
    (hst0 : st0 = as.reverse ++ st) (hst : (st.map fun v => v.category).sum ≤ 8) (hdg : decode cc pc = .ok (.invokestatic index, 3)) (hf : cells + mc2 ≤ mc ∧ slots + ms2 ≤ ms)
    (kx : ∀ (q : Nat) (E : String) (u : SX2), X2 q E u → WU G l cc own nL ret mn d mc ms F (cells + mc2) (slots + ms2) (shX2 u ++ Wr) pc lv st q E)
    (k : ∀ (r : Option Value) (u : S2), R2 r u → WF G l cc own nL ret mn d mc ms F (cells + mc2) (slots + ms2) (sh2 u ++ Wr) (pc + 3) lv (r.toList ++ st)) : WF G l cc own nL ret mn d mc ms F cells slots Ws pc lv st0 := by
  refine wx_run (R2 := R2) (X2 := X2) (shX2 := shX2) (Wr := Wr) (a := as.toArray) ?_ kx k
  intro p e s m args below meth c H locs ls N hS hP hl
  have hK := N.2.2.2.2.2.2.2.2
  exact vx_runSX (nL := nL) (As := as) (rest := st) ⟨N.1, N.2.1, N.2.2.2.2.1, N.2.2.2.1, N.2.2.1⟩ (hM Wr.flatten) (vx_cwSW n N.2.2.1 hg rfl rfl rfl hd ⟨hR.1, (show 8 + (maxL2 + 11) + 100 * d2 ≤ 100 * d by omega)⟩) ⟨g_blind, fun U hU hW => ⟨rfl, g_pre hK hS hU hW, by rw [hU]; exact hP.of (by rw [hw]; simp)⟩⟩ rfl hn hl.1 hst0 (lv_room hst) hdg hf
/-- the words of the machine's own throws -/
theorem g_npeW : ∀ w ∈ vx_atN 8, w ∈ lw_tbl := by
  have h : (vx_atN 8).all (fun w => decide (w ∈ lw_tbl)) = true := by decide +kernel
  exact fun w hw => of_decide_eq_true (List.all_eq_true.mp h w hw)
theorem g_npeO : ∀ w ∈ vx_atN 8, vx_ot w = true := by
  have h : (vx_atN 8).all (fun w => vx_ot w) = true := by decide +kernel
  exact fun w hw => List.all_eq_true.mp h w hw
theorem g_word {G : g_G} {l : Launch} {s : State} {args : Array Value} {w : Cond} (hts : ∀ w ∈ lw_all, w.before args s = true) (hnw : g_nw s) (hw : w ∈ lw_tbl) (hk : goodWord w = true ∨ (g_nwK w = true ∧ w.onTables = true)) : w.before args s = true := by
  rcases hk with h | ⟨h, h2⟩
  · exact hts w (lw_g hw h)
  · exact va_Nw.use h2 (hnw w hw h)
theorem g_npeK : ∀ w ∈ vx_atN 8, goodWord w = true ∨ (g_nwK w = true ∧ w.onTables = true) := by
  have h : (vx_atN 8).all (fun w => goodWord w || (g_nwK w && w.onTables)) = true := by decide +kernel
  intro w hw
  have := List.all_eq_true.mp h w hw
  simpa [Bool.or_eq_true, Bool.and_eq_true] using this
/-- a field of null is asked for -/
theorem wx_getN {ref C : String} {T : u_T} {Nf ci index : Nat} {o : Option Nat} (ho : o = none) (hin : ∀ w ∈ u_ws C T Nf, w ∈ lw_all) (hc : vwCl[ci]? = some (C, T, Nf)) (f : Nat) (hf : f < Nf) (hlink : Cond.fieldLink own index ref (T f).2.1 (T f).2.2.1 ∈ lw_all) (hsame : ∀ (s : State) x, s.fieldFound? (T f).1 (T f).2.1 (T f).2.2.1 = some x → s.fieldFound? ref (T f).2.1 (T f).2.2.1 = some x) (hd : 8 ≤ d) (hd2 : 10300 ≤ 100 * d) (hst : (st.map fun v => v.category).sum ≤ 8) (hcl : cells + 1 ≤ mc) (hsl : slots + 8 ≤ ms) (hdg : decode cc pc = .ok (.getfield index, 3)) (k : ∀ q : Nat, WU G l cc own nL ret mn d mc ms F (cells + 1) (slots + 8) Ws pc lv st q "java/lang/NullPointerException") : WF G l cc own nL ret mn d mc ms F cells slots Ws pc lv (va_rf o :: st) := by
  subst ho
  intro p e s m args below meth c H locs ls N hS hP hl
  have hK := N.2.2.2.2.2.2.2.2
  have hfl : l.stackTraces = false := by
    unfold Launch.stackTraces
    rw [hK.2.2.2.2.1]
    decide +kernel
  refine vx_getfN N.1 N.2.1 N.2.2.1 hin N.2.2.2.1 hK.1 hc f hf (N.2.2.1 _ hlink) (hsame s) hdg ?_
  refine vx_npe (nb := 8) N.1 hfl (fun w hw => g_word (G := G) (l := l) N.2.2.1 hK.2.2.1 (g_npeW w hw) (g_npeK w hw)) g_npeO (hK.2.2.2.1.2.1 ("java/lang/Throwable", "UNASSIGNED_STACK", "[Ljava/lang/StackTraceElement;") (by decide)) (hK.2.2.2.1.2.1 ("java/lang/Throwable", "SUPPRESSED_SENTINEL", "Ljava/util/List;") (by decide)) hS (hl.1.trans N.2.2.2.2.1.symm) (show 7 < d by omega) (show (st.map fun v => v.category).sum + 10240 ≤ 100 * d by omega) hcl hsl N.2.2.2.2.2.2.1 (fun H1 q9 ce hz hq hS1 h1 h2 h3 => ?_)
  have hP1 : g_P G Ws H1 := ⟨fun k2 q2 hk2 => (hP.1 k2 q2 hk2).kept (hq _ (hP.1 k2 q2 hk2).lt), hP.2⟩
  exact k q9 p e s m args below meth c H1 locs ls N hS1 hP1 hl ⟨ce, h1, h2, h3⟩
end XROWS
