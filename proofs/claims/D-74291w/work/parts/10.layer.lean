/-! THE CLEAN LAYER: one judgement WW over the world's items, with the machine's context bound away; whole numbers as Int -/
set_option maxRecDepth 100000
/-- all classes of which objects stand in the worlds -/
abbrev vwCl : List vw_C := [(RX5, TX5, 44), (RX1, TX1, 8), (RX2, TX2, 5), (RX3, TX3, 3), (RX4, TX4, 3), (RX6, TX6, 11), (RX7, TX7, 7), (RX9, TX9, 4), (RX11, TX11, 3), (RX12, TX12, 3), (RX13, TX13, 4), (RX10, TX10, 3), (RX14, TX14, 3), (RX16, TX16, 4), (RX17, TX17, 4), (RX18, TX18, 4), (RX19, TX19, 5), (RX20, TX20, 3), (RJ2, TJ2, 3), (RJ4, TJ4, 9), (RJ22, TJ22, 6), (RJ6, TJ6, 4), (RJ7, TJ7, 4), (RJ25, TJ25, 4), (RJ27, TJ27, 4), (RJ24, TJ24, 6), (RJ18, TJ18, 8), ("java/util/NoSuchElementException", TJ24, 0)]
/-- what is fixed for a whole run: classes' numbers and slots, array classes, the first address of ours, addresses of constants, what else is known -/
abbrev g_G : Type := va_G × (Nat → ClassId) × Nat × (Nat → Nat) × (State → Prop)
abbrev g_D (G : g_G) : va_G := G.1
abbrev g_k (G : g_G) : Nat → ClassId := G.2.1
abbrev g_b (G : g_G) : Nat := G.2.2.1
abbrev g_ad (G : g_G) : Nat → Nat := G.2.2.2.1
abbrev g_Y (G : g_G) : State → Prop := G.2.2.2.2
def g_A (G : g_G) : Nat → Prop := fun q => g_b G ≤ q
abbrev g_tys (G : g_G) : List (ClassId × FieldType) := [(g_k G 0, .int), (g_k G 1, .long), (g_k G 2, .byte), (g_k G 3, .boolean), (g_k G 4, .object "java/lang/Object"), (g_k G 5, .object "HoloNet$State"), (g_k G 6, .array .int)]
/-- the words that no list carries, of the kinds that move -/
def g_nwK (w : Cond) : Bool := match w with
  | .fieldLinkNest _ _ _ _ _ _ => true
  | .methodLinkNest _ _ _ _ => true
  | .castable _ _ => true
  | .declares _ => true
  | .unhidden _ _ _ => true
  | .publicMethod _ => true
  | .privateMethod _ => true
  | _ => false
def g_nw (s : State) : Prop := ∀ w ∈ lw_tbl, g_nwK w = true → va_Nw w s
theorem g_nw.moved {s U : State} (hW : s.WarmedH U.vm) (h : g_nw s) : g_nw U := by
  intro w hw hk
  have h1 := h w hw hk
  cases w <;> first | exact va_Nw.warmF hW h1 | exact va_Nw.warmM hW h1 | exact va_Nw.warmC hW h1 | exact va_Nw.warmD hW h1 | exact va_tabs rfl (rfl : (s.setVm U.vm).vm = U.vm) (by rw [Cond.unhidden_setVm hW.alike]; exact h1) | exact va_tabs rfl (rfl : (s.setVm U.vm).vm = U.vm) (by rw [Cond.publicMethod_setVm hW.alike]; exact h1) | exact va_tabs rfl (rfl : (s.setVm U.vm).vm = U.vm) (by rw [Cond.privateMethod_setVm hW.alike]; exact h1) | (simp [g_nwK] at hk)
/-- statics that are whole numbers -/
def g_sti : List (String × String × String × Int32) := [("java/lang/String", "COMPACT_STRINGS", "Z", 1), ("java/lang/StringUTF16", "$assertionsDisabled", "Z", 1), ("java/lang/StringUTF16", "HI_BYTE_SHIFT", "I", 0), ("java/lang/StringUTF16", "LO_BYTE_SHIFT", "I", 8), ("jdk/internal/misc/Unsafe", "ARRAY_BYTE_BASE_OFFSET", "I", 16), ("jdk/internal/misc/UnsafeConstants", "BIG_ENDIAN", "Z", 0), ("jdk/internal/util/ArraysSupport", "BIG_ENDIAN", "Z", 0), ("jdk/internal/util/ArraysSupport", "LOG2_ARRAY_BYTE_INDEX_SCALE", "I", 0), ("jdk/internal/util/ArraysSupport", "LOG2_ARRAY_INT_INDEX_SCALE", "I", 2), ("jdk/internal/util/ArraysSupport", "LOG2_ARRAY_LONG_INDEX_SCALE", "I", 3), ("jdk/internal/util/ArraysSupport", "LOG2_BYTE_BIT_SIZE", "I", 3)]
/-- statics of which only 'a reference or null' is asked -/
def g_stq : List (String × String × String) := [("jdk/internal/util/Preconditions", "SIOOBE_FORMATTER", "Ljava/util/function/BiFunction;"), ("java/lang/Throwable", "UNASSIGNED_STACK", "[Ljava/lang/StackTraceElement;"), ("java/lang/Throwable", "SUPPRESSED_SENTINEL", "Ljava/util/List;")]
def g_ones : Nat → Int32 := fun j => [0, 1, 1, 2, 1, 2, 2, 3, 1, 2, 2, 3, 2, 3, 3, 4].getD j 0
def g_tens : Nat → Int32 := fun j => [100000, 10000, 1000, 100, 10, 1].getD j 0
/-- the texts that stand in the code: "", field, table, gate, base, node, wire -/
def g_len : List Nat := [0, 5, 5, 4, 4, 4, 4]
def g_byt : List (List Int32) := [[], [102, 105, 101, 108, 100], [116, 97, 98, 108, 101], [103, 97, 116, 101], [98, 97, 115, 101], [110, 111, 100, 101], [119, 105, 114, 101]]
def g_txt : List String := ["", "field", "table", "gate", "base", "node", "wire"]
def g_hash : List Int32 := [0, 97427706, 110115790, 3165387, 3016401, 3386882, 3649545]
def g_lit : List (String × Nat × Nat) := [("HoloNet$Reader", 36, 0), ("HoloNet$Reader", 122, 1), ("HoloNet$Reader", 124, 2), ("HoloNet$Reader", 126, 3), ("HoloNet$Reader", 128, 4), ("HoloNet$Reader", 130, 5), ("HoloNet$Reader", 132, 6), ("HoloNetModel", 156, 1), ("HoloNetModel", 162, 2), ("HoloNetModel", 164, 3), ("HoloNetModel", 166, 4), ("HoloNetModel", 167, 5), ("HoloNetModel", 169, 6)]
/-- calls through interfaces: the receiver's class, what is named, what runs -/
def g_fw : List (String × MethodName × MethodName) := [
  ("java/lang/StringBuilder", ⟨"java/lang/CharSequence", "length", "()I"⟩, ⟨"java/lang/StringBuilder", "length", "()I"⟩),
  ("java/lang/StringBuilder", ⟨"java/lang/CharSequence", "charAt", "(I)C"⟩, ⟨"java/lang/StringBuilder", "charAt", "(I)C"⟩),
  ("java/lang/StringBuilder", ⟨"java/lang/CharSequence", "toString", "()Ljava/lang/String;"⟩, ⟨"java/lang/StringBuilder", "toString", "()Ljava/lang/String;"⟩),
  ("java/lang/String", ⟨"java/lang/CharSequence", "toString", "()Ljava/lang/String;"⟩, ⟨"java/lang/String", "toString", "()Ljava/lang/String;"⟩),
  ("java/lang/String", ⟨"java/lang/Comparable", "compareTo", "(Ljava/lang/Object;)I"⟩, ⟨"java/lang/String", "compareTo", "(Ljava/lang/Object;)I"⟩),
  ("HoloNet$Step", ⟨"java/lang/Comparable", "compareTo", "(Ljava/lang/Object;)I"⟩, ⟨"HoloNet$Step", "compareTo", "(Ljava/lang/Object;)I"⟩),
  ("java/util/ArrayList", ⟨"java/util/Collection", "toArray", "()[Ljava/lang/Object;"⟩, ⟨"java/util/ArrayList", "toArray", "()[Ljava/lang/Object;"⟩),
  ("java/util/ArrayList$Itr", ⟨"java/util/Iterator", "hasNext", "()Z"⟩, ⟨"java/util/ArrayList$Itr", "hasNext", "()Z"⟩),
  ("java/util/ArrayList$Itr", ⟨"java/util/Iterator", "next", "()Ljava/lang/Object;"⟩, ⟨"java/util/ArrayList$Itr", "next", "()Ljava/lang/Object;"⟩)]
theorem g_fw_ok : ∀ q ∈ g_fw, q.2.1.cls ≠ "java/lang/invoke/MethodHandle" ∧ q.2.1.cls ≠ "java/lang/invoke/VarHandle" := by decide +kernel
def g_ao (s : State) : Prop := va_AO "HoloNet$State" s ∧ va_AO "java/lang/Object" s ∧ (Cond.arrayOver (.array .int)).before #[] s = true
theorem g_aoA {u U : State} (hvm : u.vm.Alike U.vm) (h : (Cond.arrayOver (.array .int)).before #[] u = true) : (Cond.arrayOver (.array .int)).before #[] U = true := by
  have h0 := h
  unfold Cond.before at h
  simp only [Cond.holds, Cond.value, beq_iff_eq] at h
  cases hc : u.vm.findClass (FieldType.array .int).toString with
  | none => simp [hc] at h
  | some comp =>
    simp only [hc, Option.bind_some, Option.bind_eq_some_iff, Option.map_eq_some_iff] at h
    obtain ⟨c, hi, k, hk, hb⟩ := h
    obtain ⟨hlt, hp, -⟩ := Array.findIdx?_eq_some_iff_getElem.mp hi
    have hkk : u.vm.classes[c] = k := (Array.getElem?_eq_some_iff.mp hk).2
    rw [hkk] at hp
    cases hkind : k.kind with
    | array component ty =>
      rw [hkind] at hb hp
      simp at hb hp
      obtain ⟨k', hk', he⟩ := hvm.2.2 _ _ hk
      have hi2 : (U.vm.classes.findIdx? fun (x : Class) => match x.kind with | .array component _ => component == comp | _ => false) = some c := by
        have e1 := va_idx_bare U.vm comp
        have e2 := va_idx_bare u.vm comp
        first | rw [hvm.bare_eq] at e2 | rw [← hvm.bare_eq] at e2
        exact e1.symm.trans (e2.trans hi)
      have hkind2 : k'.kind = .array comp (.array .int) := by rw [he, hkind, hp, hb.1]
      have f1 : U.vm.findClass (FieldType.array .int).toString = some comp := by rw [hvm.findClass]; exact hc
      have f2 : U.vm.findClass ("[" ++ (FieldType.array .int).toString) = some c := by rw [hvm.findClass]; exact hb.2
      unfold Cond.before Cond.holds
      simp only [Cond.value]
      rw [f1, Option.bind_some]
      refine (congrArg (fun o : Option Nat => (o.bind (fun c => (U.vm.classes[c]?).map fun (k : Class) => match k.kind with | .array _ ty => decide (ty = FieldType.array .int) && decide (U.vm.findClass ("[" ++ (FieldType.array .int).toString) = some c) | _ => false) == some true)) hi2).trans ?_
      simp [hk', hkind2, f2]
    | _ => rw [hkind] at hb; simp at hb
/-- addresses: 0 the empty Object[], 1 ONES, 2 TENS, 10 + i the text i, 20 + i its bytes -/
def g_X (ad : Nat → Nat) (A : Nat → Prop) (s : State) (H : Heap) : Prop :=
  (∀ q ∈ g_sti, va_Z q.1 q.2.1 q.2.2.1 (.int q.2.2.2) A s H) ∧ (∀ q ∈ g_stq, vx_Zq q.1 q.2.1 q.2.2 A s H) ∧
  (va_Z "java/util/ArrayList" "DEFAULTCAPACITY_EMPTY_ELEMENTDATA" "[Ljava/lang/Object;" (.ref (ad 0)) A s H ∧ va_T (.object "java/lang/Object") (ad 0) 0 (fun _ => .null) A s H) ∧
  (va_Z "HoloNet" "ONES" "[I" (.ref (ad 1)) A s H ∧ va_T .int (ad 1) 16 (fun j => .int (g_ones j)) A s H) ∧
  (va_Z "HoloNet" "TENS" "[I" (.ref (ad 2)) A s H ∧ va_T .int (ad 2) 6 (fun j => .int (g_tens j)) A s H) ∧
  vk_S 7 g_len g_byt (fun i => ad (10 + i)) (fun i => ad (20 + i)) A s H ∧
  (∀ i, i < 7 → va_OF "java/lang/String" "hash" "I" (.int (g_hash.getD i 0)) (ad (10 + i)) A s H ∧ va_OF "java/lang/String" "hashIsZero" "Z" (.int (if i = 0 then 1 else 0)) (ad (10 + i)) A s H) ∧
  (∀ q ∈ g_lit, vk_R q.1 q.2.1 (g_txt.getD q.2.2 "") (ad (10 + q.2.2)) s) ∧
  (va_Mi "[Ljava/lang/Object;" (ad 3) s ∧ va_Dc s ∧ va_O "[Ljava/lang/Object;" (ad 0) A s H) ∧ g_ao s ∧ (∀ q ∈ g_fw, va_Fw q.1 q.2.1 q.2.2 s)
theorem g_X.moved {ad : Nat → Nat} {A : Nat → Prop} {s U : State} {H : Heap} (hW : s.WarmedH U.vm) (hq : ∀ a : Nat, a < H.size → ¬ A a → U.heap[a]? = H[a]?) (h : g_X ad A s H) : g_X ad A U U.heap := by
  obtain ⟨h1, h2, h3, h4, h5, h6, h7, h8, h9, h10, h11⟩ := h
  have ha := hW.alike
  exact ⟨fun q hm => (va_Z.moved ha (h1 q hm)).kept hq, fun q hm => (vx_Zq.moved ha (h2 q hm)).kept hq, ⟨(va_Z.moved ha h3.1).kept hq, (va_T.moved ha h3.2).kept hq⟩, ⟨(va_Z.moved ha h4.1).kept hq, (va_T.moved ha h4.2).kept hq⟩, ⟨(va_Z.moved ha h5.1).kept hq, (va_T.moved ha h5.2).kept hq⟩, (vk_S.moved ha h6).kept hq, fun i hi => ⟨(va_OF.moved ha (h7 i hi).1).kept hq, (va_OF.moved ha (h7 i hi).2).kept hq⟩, fun q hm => vk_R.warm hW (h8 q hm), ⟨va_Mi.moved ha h9.1, va_Dc.moved ha h9.2.1, (va_O.moved ha h9.2.2).kept hq⟩, ⟨va_AO.moved ha h10.1, va_AO.moved ha h10.2.1, g_aoA ha h10.2.2⟩, fun q hm => va_Fw.moved (g_fw_ok q hm) ha (h11 q hm)⟩
/-- all that is known of a state, whoever runs -/
def g_K (G : g_G) (l : Launch) (s : State) : Prop :=
  va_K (g_D G) vwCl (g_tys G) s ∧ g_b G ≤ s.heap.size ∧ g_nw s ∧ g_X (g_ad G) (g_A G) s s.heap ∧ l.flags = flags0 ∧ g_Y G s ∧
  ∀ u U : State, u.WarmedH U.vm → u.heap.size ≤ U.heap.size → (∀ a : Nat, a < u.heap.size → ¬ g_A G a → U.heap[a]? = u.heap[a]?) → g_Y G u → g_Y G U
theorem g_K.moved {G : g_G} {l : Launch} {s U : State} (hW : s.WarmedH U.vm) (hz : s.heap.size ≤ U.heap.size) (hq : ∀ a : Nat, a < s.heap.size → ¬ g_A G a → U.heap[a]? = s.heap[a]?) (h : g_K G l s) : g_K G l U := by
  obtain ⟨h1, h2, h3, h4, h5, h6, h7⟩ := h
  exact ⟨va_K.moved hW.alike h1, Nat.le_trans h2 hz, h3.moved hW, h4.moved hW hq, h5, h7 s U hW hz hq h6, h7⟩
/-- the world: its items, apart -/
def g_P (G : g_G) (Ws : List va_W) (H : Heap) : Prop := va_P (g_D G) vwCl Ws.flatten H ∧ va_D (g_A G) Ws.flatten
/-- the machine around a method: known of its start -/
def g_N (G : g_G) (l : Launch) (cc : ByteArray) (own : String) (nL : Nat) (ret : Option FieldType) (mn : String) (Z : Code → Prop) (p : Program) (s : State) (m : MethodId) (args : Array Value) (meth : Method) (c : Code) : Prop :=
  p.tables.exec = Jvm.exec ∧ c.code = cc ∧ (∀ w ∈ lw_all, w.before args s = true) ∧ s.vm.findClass own = some m.cls ∧ c.maxLocals = nL ∧ meth.sig.returnType = ret ∧ meth.locks = false ∧ (meth.name = mn ∧ Z c) ∧ g_K G l s
abbrev g_rm (d mc ms : Nat) : Room := { frames := d, cells := mc, slots := ms, locals := 100 * d }
/-- how a method ends: its answer, its new world -/
def g_Q {S : Type} (G : g_G) (R : Option Value → S → Prop) (sh : S → List va_W) : Array Value → State → Outcome → State → Prop := fun _ st oc t =>
  (∃ (r : Option Value) (u : S), oc = .returned r ∧ R r u ∧ g_P G (sh u) t.heap) ∧ va_F (g_A G) st t
/-- a method's end, whatever it is -/
abbrev g_F : Type := (List Frame → Array Value → State → State → Prop) × (Code → Prop)
def gF {S : Type} (G : g_G) (R : Option Value → S → Prop) (sh : S → List va_W) (mc ms : Nat) : g_F := (fun below args s => MQ below (g_Q G R sh) args s mc ms (g_A G), fun _ => True)
/-- from here on, with this world, these locals and this stack, the method ends as F says -/
def WF (G : g_G) (l : Launch) (cc : ByteArray) (own : String) (nL : Nat) (ret : Option FieldType) (mn : String) (d mc ms : Nat) (F : g_F) (cells slots : Nat) (Ws : List va_W) (pc : Nat) (lv : List (Nat × Value)) (st : List Value) : Prop :=
  ∀ (p : Program) (e : Env) (s : State) (m : MethodId) (args : Array Value) (below : List Frame) (meth : Method) (c : Code) (H : Heap) (locs : List Loc) (ls : Array Slot),
    g_N G l cc own nL ret mn F.2 p s m args meth c → va_S (g_A G) s.heap H locs → g_P G Ws H → lv_has ls nL lv →
    W p l e (g_rm d mc ms) s m args below meth c H locs cells slots (F.1 below args s) (F0 m pc ls st)
/-- the same, the end a return as R and sh say -/
abbrev WW {S : Type} (G : g_G) (l : Launch) (cc : ByteArray) (own : String) (nL : Nat) (ret : Option FieldType) (mn : String) (d mc ms : Nat) (R : Option Value → S → Prop) (sh : S → List va_W) (cells slots : Nat) (Ws : List va_W) (pc : Nat) (lv : List (Nat × Value)) (st : List Value) : Prop :=
  WF G l cc own nL ret mn d mc ms (gF G R sh mc ms) cells slots Ws pc lv st
/-- a method's contract: whatever else stands in the world stays -/
def CT {S : Type} (G : g_G) (l : Launch) (y : MethodName) (cc : ByteArray) (nL : Nat) (ret : Option FieldType) (d mc ms : Nat) (args : List Value) (Ws : List va_W) (R : Option Value → S → Prop) (sh : S → List va_W) : Prop :=
  ∀ fr : va_W, Met l y (ws_ y cc nL ret) (g_rm d mc ms) (va_Pc args (fun U => g_K G l U ∧ g_P G (Ws ++ [fr]) U.heap)) (g_Q G R (fun u => sh u ++ [fr])) mc ms (g_A G)
