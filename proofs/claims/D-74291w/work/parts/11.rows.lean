/-! ROWS OF THE CLEAN LAYER (printed by tools/rows.py) -/
set_option maxRecDepth 100000
/-- whole numbers as the machine holds them -/
def vI (x : Int) : Value := .int (Int32.ofInt x)
def vL (x : Int) : Value := .long (Int64.ofInt x)
abbrev rI (x : Int) : Prop := -2147483648 ≤ x ∧ x < 2147483648
abbrev rL (x : Int) : Prop := -9223372036854775808 ≤ x ∧ x < 9223372036854775808
theorem rI_toInt {x : Int} (h : rI x) : (Int32.ofInt x).toInt = x := Int32.toInt_ofInt_of_le (by have := h.1; omega) (by have := h.2; omega)
theorem rL_toInt {x : Int} (h : rL x) : (Int64.ofInt x).toInt = x := Int64.toInt_ofInt_of_le (by have := h.1; omega) (by have := h.2; omega)
theorem vI_toInt (x : Int32) : Value.int x = vI x.toInt := by unfold vI; rw [Int32.ofInt_toInt]
theorem vL_toInt (x : Int64) : Value.long x = vL x.toInt := by unfold vL; rw [Int64.ofInt_toInt]
theorem r32 (x : Int32) : rI x.toInt := ⟨by have := Int32.le_toInt x; omega, by have := Int32.toInt_lt x; omega⟩
theorem r64 (x : Int64) : rL x.toInt := ⟨by have := Int64.le_toInt x; omega, by have := Int64.toInt_lt x; omega⟩
theorem vI_add (x y : Int) : Value.int (Int32.ofInt x + Int32.ofInt y) = vI (x + y) := by unfold vI; rw [Int32.ofInt_add]
theorem vI_sub (x y : Int) : Value.int (Int32.ofInt x - Int32.ofInt y) = vI (x - y) := by unfold vI; rw [Int32.ofInt_sub]
theorem vI_mul (x y : Int) : Value.int (Int32.ofInt x * Int32.ofInt y) = vI (x * y) := by unfold vI; rw [Int32.ofInt_mul]
theorem vI_neg (x : Int) : Value.int (-Int32.ofInt x) = vI (-x) := by unfold vI; rw [Int32.ofInt_neg]
theorem vL_add (x y : Int) : Value.long (Int64.ofInt x + Int64.ofInt y) = vL (x + y) := by unfold vL; rw [Int64.ofInt_add]
theorem vL_sub (x y : Int) : Value.long (Int64.ofInt x - Int64.ofInt y) = vL (x - y) := by unfold vL; rw [Int64.ofInt_sub]
theorem vL_mul (x y : Int) : Value.long (Int64.ofInt x * Int64.ofInt y) = vL (x * y) := by unfold vL; rw [Int64.ofInt_mul]
/-- bits, as the machine does them -/
def bA (x y : Int) : Int := (Int32.ofInt x &&& Int32.ofInt y).toInt
def bO (x y : Int) : Int := (Int32.ofInt x ||| Int32.ofInt y).toInt
def bX (x y : Int) : Int := (Int32.ofInt x ^^^ Int32.ofInt y).toInt
def bL (x y : Int) : Int := (Int32.ofInt x <<< (Int32.ofInt y &&& 31)).toInt
def bR (x y : Int) : Int := (Int32.ofInt x >>> (Int32.ofInt y &&& 31)).toInt
def bU (x y : Int) : Int := ((Int32.ofInt x).toUInt32 >>> ((Int32.ofInt y).toUInt32 &&& Int32.toUInt32 31)).toInt32.toInt
def lbO (x y : Int) : Int := (Int64.ofInt x ||| Int64.ofInt y).toInt
def lbL (x y : Int) : Int := (Int64.ofInt x <<< ((Int32.ofInt y).toInt64 &&& 63)).toInt
theorem rI_bA (x y : Int) : rI (bA x y) := r32 _
theorem rI_bO (x y : Int) : rI (bO x y) := r32 _
theorem rI_bX (x y : Int) : rI (bX x y) := r32 _
theorem rI_bL (x y : Int) : rI (bL x y) := r32 _
theorem rI_bR (x y : Int) : rI (bR x y) := r32 _
theorem rI_bU (x y : Int) : rI (bU x y) := r32 _
theorem vI_and (x y : Int) : Value.int (Int32.ofInt x &&& Int32.ofInt y) = vI (bA x y) := vI_toInt _
theorem vI_or (x y : Int) : Value.int (Int32.ofInt x ||| Int32.ofInt y) = vI (bO x y) := vI_toInt _
theorem vI_xor (x y : Int) : Value.int (Int32.ofInt x ^^^ Int32.ofInt y) = vI (bX x y) := vI_toInt _
theorem vI_shl (x y : Int) : Value.int (Int32.ofInt x <<< (Int32.ofInt y &&& 31)) = vI (bL x y) := vI_toInt _
theorem vI_shr (x y : Int) : Value.int (Int32.ofInt x >>> (Int32.ofInt y &&& 31)) = vI (bR x y) := vI_toInt _
theorem vL_or (x y : Int) : Value.long (Int64.ofInt x ||| Int64.ofInt y) = vL (lbO x y) := vL_toInt _
theorem iI_le {x y : Int} (hx : rI x) (hy : rI y) : Int32.ofInt x ≤ Int32.ofInt y ↔ x ≤ y := by rw [Int32.le_iff_toInt_le, rI_toInt hx, rI_toInt hy]
theorem iI_lt {x y : Int} (hx : rI x) (hy : rI y) : Int32.ofInt x < Int32.ofInt y ↔ x < y := by rw [Int32.lt_iff_toInt_lt, rI_toInt hx, rI_toInt hy]
theorem iI_eq {x y : Int} (hx : rI x) (hy : rI y) : Int32.ofInt x = Int32.ofInt y ↔ x = y := by rw [← Int32.toInt_inj, rI_toInt hx, rI_toInt hy]
theorem iI_0 : (0 : Int32) = Int32.ofInt 0 := rfl
theorem r0 : rI 0 := ⟨by decide, by decide⟩
theorem iL_lt {x y : Int} (hx : rL x) (hy : rL y) : Int64.ofInt x < Int64.ofInt y ↔ x < y := by rw [Int64.lt_iff_toInt_lt, rL_toInt hx, rL_toInt hy]
theorem iL_eq {x y : Int} (hx : rL x) (hy : rL y) : Int64.ofInt x = Int64.ofInt y ↔ x = y := by rw [← Int64.toInt_inj, rL_toInt hx, rL_toInt hy]
theorem iI_clamp {i : Int} (h0 : 0 ≤ i) (h1 : i < 2147483648) : (Int32.ofInt i).toNatClampNeg = i.toNat := by
  show (Int32.ofInt i).toInt.toNat = i.toNat
  rw [rI_toInt ⟨by omega, h1⟩]
theorem iI_in {i : Int} {n : Nat} (h0 : 0 ≤ i) (h1 : i < n) (hn : (n : Int) < 2147483648) : vp_in (Int32.ofInt i) n := by
  unfold vp_in
  rw [iI_clamp h0 (by omega), iI_0, iI_lt ⟨by omega, by omega⟩ r0]
  omega
theorem iI_div {x y : Int} (hx : 0 ≤ x) (hx2 : x < 2147483648) (hy : 0 < y) (hy2 : y < 2147483648) : Int32.ofInt x / Int32.ofInt y = Int32.ofInt (x / y) := by
  have h1 : x / y ≤ x := Int.ediv_le_self _ hx
  have h0 : 0 ≤ x / y := Int.ediv_nonneg hx (by omega)
  rw [← Int32.toInt_inj, Int32.toInt_div, rI_toInt ⟨by omega, hx2⟩, rI_toInt ⟨by omega, hy2⟩, rI_toInt ⟨by omega, by omega⟩, Int.tdiv_eq_ediv_of_nonneg hx]
  exact Int.bmod_eq_of_le (by omega) (by omega)
theorem iI_rem {x y : Int} (hx : 0 ≤ x) (hx2 : x < 2147483648) (hy : 0 < y) (hy2 : y < 2147483648) : Int32.ofInt x - Int32.ofInt x / Int32.ofInt y * Int32.ofInt y = Int32.ofInt (x % y) := by
  rw [iI_div hx hx2 hy hy2, ← Int32.ofInt_mul, ← Int32.ofInt_sub, Int.emod_def, Int.mul_comm]
theorem iL_rem {x y : Int} (hx : rL x) (hy : 0 < y) (hy2 : y < 2147483648) : Int64.ofInt x - Int64.ofInt x / Int64.ofInt y * Int64.ofInt y = Int64.ofInt (x.tmod y) := by
  have e : Int64.ofInt x / Int64.ofInt y = Int64.ofInt (x.tdiv y) := by
    rw [← Int64.toInt_inj, Int64.toInt_div, rL_toInt hx, rL_toInt ⟨by omega, by omega⟩, Int64.toInt_ofInt]
  rw [e, ← Int64.ofInt_mul, ← Int64.ofInt_sub, Int.tmod_def, Int.mul_comm]
theorem iI_long {x : Int} (h : rI x) : (Int32.ofInt x).toInt64 = Int64.ofInt x := by
  rw [← Int64.toInt_inj, Int32.toInt_toInt64, rI_toInt h, rL_toInt ⟨by have := h.1; omega, by have := h.2; omega⟩]
theorem iL_int (x : Int) : (Int64.ofInt x).toInt32 = Int32.ofInt x := by
  rw [← Int32.toInt_inj, Int64.toInt_toInt32, Int64.toInt_ofInt, Int32.toInt_ofInt]
  exact Int.bmod_bmod_of_dvd (by decide)
theorem iI_byte (x : Int) : (Int32.ofInt x).toInt8.toInt32 = Int32.ofInt (x.bmod 256) := by
  rw [← Int32.toInt_inj, Int8.toInt_toInt32, Int32.toInt_toInt8, Int32.toInt_ofInt, Int32.toInt_ofInt]
  have h1 := Int.bmod_lt (x := x) (m := 256) (by decide)
  have h2 := Int.le_bmod (x := x) (m := 256) (by decide)
  rw [show Int32.size = 2 ^ 32 from rfl, Int.bmod_bmod_of_dvd (n := 2 ^ 8) (m := 2 ^ 32) (by decide)]
  rw [show (2 : Nat) ^ 8 = 256 from rfl]
  exact (Int.bmod_eq_of_le (by omega) (by omega)).symm
theorem g_P.of {G : g_G} {Ws Ws' : List va_W} {H : Heap} (h : g_P G Ws H) (e : Ws.flatten = Ws'.flatten) : g_P G Ws' H := by unfold g_P; rw [← e]; exact h
theorem flat_at : ∀ {Ws : List va_W} {k j : Nat} {seg : va_W} {x : Nat × va_E}, Ws[k]? = some seg → seg[j]? = some x → ∃ q : Nat, Ws.flatten[q]? = some x ∧ ∀ y : Nat × va_E, Ws.flatten.set q y = (Ws.set k (seg.set j y)).flatten := by
  intro Ws
  induction Ws with
  | nil => intro k j seg x h; simp at h
  | cons w Ws ih =>
    intro k j seg x h hj
    have hl := (List.getElem?_eq_some_iff.mp hj).1
    cases k with
    | zero =>
      simp only [List.getElem?_cons_zero, Option.some.injEq] at h
      subst h
      refine ⟨j, ?_, fun y => ?_⟩
      · rw [List.flatten_cons, List.getElem?_append_left hl]; exact hj
      · rw [List.set_cons_zero, List.flatten_cons, List.flatten_cons, List.set_append_left _ _ hl]
    | succ k =>
      rw [List.getElem?_cons_succ] at h
      obtain ⟨q, h1, h2⟩ := ih h hj
      refine ⟨w.length + q, ?_, fun y => ?_⟩
      · rw [List.flatten_cons, List.getElem?_append_right (Nat.le_add_right _ _), Nat.add_sub_cancel_left]; exact h1
      · rw [List.set_cons_succ, List.flatten_cons, List.flatten_cons, List.set_append_right _ _ (Nat.le_add_right _ _), Nat.add_sub_cancel_left, h2]
/-- the cells of a world -/
def oB (ci : Nat) (fs : List Value) : va_E := .inr (ci, fs)
def aI (cA : ClassId) (n : Nat) (f : Int → Int) : va_E := .inl (cA, n, .inl (fun j => Int32.ofInt (f j)))
def aL (cA : ClassId) (n : Nat) (f : Int → Int) : va_E := .inl (cA, n, .inr (.inl (fun j => Int64.ofInt (f j))))
def aQ (cA : ClassId) (n : Nat) (f : Int → Option Nat) : va_E := .inl (cA, n, .inr (.inr (.inr (.inr (fun j => f j)))))
def updI {α : Type} (f : Int → α) (i : Int) (x : α) : Int → α := fun j => if j = i then x else f j
theorem updI_s {α : Type} (f : Int → α) (i : Int) (x : α) : updI f i x i = x := if_pos rfl
theorem updI_n {α : Type} (f : Int → α) (i : Int) (x : α) {j : Int} (h : j ≠ i) : updI f i x j = f j := if_neg h
theorem upd_I (f : Int → Int) {i : Int} (h0 : 0 ≤ i) (x : Int) : upd (fun j : Nat => Int32.ofInt (f j)) i.toNat (Int32.ofInt x) = fun j : Nat => Int32.ofInt (updI f i x j) := by
  funext j
  by_cases h : j = i.toNat
  · subst h
    rw [pk_us, show ((i.toNat : Nat) : Int) = i by omega, updI_s]
  · rw [pk_un h, updI_n _ _ _ (by omega)]
theorem upd_L (f : Int → Int) {i : Int} (h0 : 0 ≤ i) (x : Int) : vp_updL (fun j : Nat => Int64.ofInt (f j)) i.toNat (Int64.ofInt x) = fun j : Nat => Int64.ofInt (updI f i x j) := by
  funext j
  by_cases h : j = i.toNat
  · subst h
    rw [pk_uLs, show ((i.toNat : Nat) : Int) = i by omega, updI_s]
  · rw [pk_uLn h, updI_n _ _ _ (by omega)]
section ROWS
variable {S : Type} {G : g_G} {l : Launch} {cc : ByteArray} {own : String} {nL : Nat} {ret : Option FieldType} {mn : String} {d mc ms : Nat} {R : Option Value → S → Prop} {sh : S → List va_W} {F : g_F} {cells slots : Nat} {Ws : List va_W} {pc : Nat} {lv : List (Nat × Value)} {st : List Value}
theorem ww_iadd {x y : Int} (hdg : decode cc pc = .ok (.iadd, 1)) (k : WF G l cc own nL ret mn d mc ms F cells slots Ws (pc + 1) lv (vI (x + y) :: st)) : WF G l cc own nL ret mn d mc ms F cells slots Ws pc lv (vI y :: vI x :: st) := by
  intro p e s m args below meth c H locs ls N hS hP hl
  have h := k p e s m args below meth c H locs ls N hS hP hl
  rw [← vI_add] at h
  exact lv_iadd N.1 N.2.1 hdg h
theorem ww_isub {x y : Int} (hdg : decode cc pc = .ok (.isub, 1)) (k : WF G l cc own nL ret mn d mc ms F cells slots Ws (pc + 1) lv (vI (x - y) :: st)) : WF G l cc own nL ret mn d mc ms F cells slots Ws pc lv (vI y :: vI x :: st) := by
  intro p e s m args below meth c H locs ls N hS hP hl
  have h := k p e s m args below meth c H locs ls N hS hP hl
  rw [← vI_sub] at h
  exact lv_isub N.1 N.2.1 hdg h
theorem ww_imul {x y : Int} (hdg : decode cc pc = .ok (.imul, 1)) (k : WF G l cc own nL ret mn d mc ms F cells slots Ws (pc + 1) lv (vI (x * y) :: st)) : WF G l cc own nL ret mn d mc ms F cells slots Ws pc lv (vI y :: vI x :: st) := by
  intro p e s m args below meth c H locs ls N hS hP hl
  have h := k p e s m args below meth c H locs ls N hS hP hl
  rw [← vI_mul] at h
  exact lv_imul N.1 N.2.1 hdg h
theorem ww_iand {x y : Int} (hdg : decode cc pc = .ok (.iand, 1)) (k : WF G l cc own nL ret mn d mc ms F cells slots Ws (pc + 1) lv (vI (bA x y) :: st)) : WF G l cc own nL ret mn d mc ms F cells slots Ws pc lv (vI y :: vI x :: st) := by
  intro p e s m args below meth c H locs ls N hS hP hl
  have h := k p e s m args below meth c H locs ls N hS hP hl
  rw [← vI_and] at h
  exact lv_iand N.1 N.2.1 hdg h
theorem ww_ior {x y : Int} (hdg : decode cc pc = .ok (.ior, 1)) (k : WF G l cc own nL ret mn d mc ms F cells slots Ws (pc + 1) lv (vI (bO x y) :: st)) : WF G l cc own nL ret mn d mc ms F cells slots Ws pc lv (vI y :: vI x :: st) := by
  intro p e s m args below meth c H locs ls N hS hP hl
  have h := k p e s m args below meth c H locs ls N hS hP hl
  rw [← vI_or] at h
  exact lv_ior N.1 N.2.1 hdg h
theorem ww_ixor {x y : Int} (hdg : decode cc pc = .ok (.ixor, 1)) (k : WF G l cc own nL ret mn d mc ms F cells slots Ws (pc + 1) lv (vI (bX x y) :: st)) : WF G l cc own nL ret mn d mc ms F cells slots Ws pc lv (vI y :: vI x :: st) := by
  intro p e s m args below meth c H locs ls N hS hP hl
  have h := k p e s m args below meth c H locs ls N hS hP hl
  rw [← vI_xor] at h
  exact lv_ixor N.1 N.2.1 hdg h
theorem ww_ishl {x y : Int} (hdg : decode cc pc = .ok (.ishl, 1)) (k : WF G l cc own nL ret mn d mc ms F cells slots Ws (pc + 1) lv (vI (bL x y) :: st)) : WF G l cc own nL ret mn d mc ms F cells slots Ws pc lv (vI y :: vI x :: st) := by
  intro p e s m args below meth c H locs ls N hS hP hl
  have h := k p e s m args below meth c H locs ls N hS hP hl
  rw [← vI_shl] at h
  exact lv_ishl N.1 N.2.1 hdg h
theorem ww_ishr {x y : Int} (hdg : decode cc pc = .ok (.ishr, 1)) (k : WF G l cc own nL ret mn d mc ms F cells slots Ws (pc + 1) lv (vI (bR x y) :: st)) : WF G l cc own nL ret mn d mc ms F cells slots Ws pc lv (vI y :: vI x :: st) := by
  intro p e s m args below meth c H locs ls N hS hP hl
  have h := k p e s m args below meth c H locs ls N hS hP hl
  rw [← vI_shr] at h
  exact lv_ishr N.1 N.2.1 hdg h
theorem ww_ladd {x y : Int} (hdg : decode cc pc = .ok (.ladd, 1)) (k : WF G l cc own nL ret mn d mc ms F cells slots Ws (pc + 1) lv (vL (x + y) :: st)) : WF G l cc own nL ret mn d mc ms F cells slots Ws pc lv (vL y :: vL x :: st) := by
  intro p e s m args below meth c H locs ls N hS hP hl
  have h := k p e s m args below meth c H locs ls N hS hP hl
  rw [← vL_add] at h
  exact lv_ladd N.1 N.2.1 hdg h
theorem ww_lsub {x y : Int} (hdg : decode cc pc = .ok (.lsub, 1)) (k : WF G l cc own nL ret mn d mc ms F cells slots Ws (pc + 1) lv (vL (x - y) :: st)) : WF G l cc own nL ret mn d mc ms F cells slots Ws pc lv (vL y :: vL x :: st) := by
  intro p e s m args below meth c H locs ls N hS hP hl
  have h := k p e s m args below meth c H locs ls N hS hP hl
  rw [← vL_sub] at h
  exact lv_lsub N.1 N.2.1 hdg h
theorem ww_lmul {x y : Int} (hdg : decode cc pc = .ok (.lmul, 1)) (k : WF G l cc own nL ret mn d mc ms F cells slots Ws (pc + 1) lv (vL (x * y) :: st)) : WF G l cc own nL ret mn d mc ms F cells slots Ws pc lv (vL y :: vL x :: st) := by
  intro p e s m args below meth c H locs ls N hS hP hl
  have h := k p e s m args below meth c H locs ls N hS hP hl
  rw [← vL_mul] at h
  exact lv_lmul N.1 N.2.1 hdg h
theorem ww_lor {x y : Int} (hdg : decode cc pc = .ok (.lor, 1)) (k : WF G l cc own nL ret mn d mc ms F cells slots Ws (pc + 1) lv (vL (lbO x y) :: st)) : WF G l cc own nL ret mn d mc ms F cells slots Ws pc lv (vL y :: vL x :: st) := by
  intro p e s m args below meth c H locs ls N hS hP hl
  have h := k p e s m args below meth c H locs ls N hS hP hl
  rw [← vL_or] at h
  exact lv_lor N.1 N.2.1 hdg h
theorem ww_ineg {x : Int} (hdg : decode cc pc = .ok (.ineg, 1)) (k : WF G l cc own nL ret mn d mc ms F cells slots Ws (pc + 1) lv (vI (-x) :: st)) : WF G l cc own nL ret mn d mc ms F cells slots Ws pc lv (vI x :: st) := by
  intro p e s m args below meth c H locs ls N hS hP hl
  have h := k p e s m args below meth c H locs ls N hS hP hl
  rw [← vI_neg] at h
  exact lv_ineg N.1 N.2.1 hdg h
theorem ww_iushr {x y : Int} (hdg : decode cc pc = .ok (.iushr, 1)) (k : WF G l cc own nL ret mn d mc ms F cells slots Ws (pc + 1) lv (vI (bU x y) :: st)) : WF G l cc own nL ret mn d mc ms F cells slots Ws pc lv (vI y :: vI x :: st) := by
  intro p e s m args below meth c H locs ls N hS hP hl
  exact lv_iushr N.1 N.2.1 hdg (Int32.ofInt_toInt _).symm (k p e s m args below meth c H locs ls N hS hP hl)
theorem ww_lshl {x y : Int} (hdg : decode cc pc = .ok (.lshl, 1)) (k : WF G l cc own nL ret mn d mc ms F cells slots Ws (pc + 1) lv (vL (lbL x y) :: st)) : WF G l cc own nL ret mn d mc ms F cells slots Ws pc lv (vI y :: vL x :: st) := by
  intro p e s m args below meth c H locs ls N hS hP hl
  exact lv_lshl N.1 N.2.1 hdg (Int64.ofInt_toInt _).symm (k p e s m args below meth c H locs ls N hS hP hl)
theorem ww_idiv {x y : Int} (hdg : decode cc pc = .ok (.idiv, 1)) (h : 0 ≤ x ∧ x < 2147483648 ∧ 0 < y ∧ y < 2147483648) (k : WF G l cc own nL ret mn d mc ms F cells slots Ws (pc + 1) lv (vI (x / y) :: st)) : WF G l cc own nL ret mn d mc ms F cells slots Ws pc lv (vI y :: vI x :: st) := by
  intro p e s m args below meth c H locs ls N hS hP hl
  have hne : ¬ Int32.ofInt y = 0 := by
    rw [iI_0, iI_eq ⟨by omega, h.2.2.2⟩ r0]
    omega
  have h2 := k p e s m args below meth c H locs ls N hS hP hl
  unfold vI at h2
  rw [← iI_div h.1 h.2.1 h.2.2.1 h.2.2.2] at h2
  exact lv_idiv N.1 N.2.1 hdg hne h2
theorem ww_irem {x y : Int} (hdg : decode cc pc = .ok (.irem, 1)) (h : 0 ≤ x ∧ x < 2147483648 ∧ 0 < y ∧ y < 2147483648) (k : WF G l cc own nL ret mn d mc ms F cells slots Ws (pc + 1) lv (vI (x % y) :: st)) : WF G l cc own nL ret mn d mc ms F cells slots Ws pc lv (vI y :: vI x :: st) := by
  intro p e s m args below meth c H locs ls N hS hP hl
  have hne : ¬ Int32.ofInt y = 0 := by
    rw [iI_0, iI_eq ⟨by omega, h.2.2.2⟩ r0]
    omega
  have h2 := k p e s m args below meth c H locs ls N hS hP hl
  unfold vI at h2
  rw [← iI_rem h.1 h.2.1 h.2.2.1 h.2.2.2] at h2
  exact lv_irem N.1 N.2.1 hdg hne h2
theorem ww_lrem {x y : Int} (hdg : decode cc pc = .ok (.lrem, 1)) (h : rL x ∧ 0 < y ∧ y < 2147483648) (k : WF G l cc own nL ret mn d mc ms F cells slots Ws (pc + 1) lv (vL (x.tmod y) :: st)) : WF G l cc own nL ret mn d mc ms F cells slots Ws pc lv (vL y :: vL x :: st) := by
  intro p e s m args below meth c H locs ls N hS hP hl
  have hne : ¬ Int64.ofInt y = 0 := by
    rw [show (0 : Int64) = Int64.ofInt 0 from rfl, iL_eq ⟨by omega, by omega⟩ ⟨by decide, by decide⟩]
    omega
  have h2 := k p e s m args below meth c H locs ls N hS hP hl
  unfold vL at h2
  rw [← iL_rem h.1 h.2.1 h.2.2] at h2
  exact lv_lrem N.1 N.2.1 hdg hne h2
theorem ww_i2l {x : Int} (hdg : decode cc pc = .ok (.i2l, 1)) (h : rI x) (k : WF G l cc own nL ret mn d mc ms F cells slots Ws (pc + 1) lv (vL x :: st)) : WF G l cc own nL ret mn d mc ms F cells slots Ws pc lv (vI x :: st) := by
  intro p e s m args below meth c H locs ls N hS hP hl
  exact lv_i2l N.1 N.2.1 hdg (iI_long h) (k p e s m args below meth c H locs ls N hS hP hl)
theorem ww_l2i {x : Int} (hdg : decode cc pc = .ok (.l2i, 1)) (k : WF G l cc own nL ret mn d mc ms F cells slots Ws (pc + 1) lv (vI x :: st)) : WF G l cc own nL ret mn d mc ms F cells slots Ws pc lv (vL x :: st) := by
  intro p e s m args below meth c H locs ls N hS hP hl
  exact lv_l2i N.1 N.2.1 hdg (iL_int x) (k p e s m args below meth c H locs ls N hS hP hl)
theorem ww_i2b {x : Int} (hdg : decode cc pc = .ok (.i2b, 1)) (k : WF G l cc own nL ret mn d mc ms F cells slots Ws (pc + 1) lv (vI (x.bmod 256) :: st)) : WF G l cc own nL ret mn d mc ms F cells slots Ws pc lv (vI x :: st) := by
  intro p e s m args below meth c H locs ls N hS hP hl
  exact lv_i2b N.1 N.2.1 hdg (iI_byte x) (k p e s m args below meth c H locs ls N hS hP hl)
theorem ww_iconst {n : Int} (hdg : decode cc pc = .ok (.iconst n, 1)) (k : WF G l cc own nL ret mn d mc ms F cells slots Ws (pc + 1) lv (vI n :: st)) : WF G l cc own nL ret mn d mc ms F cells slots Ws pc lv (st) := by
  intro p e s m args below meth c H locs ls N hS hP hl
  exact lv_iconst N.1 N.2.1 hdg rfl (k p e s m args below meth c H locs ls N hS hP hl)
theorem ww_bipush {n v : Int} (hdg : decode cc pc = .ok (.bipush n, 2)) (hv : (Int8.ofInt n).toInt32 = Int32.ofInt v) (k : WF G l cc own nL ret mn d mc ms F cells slots Ws (pc + 2) lv (vI v :: st)) : WF G l cc own nL ret mn d mc ms F cells slots Ws pc lv (st) := by
  intro p e s m args below meth c H locs ls N hS hP hl
  exact lv_bipush N.1 N.2.1 hdg hv (k p e s m args below meth c H locs ls N hS hP hl)
theorem ww_sipush {n v : Int} (hdg : decode cc pc = .ok (.sipush n, 3)) (hv : (Int16.ofInt n).toInt32 = Int32.ofInt v) (k : WF G l cc own nL ret mn d mc ms F cells slots Ws (pc + 3) lv (vI v :: st)) : WF G l cc own nL ret mn d mc ms F cells slots Ws pc lv (st) := by
  intro p e s m args below meth c H locs ls N hS hP hl
  exact lv_sipush N.1 N.2.1 hdg hv (k p e s m args below meth c H locs ls N hS hP hl)
theorem ww_lconst {n : Fin 2} {v : Int} (hdg : decode cc pc = .ok (.lconst n, 1)) (hv : Int64.ofNat (n : Nat) = Int64.ofInt v) (k : WF G l cc own nL ret mn d mc ms F cells slots Ws (pc + 1) lv (vL v :: st)) : WF G l cc own nL ret mn d mc ms F cells slots Ws pc lv (st) := by
  intro p e s m args below meth c H locs ls N hS hP hl
  exact lv_lconst N.1 N.2.1 hdg hv (k p e s m args below meth c H locs ls N hS hP hl)
theorem ww_ldc {index : Nat} {v : Int32} {x : Int} (hdg : decode cc pc = .ok (.ldc index, 2)) (hq : Cond.constant own index v ∈ lw_all) (hv : Int32.ofInt x = v) (k : WF G l cc own nL ret mn d mc ms F cells slots Ws (pc + 2) lv (vI x :: st)) : WF G l cc own nL ret mn d mc ms F cells slots Ws pc lv (st) := by
  intro p e s m args below meth c H locs ls N hS hP hl
  have h := k p e s m args below meth c H locs ls N hS hP hl
  unfold vI at h
  rw [hv] at h
  exact lv_ldc N.1 N.2.1 N.2.2.2.1 (N.2.2.1 _ hq) hdg h
theorem ww_ldc2 {index : Nat} {v : Int64} {x : Int} (hdg : decode cc pc = .ok (.ldc2_w index, 3)) (hq : Cond.constantLong own index v ∈ lw_all) (hv : Int64.ofInt x = v) (k : WF G l cc own nL ret mn d mc ms F cells slots Ws (pc + 3) lv (vL x :: st)) : WF G l cc own nL ret mn d mc ms F cells slots Ws pc lv (st) := by
  intro p e s m args below meth c H locs ls N hS hP hl
  have h := k p e s m args below meth c H locs ls N hS hP hl
  unfold vL at h
  rw [hv] at h
  exact lv_ldc2 N.1 N.2.1 N.2.2.2.1 (N.2.2.1 _ hq) hdg h
theorem ww_null  (hdg : decode cc pc = .ok (.aconst_null, 1)) (k : WF G l cc own nL ret mn d mc ms F cells slots Ws (pc + 1) lv (.null :: st)) : WF G l cc own nL ret mn d mc ms F cells slots Ws pc lv (st) := by
  intro p e s m args below meth c H locs ls N hS hP hl
  exact lv_null N.1 N.2.1 hdg (k p e s m args below meth c H locs ls N hS hP hl)
theorem ww_pop {v : Value} (hdg : decode cc pc = .ok (.pop, 1)) (hv : v.category = 1) (k : WF G l cc own nL ret mn d mc ms F cells slots Ws (pc + 1) lv (st)) : WF G l cc own nL ret mn d mc ms F cells slots Ws pc lv (v :: st) := by
  intro p e s m args below meth c H locs ls N hS hP hl
  exact lv_pop N.1 N.2.1 hdg hv (k p e s m args below meth c H locs ls N hS hP hl)
theorem ww_dup {v : Value} (hdg : decode cc pc = .ok (.dup, 1)) (hv : v.category = 1) (k : WF G l cc own nL ret mn d mc ms F cells slots Ws (pc + 1) lv (v :: v :: st)) : WF G l cc own nL ret mn d mc ms F cells slots Ws pc lv (v :: st) := by
  intro p e s m args below meth c H locs ls N hS hP hl
  exact lv_dup N.1 N.2.1 hdg hv (k p e s m args below meth c H locs ls N hS hP hl)
theorem ww_dup2 {v w : Value} (hdg : decode cc pc = .ok (.dup2, 1)) (hv : v.category = 1) (hw : w.category = 1) (k : WF G l cc own nL ret mn d mc ms F cells slots Ws (pc + 1) lv (v :: w :: v :: w :: st)) : WF G l cc own nL ret mn d mc ms F cells slots Ws pc lv (v :: w :: st) := by
  intro p e s m args below meth c H locs ls N hS hP hl
  exact lv_dup2_11 N.1 N.2.1 hdg hv hw (k p e s m args below meth c H locs ls N hS hP hl)
theorem ww_dup2_2 {v : Value} (hdg : decode cc pc = .ok (.dup2, 1)) (hv : v.category = 2) (k : WF G l cc own nL ret mn d mc ms F cells slots Ws (pc + 1) lv (v :: v :: st)) : WF G l cc own nL ret mn d mc ms F cells slots Ws pc lv (v :: st) := by
  intro p e s m args below meth c H locs ls N hS hP hl
  exact lv_dup2_2 N.1 N.2.1 hdg hv (k p e s m args below meth c H locs ls N hS hP hl)
theorem ww_dup_x1 {v w : Value} (hdg : decode cc pc = .ok (.dup_x1, 1)) (hv : v.category = 1) (hw : w.category = 1) (k : WF G l cc own nL ret mn d mc ms F cells slots Ws (pc + 1) lv (v :: w :: v :: st)) : WF G l cc own nL ret mn d mc ms F cells slots Ws pc lv (v :: w :: st) := by
  intro p e s m args below meth c H locs ls N hS hP hl
  exact lv_dup_x1 N.1 N.2.1 hdg hv hw (k p e s m args below meth c H locs ls N hS hP hl)
theorem ww_dup_x2 {v w u : Value} (hdg : decode cc pc = .ok (.dup_x2, 1)) (hv : v.category = 1) (hw : w.category = 1) (hu : u.category = 1) (k : WF G l cc own nL ret mn d mc ms F cells slots Ws (pc + 1) lv (v :: w :: u :: v :: st)) : WF G l cc own nL ret mn d mc ms F cells slots Ws pc lv (v :: w :: u :: st) := by
  intro p e s m args below meth c H locs ls N hS hP hl
  exact lv_dup_x2 N.1 N.2.1 hdg hv hw hu (k p e s m args below meth c H locs ls N hS hP hl)
theorem ww_iload_n {j : Fin 4} {x : Int} (hdg : decode cc pc = .ok (.iload_n j, 1)) (q : Nat) (hq : lv[q]? = some ((j : Nat), vI x)) (k : WF G l cc own nL ret mn d mc ms F cells slots Ws (pc + 1) lv (vI x :: st)) : WF G l cc own nL ret mn d mc ms F cells slots Ws pc lv st := by
  intro p e s m args below meth c H locs ls N hS hP hl
  exact lv_iload_n N.1 N.2.1 hdg rfl (lv_at hl q hq) (k p e s m args below meth c H locs ls N hS hP hl)
theorem ww_iload {i : Nat} {x : Int} (hdg : decode cc pc = .ok (.iload i, 2)) (q : Nat) (hq : lv[q]? = some (i, vI x)) (k : WF G l cc own nL ret mn d mc ms F cells slots Ws (pc + 2) lv (vI x :: st)) : WF G l cc own nL ret mn d mc ms F cells slots Ws pc lv st := by
  intro p e s m args below meth c H locs ls N hS hP hl
  exact lv_iload N.1 N.2.1 hdg (lv_at hl q hq) (k p e s m args below meth c H locs ls N hS hP hl)
theorem ww_lload_n {j : Fin 4} {x : Int} (hdg : decode cc pc = .ok (.lload_n j, 1)) (q : Nat) (hq : lv[q]? = some ((j : Nat), vL x)) (k : WF G l cc own nL ret mn d mc ms F cells slots Ws (pc + 1) lv (vL x :: st)) : WF G l cc own nL ret mn d mc ms F cells slots Ws pc lv st := by
  intro p e s m args below meth c H locs ls N hS hP hl
  exact lv_lload_n N.1 N.2.1 hdg rfl (lv_at hl q hq) (k p e s m args below meth c H locs ls N hS hP hl)
theorem ww_lload {i : Nat} {x : Int} (hdg : decode cc pc = .ok (.lload i, 2)) (q : Nat) (hq : lv[q]? = some (i, vL x)) (k : WF G l cc own nL ret mn d mc ms F cells slots Ws (pc + 2) lv (vL x :: st)) : WF G l cc own nL ret mn d mc ms F cells slots Ws pc lv st := by
  intro p e s m args below meth c H locs ls N hS hP hl
  exact lv_lload N.1 N.2.1 hdg (lv_at hl q hq) (k p e s m args below meth c H locs ls N hS hP hl)
theorem ww_aload_n {j : Fin 4} {x : Nat} (hdg : decode cc pc = .ok (.aload_n j, 1)) (q : Nat) (hq : lv[q]? = some ((j : Nat), .ref x)) (k : WF G l cc own nL ret mn d mc ms F cells slots Ws (pc + 1) lv (.ref x :: st)) : WF G l cc own nL ret mn d mc ms F cells slots Ws pc lv st := by
  intro p e s m args below meth c H locs ls N hS hP hl
  exact lv_aload_n N.1 N.2.1 hdg rfl (lv_at hl q hq) (k p e s m args below meth c H locs ls N hS hP hl)
theorem ww_aload {i : Nat} {x : Nat} (hdg : decode cc pc = .ok (.aload i, 2)) (q : Nat) (hq : lv[q]? = some (i, .ref x)) (k : WF G l cc own nL ret mn d mc ms F cells slots Ws (pc + 2) lv (.ref x :: st)) : WF G l cc own nL ret mn d mc ms F cells slots Ws pc lv st := by
  intro p e s m args below meth c H locs ls N hS hP hl
  exact lv_aload N.1 N.2.1 hdg (lv_at hl q hq) (k p e s m args below meth c H locs ls N hS hP hl)
theorem ww_aload_nN {j : Fin 4} (hdg : decode cc pc = .ok (.aload_n j, 1)) (q : Nat) (hq : lv[q]? = some ((j : Nat), .null)) (k : WF G l cc own nL ret mn d mc ms F cells slots Ws (pc + 1) lv (.null :: st)) : WF G l cc own nL ret mn d mc ms F cells slots Ws pc lv st := by
  intro p e s m args below meth c H locs ls N hS hP hl
  exact lv_aload_nN N.1 N.2.1 hdg rfl (lv_at hl q hq) (k p e s m args below meth c H locs ls N hS hP hl)
theorem ww_aloadN {i : Nat} (hdg : decode cc pc = .ok (.aload i, 2)) (q : Nat) (hq : lv[q]? = some (i, .null)) (k : WF G l cc own nL ret mn d mc ms F cells slots Ws (pc + 2) lv (.null :: st)) : WF G l cc own nL ret mn d mc ms F cells slots Ws pc lv st := by
  intro p e s m args below meth c H locs ls N hS hP hl
  exact lv_aloadN N.1 N.2.1 hdg (lv_at hl q hq) (k p e s m args below meth c H locs ls N hS hP hl)
theorem ww_istore_n {j : Fin 4} {i : Nat} {x : Int} {lv2 : List (Nat × Value)} (hdg : decode cc pc = .ok (.istore_n j, 1)) (hj : (j : Nat) = i) (hn : i < nL) (hv : (i, vI x) :: lv.filter (fun q => !(q.1 == i) && !(q.1 + 1 == i && q.2.category == 2)) = lv2) (k : WF G l cc own nL ret mn d mc ms F cells slots Ws (pc + 1) lv2 st) : WF G l cc own nL ret mn d mc ms F cells slots Ws pc lv (vI x :: st) := by
  intro p e s m args below meth c H locs ls N hS hP hl
  exact lv_istore_n N.1 N.2.1 hdg hj hl hn hv (fun ls2 hl2 => k p e s m args below meth c H locs ls2 N hS hP hl2)
theorem ww_istore {i : Nat} {x : Int} {lv2 : List (Nat × Value)} (hdg : decode cc pc = .ok (.istore i, 2)) (hn : i < nL) (hv : (i, vI x) :: lv.filter (fun q => !(q.1 == i) && !(q.1 + 1 == i && q.2.category == 2)) = lv2) (k : WF G l cc own nL ret mn d mc ms F cells slots Ws (pc + 2) lv2 st) : WF G l cc own nL ret mn d mc ms F cells slots Ws pc lv (vI x :: st) := by
  intro p e s m args below meth c H locs ls N hS hP hl
  exact lv_istore N.1 N.2.1 hdg hl hn hv (fun ls2 hl2 => k p e s m args below meth c H locs ls2 N hS hP hl2)
theorem ww_lstore_n {j : Fin 4} {i : Nat} {x : Int} {lv2 : List (Nat × Value)} (hdg : decode cc pc = .ok (.lstore_n j, 1)) (hj : (j : Nat) = i) (hn : i + 1 < nL) (hv : (i, vL x) :: lv.filter (fun q => !(q.1 == i) && (!(q.1 == i + 1) && !(q.1 + 1 == i && q.2.category == 2))) = lv2) (k : WF G l cc own nL ret mn d mc ms F cells slots Ws (pc + 1) lv2 st) : WF G l cc own nL ret mn d mc ms F cells slots Ws pc lv (vL x :: st) := by
  intro p e s m args below meth c H locs ls N hS hP hl
  exact lv_lstore_n N.1 N.2.1 hdg hj hl hn hv (fun ls2 hl2 => k p e s m args below meth c H locs ls2 N hS hP hl2)
theorem ww_lstore {i : Nat} {x : Int} {lv2 : List (Nat × Value)} (hdg : decode cc pc = .ok (.lstore i, 2)) (hn : i + 1 < nL) (hv : (i, vL x) :: lv.filter (fun q => !(q.1 == i) && (!(q.1 == i + 1) && !(q.1 + 1 == i && q.2.category == 2))) = lv2) (k : WF G l cc own nL ret mn d mc ms F cells slots Ws (pc + 2) lv2 st) : WF G l cc own nL ret mn d mc ms F cells slots Ws pc lv (vL x :: st) := by
  intro p e s m args below meth c H locs ls N hS hP hl
  exact lv_lstore N.1 N.2.1 hdg hl hn hv (fun ls2 hl2 => k p e s m args below meth c H locs ls2 N hS hP hl2)
theorem ww_astore_n {j : Fin 4} {i : Nat} {x : Nat} {lv2 : List (Nat × Value)} (hdg : decode cc pc = .ok (.astore_n j, 1)) (hj : (j : Nat) = i) (hn : i < nL) (hv : (i, .ref x) :: lv.filter (fun q => !(q.1 == i) && !(q.1 + 1 == i && q.2.category == 2)) = lv2) (k : WF G l cc own nL ret mn d mc ms F cells slots Ws (pc + 1) lv2 st) : WF G l cc own nL ret mn d mc ms F cells slots Ws pc lv (.ref x :: st) := by
  intro p e s m args below meth c H locs ls N hS hP hl
  exact lv_astore_n N.1 N.2.1 hdg hj hl hn hv (fun ls2 hl2 => k p e s m args below meth c H locs ls2 N hS hP hl2)
theorem ww_astore {i : Nat} {x : Nat} {lv2 : List (Nat × Value)} (hdg : decode cc pc = .ok (.astore i, 2)) (hn : i < nL) (hv : (i, .ref x) :: lv.filter (fun q => !(q.1 == i) && !(q.1 + 1 == i && q.2.category == 2)) = lv2) (k : WF G l cc own nL ret mn d mc ms F cells slots Ws (pc + 2) lv2 st) : WF G l cc own nL ret mn d mc ms F cells slots Ws pc lv (.ref x :: st) := by
  intro p e s m args below meth c H locs ls N hS hP hl
  exact lv_astore N.1 N.2.1 hdg hl hn hv (fun ls2 hl2 => k p e s m args below meth c H locs ls2 N hS hP hl2)
theorem ww_astore_nN {j : Fin 4} {i : Nat} {lv2 : List (Nat × Value)} (hdg : decode cc pc = .ok (.astore_n j, 1)) (hj : (j : Nat) = i) (hn : i < nL) (hv : (i, Value.null) :: lv.filter (fun q => !(q.1 == i) && !(q.1 + 1 == i && q.2.category == 2)) = lv2) (k : WF G l cc own nL ret mn d mc ms F cells slots Ws (pc + 1) lv2 st) : WF G l cc own nL ret mn d mc ms F cells slots Ws pc lv (.null :: st) := by
  intro p e s m args below meth c H locs ls N hS hP hl
  exact lv_astore_nN N.1 N.2.1 hdg hj hl hn hv (fun ls2 hl2 => k p e s m args below meth c H locs ls2 N hS hP hl2)
theorem ww_astoreN {i : Nat} {lv2 : List (Nat × Value)} (hdg : decode cc pc = .ok (.astore i, 2)) (hn : i < nL) (hv : (i, Value.null) :: lv.filter (fun q => !(q.1 == i) && !(q.1 + 1 == i && q.2.category == 2)) = lv2) (k : WF G l cc own nL ret mn d mc ms F cells slots Ws (pc + 2) lv2 st) : WF G l cc own nL ret mn d mc ms F cells slots Ws pc lv (.null :: st) := by
  intro p e s m args below meth c H locs ls N hS hP hl
  exact lv_astoreN N.1 N.2.1 hdg hl hn hv (fun ls2 hl2 => k p e s m args below meth c H locs ls2 N hS hP hl2)
theorem ww_iinc {i : Nat} {n x : Int} {lv2 : List (Nat × Value)} (hdg : decode cc pc = .ok (.iinc i n, 3)) (q : Nat) (hq : lv[q]? = some (i, vI x)) (hn : i < nL) (hv : (i, vI (x + n)) :: lv.filter (fun q => !(q.1 == i) && !(q.1 + 1 == i && q.2.category == 2)) = lv2) (k : WF G l cc own nL ret mn d mc ms F cells slots Ws (pc + 3) lv2 st) : WF G l cc own nL ret mn d mc ms F cells slots Ws pc lv st := by
  intro p e s m args below meth c H locs ls N hS hP hl
  exact lv_iinc N.1 N.2.1 hdg hl (k := q) hq (Int32.ofInt_add x n).symm hn hv (fun ls2 hl2 => k p e s m args below meth c H locs ls2 N hS hP hl2)
theorem ww_lv {lv2 : List (Nat × Value)} (qs : List Nat) (hv : lv_pick lv qs = lv2) (k : WF G l cc own nL ret mn d mc ms F cells slots Ws pc lv2 st) : WF G l cc own nL ret mn d mc ms F cells slots Ws pc lv st := by
  intro p e s m args below meth c H locs ls N hS hP hl
  exact k p e s m args below meth c H locs ls N hS hP (lv_sub hl qs hv)
theorem ww_goto {off : Int} {tgt : Nat} (hdg : decode cc pc = .ok (.goto off, 3)) (ht : (pc : Int) + off = (tgt : Int)) (k : WF G l cc own nL ret mn d mc ms F cells slots Ws tgt lv st) : WF G l cc own nL ret mn d mc ms F cells slots Ws pc lv st := by
  intro p e s m args below meth c H locs ls N hS hP hl
  exact lv_goto N.1 N.2.1 hdg ht (k p e s m args below meth c H locs ls N hS hP hl)
theorem ww_icmp_eq {x y off : Int} {tgt : Nat} (hdg : decode cc pc = .ok (.if_icmp .eq off, 3)) (ht : (pc : Int) + off = (tgt : Int)) (hx : rI x) (hy : rI y) (kt : x = y → WF G l cc own nL ret mn d mc ms F cells slots Ws tgt lv st) (kf : ¬ x = y → WF G l cc own nL ret mn d mc ms F cells slots Ws (pc + 3) lv st) : WF G l cc own nL ret mn d mc ms F cells slots Ws pc lv (vI y :: vI x :: st) := by
  intro p e s m args below meth c H locs ls N hS hP hl
  exact lv_icmp_eq N.1 N.2.1 hdg ht (fun h => (fun h => kt ((iI_eq hx hy).mp h)) h p e s m args below meth c H locs ls N hS hP hl) (fun h => (fun h => kf (fun z => h ((iI_eq hx hy).mpr z))) h p e s m args below meth c H locs ls N hS hP hl)
theorem ww_if_eq {x off : Int} {tgt : Nat} (hdg : decode cc pc = .ok (.ifCond .eq off, 3)) (ht : (pc : Int) + off = (tgt : Int)) (hx : rI x) (kt : x = 0 → WF G l cc own nL ret mn d mc ms F cells slots Ws tgt lv st) (kf : ¬ x = 0 → WF G l cc own nL ret mn d mc ms F cells slots Ws (pc + 3) lv st) : WF G l cc own nL ret mn d mc ms F cells slots Ws pc lv (vI x :: st) := by
  intro p e s m args below meth c H locs ls N hS hP hl
  exact lv_if_eq N.1 N.2.1 hdg ht (fun h => (fun h => kt ((iI_eq hx r0).mp h)) h p e s m args below meth c H locs ls N hS hP hl) (fun h => (fun h => kf (fun z => h ((iI_eq hx r0).mpr z))) h p e s m args below meth c H locs ls N hS hP hl)
theorem ww_icmp_ne {x y off : Int} {tgt : Nat} (hdg : decode cc pc = .ok (.if_icmp .ne off, 3)) (ht : (pc : Int) + off = (tgt : Int)) (hx : rI x) (hy : rI y) (kt : ¬ x = y → WF G l cc own nL ret mn d mc ms F cells slots Ws tgt lv st) (kf : x = y → WF G l cc own nL ret mn d mc ms F cells slots Ws (pc + 3) lv st) : WF G l cc own nL ret mn d mc ms F cells slots Ws pc lv (vI y :: vI x :: st) := by
  intro p e s m args below meth c H locs ls N hS hP hl
  exact lv_icmp_ne N.1 N.2.1 hdg ht (fun h => (fun h => kt (fun z => h ((iI_eq hx hy).mpr z))) h p e s m args below meth c H locs ls N hS hP hl) (fun h => (fun h => kf ((iI_eq hx hy).mp h)) h p e s m args below meth c H locs ls N hS hP hl)
theorem ww_if_ne {x off : Int} {tgt : Nat} (hdg : decode cc pc = .ok (.ifCond .ne off, 3)) (ht : (pc : Int) + off = (tgt : Int)) (hx : rI x) (kt : ¬ x = 0 → WF G l cc own nL ret mn d mc ms F cells slots Ws tgt lv st) (kf : x = 0 → WF G l cc own nL ret mn d mc ms F cells slots Ws (pc + 3) lv st) : WF G l cc own nL ret mn d mc ms F cells slots Ws pc lv (vI x :: st) := by
  intro p e s m args below meth c H locs ls N hS hP hl
  exact lv_if_ne N.1 N.2.1 hdg ht (fun h => (fun h => kt (fun z => h ((iI_eq hx r0).mpr z))) h p e s m args below meth c H locs ls N hS hP hl) (fun h => (fun h => kf ((iI_eq hx r0).mp h)) h p e s m args below meth c H locs ls N hS hP hl)
theorem ww_icmp_ge {x y off : Int} {tgt : Nat} (hdg : decode cc pc = .ok (.if_icmp .ge off, 3)) (ht : (pc : Int) + off = (tgt : Int)) (hx : rI x) (hy : rI y) (kt : y ≤ x → WF G l cc own nL ret mn d mc ms F cells slots Ws tgt lv st) (kf : ¬ y ≤ x → WF G l cc own nL ret mn d mc ms F cells slots Ws (pc + 3) lv st) : WF G l cc own nL ret mn d mc ms F cells slots Ws pc lv (vI y :: vI x :: st) := by
  intro p e s m args below meth c H locs ls N hS hP hl
  exact lv_icmp_ge N.1 N.2.1 hdg ht (fun h => (fun h => kt ((iI_le hy hx).mp h)) h p e s m args below meth c H locs ls N hS hP hl) (fun h => (fun h => kf (fun z => h ((iI_le hy hx).mpr z))) h p e s m args below meth c H locs ls N hS hP hl)
theorem ww_if_ge {x off : Int} {tgt : Nat} (hdg : decode cc pc = .ok (.ifCond .ge off, 3)) (ht : (pc : Int) + off = (tgt : Int)) (hx : rI x) (kt : 0 ≤ x → WF G l cc own nL ret mn d mc ms F cells slots Ws tgt lv st) (kf : ¬ 0 ≤ x → WF G l cc own nL ret mn d mc ms F cells slots Ws (pc + 3) lv st) : WF G l cc own nL ret mn d mc ms F cells slots Ws pc lv (vI x :: st) := by
  intro p e s m args below meth c H locs ls N hS hP hl
  exact lv_if_ge N.1 N.2.1 hdg ht (fun h => (fun h => kt ((iI_le r0 hx).mp h)) h p e s m args below meth c H locs ls N hS hP hl) (fun h => (fun h => kf (fun z => h ((iI_le r0 hx).mpr z))) h p e s m args below meth c H locs ls N hS hP hl)
theorem ww_icmp_gt {x y off : Int} {tgt : Nat} (hdg : decode cc pc = .ok (.if_icmp .gt off, 3)) (ht : (pc : Int) + off = (tgt : Int)) (hx : rI x) (hy : rI y) (kt : y < x → WF G l cc own nL ret mn d mc ms F cells slots Ws tgt lv st) (kf : ¬ y < x → WF G l cc own nL ret mn d mc ms F cells slots Ws (pc + 3) lv st) : WF G l cc own nL ret mn d mc ms F cells slots Ws pc lv (vI y :: vI x :: st) := by
  intro p e s m args below meth c H locs ls N hS hP hl
  exact lv_icmp_gt N.1 N.2.1 hdg ht (fun h => (fun h => kt ((iI_lt hy hx).mp h)) h p e s m args below meth c H locs ls N hS hP hl) (fun h => (fun h => kf (fun z => h ((iI_lt hy hx).mpr z))) h p e s m args below meth c H locs ls N hS hP hl)
theorem ww_if_gt {x off : Int} {tgt : Nat} (hdg : decode cc pc = .ok (.ifCond .gt off, 3)) (ht : (pc : Int) + off = (tgt : Int)) (hx : rI x) (kt : 0 < x → WF G l cc own nL ret mn d mc ms F cells slots Ws tgt lv st) (kf : ¬ 0 < x → WF G l cc own nL ret mn d mc ms F cells slots Ws (pc + 3) lv st) : WF G l cc own nL ret mn d mc ms F cells slots Ws pc lv (vI x :: st) := by
  intro p e s m args below meth c H locs ls N hS hP hl
  exact lv_if_gt N.1 N.2.1 hdg ht (fun h => (fun h => kt ((iI_lt r0 hx).mp h)) h p e s m args below meth c H locs ls N hS hP hl) (fun h => (fun h => kf (fun z => h ((iI_lt r0 hx).mpr z))) h p e s m args below meth c H locs ls N hS hP hl)
theorem ww_icmp_le {x y off : Int} {tgt : Nat} (hdg : decode cc pc = .ok (.if_icmp .le off, 3)) (ht : (pc : Int) + off = (tgt : Int)) (hx : rI x) (hy : rI y) (kt : x ≤ y → WF G l cc own nL ret mn d mc ms F cells slots Ws tgt lv st) (kf : ¬ x ≤ y → WF G l cc own nL ret mn d mc ms F cells slots Ws (pc + 3) lv st) : WF G l cc own nL ret mn d mc ms F cells slots Ws pc lv (vI y :: vI x :: st) := by
  intro p e s m args below meth c H locs ls N hS hP hl
  exact lv_icmp_le N.1 N.2.1 hdg ht (fun h => (fun h => kt ((iI_le hx hy).mp h)) h p e s m args below meth c H locs ls N hS hP hl) (fun h => (fun h => kf (fun z => h ((iI_le hx hy).mpr z))) h p e s m args below meth c H locs ls N hS hP hl)
theorem ww_if_le {x off : Int} {tgt : Nat} (hdg : decode cc pc = .ok (.ifCond .le off, 3)) (ht : (pc : Int) + off = (tgt : Int)) (hx : rI x) (kt : x ≤ 0 → WF G l cc own nL ret mn d mc ms F cells slots Ws tgt lv st) (kf : ¬ x ≤ 0 → WF G l cc own nL ret mn d mc ms F cells slots Ws (pc + 3) lv st) : WF G l cc own nL ret mn d mc ms F cells slots Ws pc lv (vI x :: st) := by
  intro p e s m args below meth c H locs ls N hS hP hl
  exact lv_if_le N.1 N.2.1 hdg ht (fun h => (fun h => kt ((iI_le hx r0).mp h)) h p e s m args below meth c H locs ls N hS hP hl) (fun h => (fun h => kf (fun z => h ((iI_le hx r0).mpr z))) h p e s m args below meth c H locs ls N hS hP hl)
theorem ww_icmp_lt {x y off : Int} {tgt : Nat} (hdg : decode cc pc = .ok (.if_icmp .lt off, 3)) (ht : (pc : Int) + off = (tgt : Int)) (hx : rI x) (hy : rI y) (kt : x < y → WF G l cc own nL ret mn d mc ms F cells slots Ws tgt lv st) (kf : ¬ x < y → WF G l cc own nL ret mn d mc ms F cells slots Ws (pc + 3) lv st) : WF G l cc own nL ret mn d mc ms F cells slots Ws pc lv (vI y :: vI x :: st) := by
  intro p e s m args below meth c H locs ls N hS hP hl
  exact lv_icmp_lt N.1 N.2.1 hdg ht (fun h => (fun h => kt ((iI_lt hx hy).mp h)) h p e s m args below meth c H locs ls N hS hP hl) (fun h => (fun h => kf (fun z => h ((iI_lt hx hy).mpr z))) h p e s m args below meth c H locs ls N hS hP hl)
theorem ww_if_lt {x off : Int} {tgt : Nat} (hdg : decode cc pc = .ok (.ifCond .lt off, 3)) (ht : (pc : Int) + off = (tgt : Int)) (hx : rI x) (kt : x < 0 → WF G l cc own nL ret mn d mc ms F cells slots Ws tgt lv st) (kf : ¬ x < 0 → WF G l cc own nL ret mn d mc ms F cells slots Ws (pc + 3) lv st) : WF G l cc own nL ret mn d mc ms F cells slots Ws pc lv (vI x :: st) := by
  intro p e s m args below meth c H locs ls N hS hP hl
  exact lv_if_lt N.1 N.2.1 hdg ht (fun h => (fun h => kt ((iI_lt hx r0).mp h)) h p e s m args below meth c H locs ls N hS hP hl) (fun h => (fun h => kf (fun z => h ((iI_lt hx r0).mpr z))) h p e s m args below meth c H locs ls N hS hP hl)
theorem ww_lcmp {x y : Int} (hdg : decode cc pc = .ok (.lcmp, 1)) (hx : rL x) (hy : rL y) (k : WF G l cc own nL ret mn d mc ms F cells slots Ws (pc + 1) lv (vI (if x < y then -1 else if x = y then 0 else 1) :: st)) : WF G l cc own nL ret mn d mc ms F cells slots Ws pc lv (vL y :: vL x :: st) := by
  intro p e s m args below meth c H locs ls N hS hP hl
  have h := k p e s m args below meth c H locs ls N hS hP hl
  refine W.lcmp N.1 N.2.1 hdg ?_
  have e : Value.int (lg_cmp (Int64.ofInt x) (Int64.ofInt y)) = vI (if x < y then -1 else if x = y then 0 else 1) := by
    unfold lg_cmp vI
    simp only [gt_iff_lt, iL_lt hy hx, iL_eq hx hy]
    by_cases h1 : x < y
    · rw [if_neg (show ¬ y < x by omega), if_neg (show ¬ x = y by omega), if_pos h1]; rfl
    · by_cases h2 : x = y
      · rw [if_neg (show ¬ y < x by omega), if_pos h2, if_neg h1, if_pos h2]; rfl
      · rw [if_pos (show y < x by omega), if_neg h1, if_neg h2]; rfl
  rw [e]
  exact h
theorem ww_ifnull {a : Nat} {off : Int} {tgt : Nat} (hdg : decode cc pc = .ok (.ifnull off, 3)) (ht : (pc : Int) + off = (tgt : Int)) (k : WF G l cc own nL ret mn d mc ms F cells slots Ws (pc + 3) lv st) : WF G l cc own nL ret mn d mc ms F cells slots Ws pc lv (.ref a :: st) := by
  intro p e s m args below meth c H locs ls N hS hP hl
  exact lv_ifnull N.1 N.2.1 hdg (k p e s m args below meth c H locs ls N hS hP hl)
theorem ww_ifnullN {off : Int} {tgt : Nat} (hdg : decode cc pc = .ok (.ifnull off, 3)) (ht : (pc : Int) + off = (tgt : Int)) (k : WF G l cc own nL ret mn d mc ms F cells slots Ws (tgt) lv st) : WF G l cc own nL ret mn d mc ms F cells slots Ws pc lv (.null :: st) := by
  intro p e s m args below meth c H locs ls N hS hP hl
  exact lv_ifnullN N.1 N.2.1 hdg ht (k p e s m args below meth c H locs ls N hS hP hl)
theorem ww_ifnonnull {a : Nat} {off : Int} {tgt : Nat} (hdg : decode cc pc = .ok (.ifnonnull off, 3)) (ht : (pc : Int) + off = (tgt : Int)) (k : WF G l cc own nL ret mn d mc ms F cells slots Ws (tgt) lv st) : WF G l cc own nL ret mn d mc ms F cells slots Ws pc lv (.ref a :: st) := by
  intro p e s m args below meth c H locs ls N hS hP hl
  exact lv_ifnonnull N.1 N.2.1 hdg ht (k p e s m args below meth c H locs ls N hS hP hl)
theorem ww_ifnonnullN {off : Int} {tgt : Nat} (hdg : decode cc pc = .ok (.ifnonnull off, 3)) (ht : (pc : Int) + off = (tgt : Int)) (k : WF G l cc own nL ret mn d mc ms F cells slots Ws (pc + 3) lv st) : WF G l cc own nL ret mn d mc ms F cells slots Ws pc lv (.null :: st) := by
  intro p e s m args below meth c H locs ls N hS hP hl
  exact lv_ifnonnullN N.1 N.2.1 hdg (k p e s m args below meth c H locs ls N hS hP hl)
theorem ww_acmp_eq {rx ry : Option Nat} {off : Int} {tgt : Nat} (hdg : decode cc pc = .ok (.if_acmp .eq off, 3)) (ht : (pc : Int) + off = (tgt : Int)) (kt : rx = ry → WF G l cc own nL ret mn d mc ms F cells slots Ws tgt lv st) (kf : ¬ rx = ry → WF G l cc own nL ret mn d mc ms F cells slots Ws (pc + 3) lv st) : WF G l cc own nL ret mn d mc ms F cells slots Ws pc lv (va_rf ry :: va_rf rx :: st) := by
  intro p e s m args below meth c H locs ls N hS hP hl
  exact lv_acmp_eq N.1 N.2.1 hdg ht (fun h => kt h p e s m args below meth c H locs ls N hS hP hl) (fun h => kf h p e s m args below meth c H locs ls N hS hP hl)
theorem ww_acmp_ne {rx ry : Option Nat} {off : Int} {tgt : Nat} (hdg : decode cc pc = .ok (.if_acmp .ne off, 3)) (ht : (pc : Int) + off = (tgt : Int)) (kt : ¬ rx = ry → WF G l cc own nL ret mn d mc ms F cells slots Ws tgt lv st) (kf : rx = ry → WF G l cc own nL ret mn d mc ms F cells slots Ws (pc + 3) lv st) : WF G l cc own nL ret mn d mc ms F cells slots Ws pc lv (va_rf ry :: va_rf rx :: st) := by
  intro p e s m args below meth c H locs ls N hS hP hl
  exact lv_acmp_ne N.1 N.2.1 hdg ht (fun h => kt h p e s m args below meth c H locs ls N hS hP hl) (fun h => kf h p e s m args below meth c H locs ls N hS hP hl)
theorem ww_tableIn {dflt lo hi : Int} {offs : Array Int} {len : Nat} {x off : Int} {tgt : Nat} (hdg : decode cc pc = .ok (.tableswitch dflt lo hi offs, len)) (hx : rI x) (h1 : lo ≤ x) (h2 : x ≤ hi) (ho : offs[(x - lo).toNat]? = some off) (ht : (pc : Int) + off = (tgt : Int)) (k : WF G l cc own nL ret mn d mc ms F cells slots Ws tgt lv st) : WF G l cc own nL ret mn d mc ms F cells slots Ws pc lv (vI x :: st) := by
  intro p e s m args below meth c H locs ls N hS hP hl
  refine lv_tableIn N.1 N.2.1 hdg (off := off) (by rw [rI_toInt hx]; omega) (by rw [rI_toInt hx]; omega) (by rw [rI_toInt hx]; exact ho) ht (k p e s m args below meth c H locs ls N hS hP hl)
theorem ww_tableOut {dflt lo hi : Int} {offs : Array Int} {len : Nat} {x : Int} {tgt : Nat} (hdg : decode cc pc = .ok (.tableswitch dflt lo hi offs, len)) (hx : rI x) (h : x < lo ∨ hi < x) (ht : (pc : Int) + dflt = (tgt : Int)) (k : WF G l cc own nL ret mn d mc ms F cells slots Ws tgt lv st) : WF G l cc own nL ret mn d mc ms F cells slots Ws pc lv (vI x :: st) := by
  intro p e s m args below meth c H locs ls N hS hP hl
  exact lv_tableOut N.1 N.2.1 hdg (by rw [rI_toInt hx]; exact h) ht (k p e s m args below meth c H locs ls N hS hP hl)
theorem ww_lookup {dflt : Int} {ps : Array (Int × Int)} {len : Nat} {x off : Int} {tgt : Nat} (hdg : decode cc pc = .ok (.lookupswitch dflt ps, len)) (hp : (ps.toList.zip (ps.toList.drop 1)).all (fun (a, next) => a.1 < next.1) = true) (ho : Op.lookupswitch.offset ps.toList dflt (Int32.ofInt x).toInt = off) (ht : (pc : Int) + off = (tgt : Int)) (k : WF G l cc own nL ret mn d mc ms F cells slots Ws tgt lv st) : WF G l cc own nL ret mn d mc ms F cells slots Ws pc lv (vI x :: st) := by
  intro p e s m args below meth c H locs ls N hS hP hl
  exact lv_lookup N.1 N.2.1 hdg hp ho ht (k p e s m args below meth c H locs ls N hS hP hl)
theorem ww_cs {c2 s2 : Nat} (h1 : cells ≤ c2) (h2 : slots ≤ s2) (k : WF G l cc own nL ret mn d mc ms F c2 s2 Ws pc lv st) : WF G l cc own nL ret mn d mc ms F cells slots Ws pc lv st := by
  intro p e s m args below meth c H locs ls N hS hP hl
  exact W.widen h1 h2 (k p e s m args below meth c H locs ls N hS hP hl)
theorem ww_ws {Ws2 : List va_W} (h : Ws.flatten = Ws2.flatten) (k : WF G l cc own nL ret mn d mc ms F cells slots Ws2 pc lv st) : WF G l cc own nL ret mn d mc ms F cells slots Ws pc lv st := by
  intro p e s m args below meth c H locs ls N hS hP hl
  exact k p e s m args below meth c H locs ls N hS (hP.of h) hl
theorem ww_eq {Ws2 : List va_W} {lv2 : List (Nat × Value)} {st2 : List Value} (h : Ws = Ws2) (h2 : lv = lv2) (h3 : st = st2) (k : WF G l cc own nL ret mn d mc ms F cells slots Ws2 pc lv2 st2) : WF G l cc own nL ret mn d mc ms F cells slots Ws pc lv st := by
  subst h; subst h2; subst h3; exact k
end ROWS
