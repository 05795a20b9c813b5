/-! the classes whose objects are made, by number -/
set_option maxRecDepth 100000
def gT0 : u_T := fun _ => ("", "", "", false)
def gCl : List vw_C := [(RX1, TX1, 22), (RX2, TX2, 5), (RX5, TX5, 12), (RX6, TX6, 46), (RX8, TX8, 6), (RX9, TX9, 8), (RX10, TX10, 3), (RX11, TX11, 2), (RX12, TX12, 2), (RX13, TX13, 5), (RX14, TX14, 1), (RX4, TX4, 1), (RX21, TX21, 2), (RX22, TX22, 2), (RX18, TX18, 2), (RX19, TX19, 2), (RX20, TX20, 2), (RX16, TX16, 2), (RX17, TX17, 2), (RX23, TX23, 6), (RX26, TX26, 1), (RX27, gT0, 0), (RX28, gT0, 0), (RX29, TX29, 2), (RX30, TX30, 2), (RX31, gT0, 0), (RX32, TX32, 2), (RX33, TX33, 8), (RJ2, TJ2, 3), (RJ8, TJ8, 4), (RJ9, TJ9, 4), (RJ6, gT0, 0), (RJ18, gT0, 0)]
/-- what is known of a class by its number -/
def gOkC (r : vw_C) : Prop := (∀ w ∈ u_ws r.1 r.2.1 r.2.2, w ∈ lw_all) ∧ (∃ ty0 : Nat → FieldType, ∀ k, k < r.2.2 → parseFieldDescriptor (r.2.1 k).2.2.1 = some (ty0 k)) ∧ (∀ a, a < r.2.2 → ∀ b, b < r.2.2 → a ≠ b → (r.2.1 a).2.1 ≠ (r.2.1 b).2.1)
theorem gOkC_0 (C : String) (T : u_T) : gOkC (C, T, 0) := ⟨fun w h => absurd h (by show ¬ w ∈ []; exact List.not_mem_nil), ⟨fun _ => .int, fun k h => absurd h (Nat.not_lt_zero k)⟩, fun a h => absurd h (Nat.not_lt_zero a)⟩
theorem gCl_ok : ∀ (ci : Nat) (r : vw_C), gCl[ci]? = some r → gOkC r := by
  intro ci r h
  match ci, h with
  | 0, h => cases h; exact ⟨in_X1, ⟨tyX1, tyX1_ok⟩, nmX1⟩
  | 1, h => cases h; exact ⟨in_X2, ⟨tyX2, tyX2_ok⟩, nmX2⟩
  | 2, h => cases h; exact ⟨in_X5, ⟨tyX5, tyX5_ok⟩, nmX5⟩
  | 3, h => cases h; exact ⟨in_X6, ⟨tyX6, tyX6_ok⟩, nmX6⟩
  | 4, h => cases h; exact ⟨in_X8, ⟨tyX8, tyX8_ok⟩, nmX8⟩
  | 5, h => cases h; exact ⟨in_X9, ⟨tyX9, tyX9_ok⟩, nmX9⟩
  | 6, h => cases h; exact ⟨in_X10, ⟨tyX10, tyX10_ok⟩, nmX10⟩
  | 7, h => cases h; exact ⟨in_X11, ⟨tyX11, tyX11_ok⟩, nmX11⟩
  | 8, h => cases h; exact ⟨in_X12, ⟨tyX12, tyX12_ok⟩, nmX12⟩
  | 9, h => cases h; exact ⟨in_X13, ⟨tyX13, tyX13_ok⟩, nmX13⟩
  | 10, h => cases h; exact ⟨in_X14, ⟨tyX14, tyX14_ok⟩, nmX14⟩
  | 11, h => cases h; exact ⟨in_X4, ⟨tyX4, tyX4_ok⟩, nmX4⟩
  | 12, h => cases h; exact ⟨in_X21, ⟨tyX21, tyX21_ok⟩, nmX21⟩
  | 13, h => cases h; exact ⟨in_X22, ⟨tyX22, tyX22_ok⟩, nmX22⟩
  | 14, h => cases h; exact ⟨in_X18, ⟨tyX18, tyX18_ok⟩, nmX18⟩
  | 15, h => cases h; exact ⟨in_X19, ⟨tyX19, tyX19_ok⟩, nmX19⟩
  | 16, h => cases h; exact ⟨in_X20, ⟨tyX20, tyX20_ok⟩, nmX20⟩
  | 17, h => cases h; exact ⟨in_X16, ⟨tyX16, tyX16_ok⟩, nmX16⟩
  | 18, h => cases h; exact ⟨in_X17, ⟨tyX17, tyX17_ok⟩, nmX17⟩
  | 19, h => cases h; exact ⟨in_X23, ⟨tyX23, tyX23_ok⟩, nmX23⟩
  | 20, h => cases h; exact ⟨in_X26, ⟨tyX26, tyX26_ok⟩, nmX26⟩
  | 21, h => cases h; exact gOkC_0 _ _
  | 22, h => cases h; exact gOkC_0 _ _
  | 23, h => cases h; exact ⟨in_X29, ⟨tyX29, tyX29_ok⟩, nmX29⟩
  | 24, h => cases h; exact ⟨in_X30, ⟨tyX30, tyX30_ok⟩, nmX30⟩
  | 25, h => cases h; exact gOkC_0 _ _
  | 26, h => cases h; exact ⟨in_X32, ⟨tyX32, tyX32_ok⟩, nmX32⟩
  | 27, h => cases h; exact ⟨in_X33, ⟨tyX33, tyX33_ok⟩, nmX33⟩
  | 28, h => cases h; exact ⟨in_J2, ⟨tyJ2, tyJ2_ok⟩, nmJ2⟩
  | 29, h => cases h; exact ⟨in_J8, ⟨tyJ8, tyJ8_ok⟩, nmJ8⟩
  | 30, h => cases h; exact ⟨in_J9, ⟨tyJ9, tyJ9_ok⟩, nmJ9⟩
  | 31, h => cases h; exact gOkC_0 _ _
  | 32, h => cases h; exact gOkC_0 _ _
  | k + 33, h => exact absurd h (by show ¬ (([] : List vw_C)[k]? = some r); simp)
/-! ===== THE ABSTRACT HEAP: all cells made since the law's start ===== -/
/-- a cell: may it be written; an object (number of its class, fields) or an array (kind, length and content) -/
abbrev gE : Type := Bool × ((Nat × List Value) ⊕ (Nat × vp_A))
/-- constants of a run: where the law's own cells begin; the addresses of the String constants; static references -/
abbrev gK : Type := Nat × (Nat → Nat) × (Nat → Option Nat)
/-- cells, the next address, slots used, constants -/
abbrev gS : Type := (Nat → Option gE) × Nat × Nat × gK
abbrev gD : Type := va_G × (Nat → ClassId)
def gTy (kd : Nat) : FieldType := match kd with
  | 0 => .int
  | 1 => .byte
  | 2 => .long
  | 3 => .object "java/lang/Object"
  | 4 => .object "VowelChoir$Choir"
  | _ => .array .int
abbrev gTys (D : gD) : List (ClassId × FieldType) := [(D.2 0, .int), (D.2 1, .byte), (D.2 2, .long), (D.2 3, .object "java/lang/Object"), (D.2 4, .object "VowelChoir$Choir"), (D.2 5, .array .int)]
def gUB : Nat := 7293034
def gLim (K : gK) : Nat := K.1 + 601024
def gA (K : gK) : Nat → Prop := fun q => K.1 ≤ q
/-- what a byte array holds are bytes -/
def gFit (o : Nat × vp_A) : Prop := o.1 = 1 → ∀ f : Nat → Int32, o.2.2 = .inl f → ∀ j, fits .byte (.int (f j)) = true
def gAt (D : gD) (a : Nat) (e : gE) (H : Heap) : Prop := match e.2 with
  | .inl o => ∃ r : vw_C, gCl[o.1]? = some r ∧ ∃ cell : Cell, H[a]? = some cell ∧ cell.cls = D.1.1 o.1 ∧ cell.vm.isStatics = false ∧ cell.vm ≠ .unknown ∧ (e.1 = true → cell.vm = .none) ∧ ∀ k, k < r.2.2 → cell.slots[D.1.2 o.1 k]? = some (vp_V o.2 k)
  | .inr o => o.1 < 6 ∧ gFit o ∧ ∃ cell : Cell, H[a]? = some cell ∧ cell.cls = D.2 o.1 ∧ cell.vm.isStatics = false ∧ cell.vm ≠ .unknown ∧ (e.1 = true → cell = vp_cell (D.2 o.1) o.2) ∧ (o.2.1 ≤ cell.slots.size ∧ cell.slots.size.toInt32 = Int32.ofNat o.2.1) ∧ ∀ j, j < o.2.1 → cell.slots[j]? = (vp_cell (D.2 o.1) o.2).slots[j]?
def gH (D : gD) (K : gK) (S : gS) (H : Heap) : Prop := S.2.2.2 = K ∧ H.size = S.2.1 ∧ S.2.1 ≤ gLim K ∧ S.2.2.1 ≤ gUB ∧ ∀ (a : Nat) (e : gE), S.1 a = some e → gAt D a e H ∧ (e.1 = true → K.1 ≤ a)
theorem gAt.kept {D : gD} {a : Nat} {e : gE} {H H1 : Heap} (h : gAt D a e H) (hq : H1[a]? = H[a]?) : gAt D a e H1 := by
  obtain ⟨b, o | o⟩ := e
  · obtain ⟨r, h1, cell, h2, h3⟩ := h
    exact ⟨r, h1, cell, hq.trans h2, h3⟩
  · obtain ⟨h0, h1, cell, h2, h3⟩ := h
    exact ⟨h0, h1, cell, hq.trans h2, h3⟩
theorem gAt.lt {D : gD} {a : Nat} {e : gE} {H : Heap} (h : gAt D a e H) : a < H.size := by
  obtain ⟨b, o | o⟩ := e
  · obtain ⟨r, h1, cell, h2, -⟩ := h
    exact (Array.getElem?_eq_some_iff.mp h2).1
  · obtain ⟨h0, h1, cell, h2, -⟩ := h
    exact (Array.getElem?_eq_some_iff.mp h2).1
theorem gCell_arr (cA : ClassId) (a : vp_A) : ∃ f : Nat → Value, vp_cell cA a = arrV cA a.1 f := by
  obtain ⟨n, f | f | f | f | f⟩ := a
  · exact ⟨fun j => .int (f j), rfl⟩
  · exact ⟨fun j => .long (f j), rfl⟩
  · exact ⟨fun j => .float (f j), rfl⟩
  · exact ⟨fun j => .double (f j), rfl⟩
  · exact ⟨fun j => va_rf (f j), rfl⟩
theorem gAt.tob {D : gD} {a ci : Nat} {fs : List Value} {H : Heap} (h : gAt D a (true, .inl (ci, fs)) H) : ∃ r : vw_C, gCl[ci]? = some r ∧ t_OB a (D.1.1 ci) r.2.2 (D.1.2 ci) H (vp_V fs) := by
  obtain ⟨r, h1, cell, h2, h3, h4, h5, h6, h7⟩ := h
  exact ⟨r, h1, cell, h2, h3, h6 rfl, h7⟩
theorem gAt.of_tob {D : gD} {a ci : Nat} {fs : List Value} {H : Heap} {b : Bool} (h : ∃ r : vw_C, gCl[ci]? = some r ∧ t_OB a (D.1.1 ci) r.2.2 (D.1.2 ci) H (vp_V fs)) : gAt D a (b, .inl (ci, fs)) H := by
  obtain ⟨r, h1, cell, h2, h3, h4, h5⟩ := h
  exact ⟨r, h1, cell, h2, h3, by rw [h4]; rfl, (by rw [h4]; exact (fun q => nomatch q)), fun _ => h4, h5⟩
theorem gAt.arr {D : gD} {a : Nat} {o : Nat × vp_A} {H : Heap} (h : gAt D a (true, .inr o) H) : o.1 < 6 ∧ H[a]? = some (vp_cell (D.2 o.1) o.2) ∧ gFit o := by
  obtain ⟨h0, h1, cell, h2, h3, h4, h5, h6, h7⟩ := h
  exact ⟨h0, by rw [h2, h6 rfl], h1⟩
theorem gAt.of_arr {D : gD} {a : Nat} {o : Nat × vp_A} {H : Heap} {b : Bool} (h : o.1 < 6 ∧ H[a]? = some (vp_cell (D.2 o.1) o.2) ∧ gFit o) : gAt D a (b, .inr o) H := by
  obtain ⟨h0, h1, h2⟩ := h
  obtain ⟨f, hf⟩ := gCell_arr (D.2 o.1) o.2
  exact ⟨h0, h2, _, h1, by rw [hf]; rfl, by rw [hf]; rfl, (by rw [hf]; exact (fun q => nomatch q)), fun _ => rfl, (by rw [hf, arrV_size]; exact ⟨Nat.le_refl _, rfl⟩), fun _ _ => rfl⟩
/-! ===== OPERATIONS ===== -/
def gGet (S : gS) (r : Option Nat) : Option gE := match r with
  | none => none
  | some a => S.1 a
def vI : Value → Option Int32
  | .int x => some x
  | _ => none
def vR : Value → Option (Option Nat)
  | .ref a => some (some a)
  | .null => some none
  | _ => none
def oFld (cs : List Nat) (k : Nat) (r : Option Nat) (S : gS) : Option Value := match gGet S r with
  | some (_, .inl (ci, fs)) => if cs.contains ci = true then fs[k]? else none
  | _ => none
def oGetI (cs : List Nat) (k : Nat) (r : Option Nat) (S : gS) : Option Int32 := (oFld cs k r S).bind vI
def oGetR (cs : List Nat) (k : Nat) (r : Option Nat) (S : gS) : Option (Option Nat) := (oFld cs k r S).bind vR
def oPut (cs : List Nat) (k : Nat) (r : Option Nat) (v : Value) (S : gS) : Option gS := match r with
  | none => none
  | some a => match S.1 a with
    | some (true, .inl (ci, fs)) => if cs.contains ci = true ∧ k < fs.length then some (va_up S.1 a (some (true, .inl (ci, fs.set k v))), S.2) else none
    | _ => none
/-- the object is of one of these classes -/
def oIs (cs : List Nat) (r : Option Nat) (S : gS) : Bool := match gGet S r with
  | some (_, .inl (ci, _)) => cs.contains ci
  | _ => false
/-- a cell that the run made -/
def oOwn (r : Option Nat) (S : gS) : Bool := match gGet S r with
  | some (b, _) => b
  | none => false
theorem oOwn_b {r : Option Nat} {S : gS} {a : Nat} {b : Bool} {x : (Nat × List Value) ⊕ (Nat × vp_A)} (h : oOwn r S = true) (hr : r = some a) (hM : S.1 a = some (b, x)) : b = true := by
  subst hr
  unfold oOwn at h
  rw [show gGet S (some a) = some (b, x) from hM] at h
  exact h
def oCls (r : Option Nat) (S : gS) : Nat := match gGet S r with
  | some (_, .inl (ci, _)) => ci
  | _ => 1000
def oArr (kd : Nat) (r : Option Nat) (S : gS) : Option vp_A := match gGet S r with
  | some (_, .inr (k, a)) => if k = kd then some a else none
  | _ => none
def oLen (r : Option Nat) (S : gS) : Option Int32 := match gGet S r with
  | some (_, .inr (_, a)) => some (Int32.ofNat a.1)
  | _ => none
def oLdI (kd : Nat) (r : Option Nat) (i : Int32) (S : gS) : Option Int32 := match oArr kd r S with
  | some (n, .inl f) => if i < 0 ∨ n ≤ i.toNatClampNeg then none else some (f i.toNatClampNeg)
  | _ => none
def oLdL (r : Option Nat) (i : Int32) (S : gS) : Option Int64 := match oArr 2 r S with
  | some (n, .inr (.inl f)) => if i < 0 ∨ n ≤ i.toNatClampNeg then none else some (f i.toNatClampNeg)
  | _ => none
def oLdR (kd : Nat) (r : Option Nat) (i : Int32) (S : gS) : Option (Option Nat) := match oArr kd r S with
  | some (n, .inr (.inr (.inr (.inr f)))) => if i < 0 ∨ n ≤ i.toNatClampNeg then none else some (f i.toNatClampNeg)
  | _ => none
/-- what is stored into an int or a byte array -/
def gNar (kd : Nat) (x : Int32) : Int32 := if kd = 1 then x.toInt8.toInt32 else x
def oStI (kd : Nat) (r : Option Nat) (i x : Int32) (S : gS) : Option gS := match r with
  | none => none
  | some a => match S.1 a with
    | some (true, .inr (k, n, .inl f)) => if k = kd then (if i < 0 ∨ n ≤ i.toNatClampNeg then none else some (va_up S.1 a (some (true, .inr (k, n, .inl (upd f i.toNatClampNeg (gNar kd x))))), S.2)) else none
    | _ => none
def oStL (r : Option Nat) (i : Int32) (x : Int64) (S : gS) : Option gS := match r with
  | none => none
  | some a => match S.1 a with
    | some (true, .inr (2, n, .inr (.inl f))) => if i < 0 ∨ n ≤ i.toNatClampNeg then none else some (va_up S.1 a (some (true, .inr (2, n, .inr (.inl (vp_updL f i.toNatClampNeg x))))), S.2)
    | _ => none
/-- a reference to an object of one of the classes cs is stored -/
def oStR (kd : Nat) (cs : List Nat) (r : Option Nat) (i : Int32) (v : Option Nat) (S : gS) : Option gS := match r with
  | none => none
  | some a => match S.1 a with
    | some (true, .inr (k, n, .inr (.inr (.inr (.inr f))))) => if k = kd ∧ oIs cs v S = true then (if i < 0 ∨ n ≤ i.toNatClampNeg then none else some (va_up S.1 a (some (true, .inr (k, n, .inr (.inr (.inr (.inr (va_up f i.toNatClampNeg v))))))), S.2)) else none
    | _ => none
def gPush (e : gE) (N : Nat) (S : gS) : gS := (va_up S.1 S.2.1 (some e), S.2.1 + 1, S.2.2.1 + N, S.2.2.2)
def oNew (ci : Nat) (fs : List Value) (S : gS) : Option (Nat × gS) := if S.2.1 + 1 ≤ gLim S.2.2.2 ∧ S.2.2.1 + fs.length ≤ gUB then some (S.2.1, gPush (true, .inl (ci, fs)) fs.length S) else none
/-- an exception of the JDK's, made by its constructor without arguments -/
def oExc (ci : Nat) (S : gS) : Option (Nat × gS) := if S.2.1 + 1 ≤ gLim S.2.2.2 ∧ S.2.2.1 + 6 ≤ gUB then some (S.2.1, gPush (true, .inl (ci, [])) 6 S) else none
def gZero (kd : Nat) : (Nat → Int32) ⊕ (Nat → Int64) ⊕ (Nat → UInt32) ⊕ (Nat → UInt64) ⊕ (Nat → Option Nat) := match kd with
  | 0 => .inl (fun _ => 0)
  | 1 => .inl (fun _ => 0)
  | 2 => .inr (.inl (fun _ => 0))
  | _ => .inr (.inr (.inr (.inr (fun _ => none))))
def oNewA (kd : Nat) (n : Int32) (S : gS) : Option (Nat × gS) := if n < 0 then none else if S.2.1 + 1 ≤ gLim S.2.2.2 ∧ S.2.2.1 + n.toNatClampNeg ≤ gUB then some (S.2.1, gPush (true, .inr (kd, n.toNatClampNeg, gZero kd)) n.toNatClampNeg S) else none
/-- new int[n][k]: the rows behind the array of rows -/
def gGrid (M : Nat → Option gE) (q n k : Nat) : Nat → Option gE := fun a => if a = q then some (true, .inr (5, n, .inr (.inr (.inr (.inr (fun j => some (q + 1 + j))))))) else if q < a ∧ a ≤ q + n then some (true, .inr (0, k, .inl (fun _ => 0))) else M a
def oNew2 (n k : Int32) (S : gS) : Option (Nat × gS) := if n < 0 ∨ k < 0 then none else if S.2.1 + (1 + n.toNatClampNeg) ≤ gLim S.2.2.2 ∧ S.2.2.1 + (n.toNatClampNeg + n.toNatClampNeg * k.toNatClampNeg) ≤ gUB then some (S.2.1, (gGrid S.1 S.2.1 n.toNatClampNeg k.toNatClampNeg, S.2.1 + (1 + n.toNatClampNeg), S.2.2.1 + (n.toNatClampNeg + n.toNatClampNeg * k.toNatClampNeg), S.2.2.2)) else none
/-- System.arraycopy of ints, or bytes (what is copied fits) -/
def oCopyI (kd : Nat) (src : Option Nat) (sp : Int32) (dst : Option Nat) (dp n : Int32) (S : gS) : Option gS := match oArr kd src S, dst with
  | some (n0, .inl f), some a => match S.1 a with
    | some (true, .inr (k, n1, .inl g)) => if k = kd ∧ oOwn src S = true ∧ ¬ sp < 0 ∧ ¬ dp < 0 ∧ ¬ n < 0 ∧ sp.toNatClampNeg + n.toNatClampNeg ≤ n0 ∧ dp.toNatClampNeg + n.toNatClampNeg ≤ n1 then some (va_up S.1 a (some (true, .inr (k, n1, .inl (va_cpy f g sp.toNatClampNeg dp.toNatClampNeg n.toNatClampNeg)))), S.2) else none
    | _ => none
  | _, _ => none
/-- the elements from sp on are null or objects of these classes -/
def oEls (cs : List Nat) (f : Nat → Option Nat) (sp n : Nat) (S : gS) : Bool := (List.range n).all (fun i => match f (sp + i) with
  | none => true
  | some y => oIs cs (some y) S)
/-- .. of references -/
def oCopyR (kd : Nat) (cs : List Nat) (src : Option Nat) (sp : Int32) (dst : Option Nat) (dp n : Int32) (S : gS) : Option gS := match oArr kd src S, dst with
  | some (n0, .inr (.inr (.inr (.inr f)))), some a => match S.1 a with
    | some (true, .inr (k, n1, .inr (.inr (.inr (.inr g))))) => if k = kd ∧ oOwn src S = true ∧ oEls cs f sp.toNatClampNeg n.toNatClampNeg S = true ∧ ¬ sp < 0 ∧ ¬ dp < 0 ∧ ¬ n < 0 ∧ sp.toNatClampNeg + n.toNatClampNeg ≤ n0 ∧ dp.toNatClampNeg + n.toNatClampNeg ≤ n1 then some (va_up S.1 a (some (true, .inr (k, n1, .inr (.inr (.inr (.inr (va_cpy f g sp.toNatClampNeg dp.toNatClampNeg n.toNatClampNeg))))))), S.2) else none
    | _ => none
  | _, _ => none
/-- a call's answer and the state behind it, handed on -/
def gB {α β : Type} (o : Option (α × gS)) (k : α → gS → Option β) : Option β := match o with
  | none => none
  | some (a, S) => k a S
/-- .. of a call that may throw: a thrown cell goes on to the caller -/
def gT {α β : Type} (o : Option ((α ⊕ (Nat × Nat)) × gS)) (k : α → gS → Option ((β ⊕ (Nat × Nat)) × gS)) : Option ((β ⊕ (Nat × Nat)) × gS) := match o with
  | none => none
  | some (.inl a, S) => k a S
  | some (.inr x, S) => some (.inr x, S)
/-- .. or is taken by a handler -/
def gC {α β : Type} (o : Option ((α ⊕ (Nat × Nat)) × gS)) (k : α → gS → Option β) (h : Nat → Nat → gS → Option β) : Option β := match o with
  | none => none
  | some (.inl a, S) => k a S
  | some (.inr x, S) => h x.1 x.2 S
/-- the fuel of loops -/
def gFU : Nat := 10000000
abbrev gO : Type := Option Value ⊕ (Nat × Nat)
/-! ===== WHAT A RUN KNOWS of the tables and of the old heap ===== -/
def gCw (w : Cond) : Bool := match w with
  | .fieldLinkNest .. => true
  | .methodLinkNest .. => true
  | .castable .. => true
  | .declares .. => true
  | _ => false
def gStrs : List (Nat × String × Nat × String) := [(1094, "VowelChoir$ChoirReader", 51, "singer"), (1103, "VowelChoir$ChoirReader", 57, "note"), (1104, "VowelChoir$ChoirReader", 59, "like"), (1105, "VowelChoir$ChoirReader", 75, "rest"), (1351, "VowelChoir$LawReader", 80, "length"), (1353, "VowelChoir$LawReader", 86, "pay"), (1354, "VowelChoir$LawReader", 88, "left"), (1355, "VowelChoir$LawReader", 90, "sung"), (1356, "VowelChoir$LawReader", 92, "note"), (1357, "VowelChoir$LawReader", 94, "vowel"), (1358, "VowelChoir$LawReader", 96, "day"), (1359, "VowelChoir$LawReader", 98, "singer"), (1360, "VowelChoir$LawReader", 100, "least"), (1361, "VowelChoir$LawReader", 102, "most"), (1485, "VowelChoir$WorkReader", 60, "sing"), (1487, "VowelChoir$WorkReader", 65, "hymn"), (1488, "VowelChoir$WorkReader", 67, "rest"), (1489, "VowelChoir$WorkReader", 69, "hoarse"), (1490, "VowelChoir$WorkReader", 71, "cure"), (1491, "VowelChoir$WorkReader", 73, "word"), (1492, "VowelChoir$WorkReader", 74, "day"), (1493, "VowelChoir$WorkReader", 76, "again")]
def gAO (ty : FieldType) (U : State) : Prop := (Cond.arrayOver ty).before #[] U = true
theorem gAO.moved {ty : FieldType} {u U : State} (hvm : u.vm.Alike U.vm) (h : gAO ty u) : gAO ty U := by
  have e := Cond.arrayOver_setVmC (args := #[]) hvm ty
  have e2 : (Cond.arrayOver ty).before #[] (u.setVm U.vm) = (Cond.arrayOver ty).before #[] U := rfl
  unfold gAO
  rw [← e2, e]
  exact h
theorem gAO.use {ty : FieldType} {A : Array Value} {U : State} (h : gAO ty U) : (Cond.arrayOver ty).before A U = true := h
def gSelE : Cond := .selects "java/lang/StringBuilder" ⟨"java/lang/AbstractStringBuilder", "ensureCapacityInternal", "(I)V"⟩ ⟨"java/lang/AbstractStringBuilder", "ensureCapacityInternal", "(I)V"⟩
def gMi (K : gK) (U : State) : Prop := (∃ mi : Nat, K.2.2 2 = some mi ∧ va_Mi "[Ljava/lang/Object;" mi U) ∧ va_Nw gSelE U ∧ va_Nc "java/lang/IllegalArgumentException" "java/util/NoSuchElementException" U
theorem gMi.moved {K : gK} {u U : State} (hW : u.WarmedH U.vm) (h : gMi K u) : gMi K U := by
  obtain ⟨⟨mi, h1, h2⟩, h3, h4⟩ := h
  exact ⟨⟨mi, h1, h2.moved hW.alike⟩, word_at hW (Or.inl rfl) h3, h4.moved hW.alike⟩
theorem gMi.call {K : gK} {U : State} {g : JFrame} {mk : MethodId} {as : Array Value} (h : gMi K U) : gMi K (U.calling g mk as) := by
  obtain ⟨⟨mi, h1, h2⟩, h3, h4⟩ := h
  exact ⟨⟨mi, h1, h2.moved (Vm.Alike.refl U.vm)⟩, va_Nw.same (u := U) (U := U.calling g mk as) rfl rfl h3, h4.moved (Vm.Alike.refl U.vm)⟩
def gX (D : gD) (K : gK) (U : State) : Prop :=
  va_K D.1 gCl (gTys D) U ∧ (∀ w ∈ lw_tbl, gCw w = true → va_Nw w U) ∧ K.1 ≤ U.heap.size ∧ (∀ q ∈ gStrs, vk_R q.2.1 q.2.2.1 q.2.2.2 (K.2.1 q.1) U) ∧
  va_Z "java/lang/String" "COMPACT_STRINGS" "Z" (.int 1) (gA K) U U.heap ∧
  (va_Z Bundle.tN "UNASSIGNED_STACK" Bundle.steD (va_rf (K.2.2 0)) (gA K) U U.heap ∧ vx_L Bundle.tN "UNASSIGNED_STACK" Bundle.steD (gA K) U U.heap) ∧
  (va_Z Bundle.tN "SUPPRESSED_SENTINEL" Bundle.listD (va_rf (K.2.2 1)) (gA K) U U.heap ∧ vx_L Bundle.tN "SUPPRESSED_SENTINEL" Bundle.listD (gA K) U U.heap) ∧
  (va_AO "java/lang/Object" U ∧ va_AO "VowelChoir$Choir" U ∧ gAO (.array .int) U ∧ gMi K U)
theorem gCw_warm {w : Cond} {s U : State} (hc : gCw w = true) (hW : s.WarmedH U.vm) (h : va_Nw w s) : va_Nw w U := by
  unfold gCw at hc
  split at hc
  · exact va_Nw.warmF hW h
  · exact va_Nw.warmM hW h
  · exact va_Nw.warmC hW h
  · exact va_Nw.warmD hW h
  · cases hc
theorem gCw_tab {w : Cond} (hc : gCw w = true) : w.onTables = true := by
  unfold gCw at hc
  split at hc <;> first | rfl | cases hc
/-- behind a warming of the tables and a heap whose old part stays -/
theorem gX.moved {D : gD} {K : gK} {s U : State} {locs : List Loc} (h : gX D K s) (hW : s.WarmedH U.vm) (hS : va_S (gA K) s.heap U.heap locs) : gX D K U := by
  obtain ⟨h1, h2, h3, h4, h5, h6, h7, h8⟩ := h
  have hq : ∀ a : Nat, a < s.heap.size → ¬ gA K a → U.heap[a]? = s.heap[a]? := hS.2.1
  exact ⟨va_K.moved hW.alike h1, fun w hw hc => gCw_warm hc hW (h2 w hw hc), Nat.le_trans h3 hS.1, fun q hq => (h4 q hq).warm hW, (h5.moved hW.alike).kept hq, ⟨(h6.1.moved hW.alike).kept hq, (h6.2.moved hW.alike).kept hq⟩, ⟨(h7.1.moved hW.alike).kept hq, (h7.2.moved hW.alike).kept hq⟩, h8.1.moved hW.alike, h8.2.1.moved hW.alike, h8.2.2.1.moved hW.alike, h8.2.2.2.moved hW⟩
theorem vk_R.call {own tx : String} {k a : Nat} {U : State} {g : JFrame} {mk : MethodId} {as : Array Value} (h : vk_R own k tx a U) : vk_R own k tx a (U.calling g mk as) := vk_R.same rfl h
theorem gX.call {D : gD} {K : gK} {U : State} {g : JFrame} {mk : MethodId} {as : Array Value} (h : gX D K U) : gX D K (U.calling g mk as) := by
  obtain ⟨h1, h2, h3, h4, h5, h6, h7, h8⟩ := h
  have hA : U.vm.Alike (U.calling g mk as).vm := Vm.Alike.refl U.vm
  have hq : ∀ a : Nat, a < U.heap.size → ¬ gA K a → (U.calling g mk as).heap[a]? = U.heap[a]? := fun _ _ _ => rfl
  exact ⟨va_K.moved hA h1, fun w hw hc => va_Nw.same (u := U) (U := U.calling g mk as) (gCw_tab hc) rfl (h2 w hw hc), h3, fun q hq => (h4 q hq).call, (h5.moved hA).kept hq, ⟨(h6.1.moved hA).kept hq, (h6.2.moved hA).kept hq⟩, ⟨(h7.1.moved hA).kept hq, (h7.2.moved hA).kept hq⟩, h8.1.moved hA, h8.2.1.moved hA, h8.2.2.1.moved hA, h8.2.2.2.call⟩
/-! ===== THE JUDGEMENT ===== -/
/-- the machine, now at pc with the locals lv and the stack st, and the abstract heap S, comes to Q -/
def gW (p : Program) (l : Launch) (e : Env) (R : Room) (s : State) (m : MethodId) (args : Array Value) (below : List Frame) (meth : Method) (c : Code) (D : gD) (K : gK) (nL u0 : Nat) (Q : State → Prop) (S : gS) (pc : Nat) (lv : List (Nat × Value)) (st : List Value) : Prop :=
  ∀ (H : Heap) (locs : List Loc) (ls : Array Slot), gH D K S H → va_S (gA K) s.heap H locs → u0 ≤ S.2.2.1 → lv_has ls nL lv → W p l e R s m args below meth c H locs (S.2.1 - s.heap.size) (S.2.2.1 - u0) Q (F0 m pc ls st)
/-- .. with the cell q, of class number ci, thrown over the frame -/
def gWx (p : Program) (l : Launch) (e : Env) (R : Room) (s : State) (m : MethodId) (args : Array Value) (below : List Frame) (meth : Method) (c : Code) (D : gD) (K : gK) (nL u0 : Nat) (Q : State → Prop) (S : gS) (pc : Nat) (lv : List (Nat × Value)) (rest : List Value) (q ci : Nat) : Prop :=
  ∀ (H : Heap) (locs : List Loc) (ls : Array Slot) (r : vw_C) (ce : Cell), gH D K S H → va_S (gA K) s.heap H locs → u0 ≤ S.2.2.1 → lv_has ls nL lv → gCl[ci]? = some r → H[q]? = some ce → ce.vm = .none → s.vm.findClass r.1 = some ce.cls → vx_W p l e R s m args below meth c H locs (S.2.1 - s.heap.size) (S.2.2.1 - u0) Q (F0 m pc ls rest) q
/-- what stands fast in a method's body: machine, code, locals, class, answer, no lock, table of handlers, words, tables, room -/
def gCx (p : Program) (l : Launch) (R : Room) (s : State) (m : MethodId) (args : Array Value) (meth : Method) (c : Code) (D : gD) (K : gK) (own : String) (cc : ByteArray) (nL : Nat) (ret : Option FieldType) (hh : List (Nat × Nat × Nat × Nat)) (nm : String) (u0 : Nat) : Prop :=
  p.tables.exec = Jvm.exec ∧ c.code = cc ∧ c.maxLocals = nL ∧ s.vm.findClass own = some m.cls ∧ meth.sig.returnType = ret ∧ meth.locks = false ∧ c.exceptionTable.toList = tableOf hh ∧ (∀ w ∈ lw_all, w.before args s = true) ∧ gX D K s ∧ R.cells = gLim K - s.heap.size ∧ R.slots = gUB - u0 ∧ l.stackTraces = false ∧ meth.name = nm
/-- what a method hands back: its answer and the heap, or the cell that it throws -/
def gQc (D : gD) (K : gK) (u0 : Nat) (out : gO) (S1 : gS) : Array Value → State → Outcome → State → Prop := fun _ st oc t => (∃ v, out = .inl v ∧ oc = .returned v) ∧ gH D K S1 t.heap ∧ u0 ≤ S1.2.2.1 ∧ va_F (gA K) st t
def gXC (D : gD) (K : gK) (u0 : Nat) (out : gO) (S1 : gS) : String → Addr → State → State → Prop := fun E q st t => (∃ (ci : Nat) (r : vw_C), out = .inr (ci, q) ∧ gCl[ci]? = some r ∧ r.1 = E) ∧ gH D K S1 t.heap ∧ u0 ≤ S1.2.2.1 ∧ va_F (gA K) st t
/-- A METHOD'S CONTRACT: from the abstract heap S with the arguments av, the answer is out, the heap S1 -/
def gMet (l : Launch) (D : gD) (K : gK) (y : MethodName) (ws : List Cond) (fr lo : Nat) (av : List Value) (S : gS) (out : gO) (S1 : gS) : Prop :=
  vx_Met l y ws ({ frames := fr, cells := gLim K - S.2.1, slots := gUB - S.2.2.1, locals := lo }) (va_Pc av (fun U => gH D K S U.heap ∧ gX D K U)) (gQc D K S.2.2.1 out S1) (gXC D K S.2.2.1 out S1) (S1.2.1 - S.2.1) (S1.2.2.1 - S.2.2.1) (gA K)
/-- the end that a body owes -/
abbrev gEnd (below : List Frame) (args : Array Value) (s : State) (D : gD) (K : gK) (u0 : Nat) (out : gO) (S1 : gS) : State → Prop :=
  vx_MQ below (gQc D K u0 out S1) (gXC D K u0 out S1) args s (S1.2.1 - s.heap.size) (S1.2.2.1 - u0) (gA K)
/-- the tables' row of handlers is empty where no row is -/
theorem gTab0 : tableOf [] = [] := rfl
/-- a body without handlers -/
theorem gMet.of {l : Launch} {D : gD} {K : gK} {y : MethodName} {ws' : List Cond} {fr lo : Nat} {av : List Value} {S : gS} {out : gO} {S1 : gS} {cc : ByteArray} {nL : Nat} {ret : Option FieldType} (hl : l.stackTraces = false) (hy : plainName y.cls = true) (hws : ws' = lw_all) (hlen : (lg_sl av).length ≤ nL)
    (body : ∀ (p : Program) (e : Env) (s : State) (m : MethodId) (below : List Frame) (meth : Method) (c : Code) (R : Room), R.frames = fr → R.locals = lo → gCx p l R s m av.toArray meth c D K y.cls cc nL ret [] y.name S.2.2.1 → s.heap.size = S.2.1 →
      gW p l e R s m av.toArray below meth c D K nL S.2.2.1 (gEnd below av.toArray s D K S.2.2.1 out S1) S 0 (lv_args 0 av) []) : gMet l D K y (Cond.code y cc nL ret :: ws') fr lo av S out S1 := by
  subst hws
  refine vx_ofW (cc := cc) (maxL := nL) (ret := ret) (ws' := lw_all) hy rfl ?_
  intro p e s m args below meth c s₁ B hml ht hPc
  obtain ⟨rfl, hH, hX⟩ := hPc
  have hts := atoms_spec (ws := Cond.code y cc nL ret :: lw_all) B.pre
  have hsz : s.heap.size = S.2.1 := hH.2.1
  have htab : c.exceptionTable.toList = tableOf [] := by
    rw [gTab0]
    cases hq : c.exceptionTable.toList with
    | nil => rfl
    | cons x xs => exact absurd (ht x (by rw [hq]; exact List.mem_cons_self)) id
  have h := body p e s m below meth c (headSpec (Cond.code y cc nL ret :: lw_all) { frames := fr, cells := gLim K - S.2.1, slots := gUB - S.2.2.1, locals := lo }).room rfl rfl ⟨B.exec, B.bytes, hml, findClass_of_methodNamed B.named, B.returns, B.notSynchronized, htab, fun w h => hts w (List.mem_cons_of_mem _ h), hX, by rw [hsz]; rfl, rfl, hl, (name_of_methodNamed B.named B.method).1⟩ hsz s.heap [] _ hH va_S.rf (Nat.le_refl _) (lv_entry av hlen)
  rw [lg_entry_eq]
  rw [hsz, Nat.sub_self, Nat.sub_self] at h
  have h9 := h
  unfold gEnd at h9
  rw [hsz] at h9
  exact h9
/-- a body with handlers -/
theorem gMet.ofH {l : Launch} {D : gD} {K : gK} {y : MethodName} {ws' : List Cond} {fr lo : Nat} {av : List Value} {S : gS} {out : gO} {S1 : gS} {cc : ByteArray} {nL : Nat} {ret : Option FieldType} {hh : List (Nat × Nat × Nat × Nat)} (hl : l.stackTraces = false) (hy : plainName y.cls = true) (hws : ws' = lw_all) (hlen : (lg_sl av).length ≤ nL)
    (body : ∀ (p : Program) (e : Env) (s : State) (m : MethodId) (below : List Frame) (meth : Method) (c : Code) (R : Room), R.frames = fr → R.locals = lo → gCx p l R s m av.toArray meth c D K y.cls cc nL ret hh y.name S.2.2.1 → s.heap.size = S.2.1 →
      gW p l e R s m av.toArray below meth c D K nL S.2.2.1 (gEnd below av.toArray s D K S.2.2.1 out S1) S 0 (lv_args 0 av) []) : gMet l D K y (Cond.codeWith y cc nL ret hh :: ws') fr lo av S out S1 := by
  subst hws
  refine vx_ofWH (cc := cc) (maxL := nL) (ret := ret) (hh := hh) (ws' := lw_all) hy rfl ?_
  intro p e s m args below meth c s₁ B hml hPc
  obtain ⟨rfl, hH, hX⟩ := hPc
  have hts := atoms_spec (ws := Cond.codeWith y cc nL ret hh :: lw_all) B.pre
  have hsz : s.heap.size = S.2.1 := hH.2.1
  have htab : c.exceptionTable.toList = tableOf hh := vx_table (x := y) B (hts _ List.mem_cons_self)
  have h := body p e s m below meth c (headSpec (Cond.codeWith y cc nL ret hh :: lw_all) { frames := fr, cells := gLim K - S.2.1, slots := gUB - S.2.2.1, locals := lo }).room rfl rfl ⟨B.exec, B.bytes, hml, findClass_of_methodNamed B.named, B.returns, B.notSynchronized, htab, fun w h => hts w (List.mem_cons_of_mem _ h), hX, by rw [hsz]; rfl, rfl, hl, (name_of_methodNamed B.named B.method).1⟩ hsz s.heap [] _ hH va_S.rf (Nat.le_refl _) (lv_entry av hlen)
  rw [lg_entry_eq]
  rw [hsz, Nat.sub_self, Nat.sub_self] at h
  have h9 := h
  unfold gEnd at h9
  rw [hsz] at h9
  exact h9
