section GCA
variable {p : Program} {l : Launch} {e : Env} {R : Room} {s : State} {m : MethodId} {args : Array Value} {below : List Frame} {meth : Method} {c : Code} {D : gD} {K : gK} {nL u0 : Nat} {Q : State → Prop} {S : gS} {pc : Nat} {lv : List (Nat × Value)} {st : List Value} {own : String} {cc : ByteArray} {ret : Option FieldType} {hh : List (Nat × Nat × Nat × Nat)} {nm : String}
/-- a method called, at any heap that holds the picture S -/
def gRun (p : Program) (l : Launch) (e : Env) (R : Room) (s : State) (m : MethodId) (args : Array Value) (below : List Frame) (meth : Method) (c : Code) (D : gD) (K : gK) (nL u0 : Nat) (S : gS) (pc : Nat) (lv : List (Nat × Value)) (st rest : List Value) (a : Array Value) (out : gO) (S1 : gS) : Prop :=
  ∀ (H : Heap) (locs : List Loc) (ls : Array Slot), gH D K S H → va_S (gA K) s.heap H locs → u0 ≤ S.2.2.1 → lv_has ls nL lv → vx_Run p l e R s m args below meth c H locs (S.2.1 - s.heap.size) (S.2.2.1 - u0) (S1.2.1 - S.2.1) (S1.2.2.1 - S.2.2.1) (F0 m pc ls st) rest (gQc D K S.2.2.1 out S1 a) (gXC D K S.2.2.1 out S1) (gA K)
theorem gBlind {av : List Value} : FrameBlind (va_Pc av (fun U => gH D K S U.heap ∧ gX D K U)) := by
  intro a U g mk h
  obtain ⟨h1, h2, h3⟩ := h
  exact ⟨h1, h2, h3.call⟩
theorem gPre_of (C : gCx p l R s m args meth c D K own cc nL ret hh nm u0) {H : Heap} {locs : List Loc} (hH : gH D K S H) (hS : va_S (gA K) s.heap H locs) (av : List Value) : ∀ U : State, U.heap = H → s.WarmedH U.vm → va_Pc av (fun U => gH D K S U.heap ∧ gX D K U) av.toArray U :=
  fun U hU hW => ⟨rfl, by rw [hU]; exact hH, (C.2.2.2.2.2.2.2.2.1).moved (locs := locs) hW (by rw [hU]; exact hS)⟩
theorem g_fit (C : gCx p l R s m args meth c D K own cc nL ret hh nm u0) {H : Heap} {locs : List Loc} (hH : gH D K S H) (hS : va_S (gA K) s.heap H locs) (hu : u0 ≤ S.2.2.1) : S.2.1 - s.heap.size + (gLim K - S.2.1) ≤ R.cells ∧ S.2.2.1 - u0 + (gUB - S.2.2.1) ≤ R.slots := by
  have h1 := gSz hH hS
  have h2 := hH.2.2.1
  have h3 := hH.2.2.2.1
  rw [C.2.2.2.2.2.2.2.2.2.1, C.2.2.2.2.2.2.2.2.2.2.1]
  omega
theorem g_mr (st : List Value) {ls : Array Slot} {rest : List Value} (h : (rest.map fun v => v.category).sum ≤ 8) : 2 * (F0 m pc ls st).monitorRoom + (rest.map fun v => v.category).sum ≤ 8 := lv_room h
theorem gSplit (C : gCx p l R s m args meth c D K own cc nL ret hh nm u0) {H : Heap} (hH : gH D K S H) {ci : Nat} {r : Option Nat} {T : u_T} {N : Nat} {Cn : String} (hci : gCl[ci]? = some (Cn, T, N)) (hr : oIs [ci] r S = true) : ∃ b, r = some b ∧ ∃ cellB : Cell, H[b]? = some cellB ∧ cellB.vm.isStatics = false ∧ s.vm.findClass Cn = some cellB.cls := by
  obtain ⟨b, b9, ci2, fs, rfl, hM, hc⟩ := oIs_obj hr
  have hc2 : ci2 = ci := by simpa using hc
  subst hc2
  obtain ⟨r1, hr1, cell, q1, q2, q3, q4, -⟩ := g_recv C hH hM
  cases hr1.symm.trans hci
  exact ⟨b, rfl, cell, q1, q2, by rw [q3]; exact q4.1⟩
section KINDS
variable {y : MethodName} {bytes : ByteArray} {maxL n idx fr lo : Nat} {rt : Option FieldType} {As rest : List Value} {out : gO} {S1 : gS}
/-- a static method -/
theorem g_runS (C : gCx p l R s m args meth c D K own cc nL ret hh nm u0) (d : decode cc pc = .ok (.invokestatic idx, 3)) (hM : gMet l D K y (ws_ y bytes maxL rt) fr lo As S out S1) (hw : GoodIn lw_all (va_wsS own idx y (ws_ y bytes maxL rt)))
    (hd : y.cls ≠ "java/lang/invoke/MethodHandle" ∧ y.cls ≠ "java/lang/invoke/VarHandle" ∧ (parseMethodDescriptor y.desc).map (fun d => d.parameters.length) = some n) (hR : fr + 1 ≤ R.frames ∧ 8 + (maxL + 11) + lo ≤ R.locals) (hn : As.length = n) (hst : st = As.reverse ++ rest) (hc : (rest.map fun v => v.category).sum ≤ 8) :
    gRun p l e R s m args below meth c D K nL u0 S pc lv st rest As.toArray out S1 := fun H locs ls hH hS hu hl =>
  vx_runS (n := n) ⟨C.1, C.2.1, C.2.2.1, C.2.2.2.1, C.2.2.2.2.2.2.2.1⟩ hM (va_cwS n C.2.2.2.2.2.2.2.1 hw rfl rfl rfl hd hR) ⟨gBlind, gPre_of C hH hS As⟩ rfl hn hl.1 hst (g_mr st hc) d (g_fit C hH hS hu)
/-- a method of the receiver's class -/
theorem g_runV (C : gCx p l R s m args meth c D K own cc nL ret hh nm u0) {ci : Nat} {r : Option Nat} {T : u_T} {N : Nat} {Cn : String} (d : decode cc pc = .ok (.invokevirtual idx, 3)) (hci : gCl[ci]? = some (Cn, T, N)) (hr : oIs [ci] r S = true) (hM : gMet l D K y (ws_ y bytes maxL rt) fr lo (va_rf r :: As) S out S1) (hw : GoodIn lw_all (wsV own idx Cn y (ws_ y bytes maxL rt)))
    (hd : y.cls = Cn ∧ y.cls ≠ "java/lang/invoke/MethodHandle" ∧ y.cls ≠ "java/lang/invoke/VarHandle" ∧ (parseMethodDescriptor y.desc).map (fun d => d.parameters.length) = some n) (hR : fr + 1 ≤ R.frames ∧ 8 + (maxL + 11) + lo ≤ R.locals) (hn : As.length = n) (hst : st = As.reverse ++ va_rf r :: rest) (hc : (rest.map fun v => v.category).sum ≤ 8) :
    gRun p l e R s m args below meth c D K nL u0 S pc lv st rest (va_rf r :: As).toArray out S1 := by
  intro H locs ls hH hS hu hl
  obtain ⟨b, rfl, hrec⟩ := gSplit C hH hci hr
  exact vx_runV (n := n) ⟨C.1, C.2.1, C.2.2.1, C.2.2.2.1, C.2.2.2.2.2.2.2.1⟩ hM (cwV n C.2.2.2.2.2.2.2.1 hw rfl rfl rfl hd hR) ⟨gBlind, hrec, gPre_of C hH hS _⟩ rfl hn hl.1 hst (g_mr st hc) d (g_fit C hH hS hu)
/-- a constructor -/
theorem g_runI (C : gCx p l R s m args meth c D K own cc nL ret hh nm u0) {r : Option Nat} (d : decode cc pc = .ok (.invokespecial idx, 3)) (hM : gMet l D K y (ws_ y bytes maxL none) fr lo (va_rf r :: As) S out S1) (hr : r.isSome = true) (hcode : Cond.code y bytes maxL none ∈ lw_all) (hini : Cond.initialized y.cls ∈ lw_all) (hlk : Cond.methodLink own idx y ∈ lw_all) (hin : Cond.instanceMethod y ∈ lw_all) (hy : y.name = "<init>")
    (hd : y.cls ≠ "java/lang/invoke/MethodHandle" ∧ y.cls ≠ "java/lang/invoke/VarHandle" ∧ (parseMethodDescriptor y.desc).map (fun d => d.parameters.length) = some n) (hR : fr + 1 ≤ R.frames ∧ 8 + (maxL + 11) + lo ≤ R.locals) (hn : As.length = n) (hst : st = As.reverse ++ va_rf r :: rest) (hc : (rest.map fun v => v.category).sum ≤ 8) :
    gRun p l e R s m args below meth c D K nL u0 S pc lv st rest (va_rf r :: As).toArray out S1 := by
  intro H locs ls hH hS hu hl
  obtain ⟨b, rfl⟩ := Option.isSome_iff_exists.mp hr
  exact vx_runI (n := n) ⟨C.1, C.2.1, C.2.2.1, C.2.2.2.1, C.2.2.2.2.2.2.2.1⟩ hM (cwI n C.2.2.2.2.2.2.2.1 (lw_meth hcode) rfl rfl rfl (C.2.2.2.2.2.2.2.1 _ hini) (C.2.2.2.2.2.2.2.1 _ hlk) (C.2.2.2.2.2.2.2.1 _ hin) hy hd hR) ⟨gBlind, gPre_of C hH hS _⟩ rfl hn hl.1 hst (g_mr st hc) d (g_fit C hH hS hu)
/-- a nest mate's private constructor -/
theorem g_runIN (C : gCx p l R s m args meth c D K own cc nL ret hh nm u0) {r : Option Nat} {host : String} (d : decode cc pc = .ok (.invokespecial idx, 3)) (hM : gMet l D K y (ws_ y bytes maxL none) fr lo (va_rf r :: As) S out S1) (hr : r.isSome = true) (hcode : Cond.code y bytes maxL none ∈ lw_all) (hini : Cond.initialized y.cls ∈ lw_all) (hlk : Cond.methodLinkNest own idx y host ∈ lw_tbl) (hin : Cond.instanceMethod y ∈ lw_all) (hy : y.name = "<init>")
    (hd : y.cls ≠ "java/lang/invoke/MethodHandle" ∧ y.cls ≠ "java/lang/invoke/VarHandle" ∧ (parseMethodDescriptor y.desc).map (fun d => d.parameters.length) = some n) (hR : fr + 1 ≤ R.frames ∧ 8 + (maxL + 11) + lo ≤ R.locals) (hn : As.length = n) (hst : st = As.reverse ++ va_rf r :: rest) (hc : (rest.map fun v => v.category).sum ≤ 8) :
    gRun p l e R s m args below meth c D K nL u0 S pc lv st rest (va_rf r :: As).toArray out S1 := by
  intro H locs ls hH hS hu hl
  obtain ⟨b, rfl⟩ := Option.isSome_iff_exists.mp hr
  exact vx_runIN (n := n) ⟨C.1, C.2.1, C.2.2.1, C.2.2.2.1, C.2.2.2.2.2.2.2.1⟩ hM ⟨va_cnB n C.2.2.2.2.2.2.2.1 (lw_meth hcode) rfl rfl rfl (C.2.2.2.2.2.2.2.2.1.2.1 _ hlk rfl) (C.2.2.2.2.2.2.2.1 _ hini) hd hR, hy, C.2.2.2.2.2.2.2.1 _ hin⟩ ⟨gBlind, gPre_of C hH hS _⟩ rfl hn hl.1 hst (g_mr st hc) d (g_fit C hH hS hu)
/-- a nest mate's private method -/
theorem g_runVN (C : gCx p l R s m args meth c D K own cc nL ret hh nm u0) {ci : Nat} {r : Option Nat} {T : u_T} {N : Nat} {Cn host : String} (d : decode cc pc = .ok (.invokevirtual idx, 3)) (hci : gCl[ci]? = some (Cn, T, N)) (hr : oIs [ci] r S = true) (hM : gMet l D K y (ws_ y bytes maxL rt) fr lo (va_rf r :: As) S out S1) (hcode : Cond.code y bytes maxL rt ∈ lw_all) (hini : Cond.initialized y.cls ∈ lw_all) (hlk : Cond.methodLinkNest own idx y host ∈ lw_tbl) (hin : Cond.instanceMethod y ∈ lw_all) (hsel : Cond.selects Cn y y ∈ lw_all)
    (hd : y.cls ≠ "java/lang/invoke/MethodHandle" ∧ y.cls ≠ "java/lang/invoke/VarHandle" ∧ (parseMethodDescriptor y.desc).map (fun d => d.parameters.length) = some n) (hR : fr + 1 ≤ R.frames ∧ 8 + (maxL + 11) + lo ≤ R.locals) (hn : As.length = n) (hst : st = As.reverse ++ va_rf r :: rest) (hc : (rest.map fun v => v.category).sum ≤ 8) :
    gRun p l e R s m args below meth c D K nL u0 S pc lv st rest (va_rf r :: As).toArray out S1 := by
  intro H locs ls hH hS hu hl
  obtain ⟨b, rfl, hrec⟩ := gSplit C hH hci hr
  exact vx_runVN (n := n) ⟨C.1, C.2.1, C.2.2.1, C.2.2.2.1, C.2.2.2.2.2.2.2.1⟩ hM ⟨va_cnB n C.2.2.2.2.2.2.2.1 (lw_meth hcode) rfl rfl rfl (C.2.2.2.2.2.2.2.2.1.2.1 _ hlk rfl) (C.2.2.2.2.2.2.2.1 _ hini) hd hR, C.2.2.2.2.2.2.2.1 _ hin, C.2.2.2.2.2.2.2.1 _ hsel⟩ ⟨gBlind, hrec, gPre_of C hH hS _⟩ rfl hn hl.1 hst (g_mr st hc) d (g_fit C hH hS hu)
/-- a nest mate's private static method -/
theorem g_runSN (C : gCx p l R s m args meth c D K own cc nL ret hh nm u0) {host : String} (d : decode cc pc = .ok (.invokestatic idx, 3)) (hM : gMet l D K y (ws_ y bytes maxL rt) fr lo As S out S1) (hcode : Cond.code y bytes maxL rt ∈ lw_all) (hini : Cond.initialized y.cls ∈ lw_all) (hlk : Cond.methodLinkNest own idx y host ∈ lw_tbl) (hst9 : Cond.static y ∈ lw_all)
    (hd : y.cls ≠ "java/lang/invoke/MethodHandle" ∧ y.cls ≠ "java/lang/invoke/VarHandle" ∧ (parseMethodDescriptor y.desc).map (fun d => d.parameters.length) = some n) (hR : fr + 1 ≤ R.frames ∧ 8 + (maxL + 11) + lo ≤ R.locals) (hn : As.length = n) (hst : st = As.reverse ++ rest) (hc : (rest.map fun v => v.category).sum ≤ 8) :
    gRun p l e R s m args below meth c D K nL u0 S pc lv st rest As.toArray out S1 := fun H locs ls hH hS hu hl =>
  vx_runSN (n := n) ⟨C.1, C.2.1, C.2.2.1, C.2.2.2.1, C.2.2.2.2.2.2.2.1⟩ hM ⟨va_cnB n C.2.2.2.2.2.2.2.1 (lw_meth hcode) rfl rfl rfl (C.2.2.2.2.2.2.2.2.1.2.1 _ hlk rfl) (C.2.2.2.2.2.2.2.1 _ hini) hd hR, C.2.2.2.2.2.2.2.1 _ hst9, trivial⟩ ⟨gBlind, gPre_of C hH hS As⟩ rfl hn hl.1 hst (g_mr st hc) d (g_fit C hH hS hu)
/-- what the reference names is declared: code of ours, or the tables say so -/
def gDecl (z : MethodName) : Prop := (Cond.instanceMethod z ∈ lw_all ∧ ∃ b L r, Cond.code z b L r ∈ lw_all) ∨ Cond.declares z ∈ lw_tbl
theorem gDecl.use {z : MethodName} (C : gCx p l R s m args meth c D K own cc nL ret hh nm u0) (h : gDecl z) : va_Decl s z := by
  rcases h with ⟨h1, b, L, r, h2⟩ | h
  · exact va_Decl.of (C.2.2.2.2.2.2.2.1 _ h1) (C.2.2.2.2.2.2.2.1 _ h2)
  · exact va_Decl.abs (C.2.2.2.2.2.2.2.2.1.2.1 _ h rfl)
/-- a method found by the receiver's class Cn: inherited, or overriding what the reference x names -/
theorem g_runU (C : gCx p l R s m args meth c D K own cc nL ret hh nm u0) {x : MethodName} {owner : String} {ci : Nat} {r : Option Nat} {T : u_T} {N : Nat} {Cn : String} (d : decode cc pc = .ok (.invokevirtual idx, 3)) (hci : gCl[ci]? = some (Cn, T, N)) (hr : oIs [ci] r S = true) (hM : gMet l D K y (ws_ y bytes maxL rt) fr lo (va_rf r :: As) S out S1) (hcode : Cond.code y bytes maxL rt ∈ lw_all) (hini : Cond.initialized y.cls ∈ lw_all) (hlk : Cond.methodLink own idx x ∈ lw_all) (hsm : Cond.sameMethod x.cls owner x.name x.desc ∈ lw_all) (hdc : gDecl ⟨owner, x.name, x.desc⟩) (hsel : Cond.selects Cn x y ∈ lw_all) (hin : Cond.instanceMethod y ∈ lw_all)
    (hd : owner ≠ "java/lang/invoke/MethodHandle" ∧ owner ≠ "java/lang/invoke/VarHandle" ∧ (parseMethodDescriptor x.desc).map (fun d => d.parameters.length) = some n) (hR : fr + 1 ≤ R.frames ∧ 8 + (maxL + 11) + lo ≤ R.locals) (hn : As.length = n) (hst : st = As.reverse ++ va_rf r :: rest) (hc : (rest.map fun v => v.category).sum ≤ 8) :
    gRun p l e R s m args below meth c D K nL u0 S pc lv st rest (va_rf r :: As).toArray out S1 := by
  intro H locs ls hH hS hu hl
  obtain ⟨b, rfl, hrec⟩ := gSplit C hH hci hr
  have hts := C.2.2.2.2.2.2.2.1
  have hlen : ∀ sig, parseMethodDescriptor x.desc = some sig → n = sig.parameters.length := fun sig h => by
    have h2 := hd.2.2
    rw [h] at h2
    exact (Option.some.inj h2).symm
  exact vx_runU (n := n) (owner := owner) ⟨C.1, C.2.1, C.2.2.1, C.2.2.2.1, C.2.2.2.2.2.2.2.1⟩ hM ⟨⟨rfl, rfl, hR.1, hR.2, pay_in hts (lw_meth hcode), List.mem_cons_self⟩, hts _ hcode, hts _ hini, ⟨hd.1, hd.2.1⟩, hlen, hts _ hlk, hts _ hsm, hdc.use C, hts _ hsel, hts _ hin⟩ ⟨gBlind, hrec, gPre_of C hH hS _⟩ rfl hn hl.1 hst (g_mr st hc) d (g_fit C hH hS hu)
/-- a method with handlers, by the receiver -/
theorem g_runVX (C : gCx p l R s m args meth c D K own cc nL ret hh nm u0) {h9 : List (Nat × Nat × Nat × Nat)} {ci : Nat} {r : Option Nat} {T : u_T} {N : Nat} {Cn : String} (d : decode cc pc = .ok (.invokevirtual idx, 3)) (hci : gCl[ci]? = some (Cn, T, N)) (hr : oIs [ci] r S = true) (hM : gMet l D K y (wsW_ y bytes maxL rt h9) fr lo (va_rf r :: As) S out S1) (hw : GoodIn lw_all (wsV own idx Cn y (wsW_ y bytes maxL rt h9)))
    (hd : y.cls = Cn ∧ y.cls ≠ "java/lang/invoke/MethodHandle" ∧ y.cls ≠ "java/lang/invoke/VarHandle" ∧ (parseMethodDescriptor y.desc).map (fun d => d.parameters.length) = some n) (hR : fr + 1 ≤ R.frames ∧ 8 + (maxL + 11) + lo ≤ R.locals) (hn : As.length = n) (hst : st = As.reverse ++ va_rf r :: rest) (hc : (rest.map fun v => v.category).sum ≤ 8) :
    gRun p l e R s m args below meth c D K nL u0 S pc lv st rest (va_rf r :: As).toArray out S1 := by
  intro H locs ls hH hS hu hl
  obtain ⟨b, rfl, hrec⟩ := gSplit C hH hci hr
  exact vx_runVX (n := n) ⟨C.1, C.2.1, C.2.2.1, C.2.2.2.1, C.2.2.2.2.2.2.2.1⟩ hM (vx_cwVW n C.2.2.2.2.2.2.2.1 hw rfl rfl rfl hd hR) ⟨gBlind, hrec, gPre_of C hH hS _⟩ rfl hn hl.1 hst (g_mr st hc) d (g_fit C hH hS hu)
/-- a static method with handlers -/
theorem g_runSX (C : gCx p l R s m args meth c D K own cc nL ret hh nm u0) {h9 : List (Nat × Nat × Nat × Nat)} (d : decode cc pc = .ok (.invokestatic idx, 3)) (hM : gMet l D K y (wsW_ y bytes maxL rt h9) fr lo As S out S1) (hw : GoodIn lw_all (va_wsS own idx y (wsW_ y bytes maxL rt h9)))
    (hd : y.cls ≠ "java/lang/invoke/MethodHandle" ∧ y.cls ≠ "java/lang/invoke/VarHandle" ∧ (parseMethodDescriptor y.desc).map (fun d => d.parameters.length) = some n) (hR : fr + 1 ≤ R.frames ∧ 8 + (maxL + 11) + lo ≤ R.locals) (hn : As.length = n) (hst : st = As.reverse ++ rest) (hc : (rest.map fun v => v.category).sum ≤ 8) :
    gRun p l e R s m args below meth c D K nL u0 S pc lv st rest As.toArray out S1 := fun H locs ls hH hS hu hl =>
  vx_runSX (n := n) ⟨C.1, C.2.1, C.2.2.1, C.2.2.2.1, C.2.2.2.2.2.2.2.1⟩ hM (vx_cwSW n C.2.2.2.2.2.2.2.1 hw rfl rfl rfl hd hR) ⟨gBlind, gPre_of C hH hS As⟩ rfl hn hl.1 hst (g_mr st hc) d (g_fit C hH hS hu)
/-- behind a call: an answer goes on, a thrown cell too -/
theorem g_afterX {a : Array Value} (hrun : gRun p l e R s m args below meth c D K nL u0 S pc lv st rest a out S1)
    (kk : ∀ v, out = .inl v → gW p l e R s m args below meth c D K nL u0 Q S1 (pc + 3) lv (v.toList ++ rest))
    (kx : ∀ ci q, out = .inr (ci, q) → gWx p l e R s m args below meth c D K nL u0 Q S1 pc lv rest q ci) : gW p l e R s m args below meth c D K nL u0 Q S pc lv st := by
  intro H locs ls hH hS hu hl T hT X
  have fin : ∀ (st₀ t T' : State) (L : List Loc), st₀.heap = H → T'.heap = t.heap → gH D K S1 t.heap → S.2.2.1 ≤ S1.2.2.1 → va_F (gA K) st₀ t → (∀ q ∈ L, gA K q.base) → gH D K S1 T'.heap ∧ va_S (gA K) s.heap T'.heap (locs ++ L) ∧ u0 ≤ S1.2.2.1 ∧ S.2.1 - s.heap.size + (S1.2.1 - S.2.1) = S1.2.1 - s.heap.size ∧ S.2.2.1 - u0 + (S1.2.2.1 - S.2.2.1) = S1.2.2.1 - u0 := by
    intro st₀ t T' L h0 e1 hG hu1 hF hL
    have hz : H.size ≤ T'.heap.size := by rw [e1, ← h0]; exact hF.1
    have e3 : T'.heap.size = S1.2.1 := by rw [e1]; exact hG.2.1
    have h1 := gSz hH hS
    have h2 := hH.2.1
    refine ⟨by rw [e1]; exact hG, ⟨Nat.le_trans hS.1 hz, fun q h1 h2 => ?_, fun q hq => ?_⟩, Nat.le_trans hu hu1, by omega, by omega⟩
    · rw [e1, hF.2 q (by rw [h0]; exact Nat.lt_of_lt_of_le h1 hS.1) h2, h0]
      exact hS.2.1 q h1 h2
    · rcases List.mem_append.mp hq with h | h
      · exact hS.2.2 q h
      · exact hL q h
  rcases hrun H locs ls hH hS hu hl T hT X with ⟨v, st₀, t, T', L, h0, X', hL, e1, e2, ⟨⟨v2, ho, hv⟩, hG, hu1, hF⟩, stp⟩ | ⟨q, st₀, t, T', L, E, ce, h0, X', hL, e1, e2, ⟨⟨ci, r, ho, hr, hE⟩, hG, hu1, hF⟩, hce, hcv, hcl, stp⟩
  · cases hv
    obtain ⟨g1, g2, g3, g4, g5⟩ := fin st₀ t T' L h0 e1 hG hu1 hF hL
    rw [g4, g5] at X'
    obtain ⟨t2, a1, b1⟩ := kk v ho T'.heap _ ls g1 g2 g3 hl T' rfl X'
    exact ⟨t2, stp t2 a1, b1⟩
  · obtain ⟨g1, g2, g3, g4, g5⟩ := fin st₀ t T' L h0 e1 hG hu1 hF hL
    rw [g4, g5] at X'
    obtain ⟨t2, a1, b1⟩ := kx ci q ho T'.heap _ ls r ce g1 g2 g3 hl hr (by rw [e1]; exact hce) hcv (by rw [hE]; exact hcl) T' rfl X'
    exact ⟨t2, stp.trans a1, b1⟩
/-- .. of a method that doesn't throw -/
theorem g_after {a : Array Value} {v : Option Value} (hrun : gRun p l e R s m args below meth c D K nL u0 S pc lv st rest a (.inl v) S1)
    (kk : gW p l e R s m args below meth c D K nL u0 Q S1 (pc + 3) lv (v.toList ++ rest)) : gW p l e R s m args below meth c D K nL u0 Q S pc lv st :=
  g_afterX hrun (fun v2 h => by cases h; exact kk) (fun _ _ h => by cases h)
end KINDS
end GCA
